set_option maxRecDepth 100000
def l_X17_image_2 (a0 : Nat) : Nat → Int32 → hM (Unit)
  | 0, _ => mfail
  | n + 1, i1 => mi ((122 : Int32) ≤ i1) (mret ()) (mb (gR a0 15 29) fun x1 => mb (gR a0 15 0) fun x2 => mb (aI 1 x2 i1) fun x3 => mb (sI 1 x1 i1 x3) fun _ => l_X17_image_2 a0 n (i1 + (1 : Int32)))
def l_X17_image_28 (a0 : Nat) : Nat → Int32 → hM (Unit)
  | 0, _ => mfail
  | n + 1, i1 => mi ((732 : Int32) ≤ i1) (mret ()) (mb (gR a0 15 30) fun x7 => mb (gR a0 15 27) fun x8 => mb (aI 1 x8 i1) fun x9 => mb (sI 1 x7 i1 x9) fun _ => l_X17_image_28 a0 n (i1 + (1 : Int32)))
def f_X17_image (a0 : Nat) : hM Int32 :=
  mb (l_X17_image_2 a0 FU (0 : Int32)) fun x5 => mb (l_X17_image_28 a0 FU (0 : Int32)) fun x11 => mb (gI a0 15 28) fun x13 => mb (pF a0 15 31 (.int x13)) fun _ => mret (1 : Int32)
theorem nd_X17_image : yX17_image.cls ≠ "java/lang/invoke/MethodHandle" ∧ yX17_image.cls ≠ "java/lang/invoke/VarHandle" ∧ (parseMethodDescriptor yX17_image.desc).map (fun d => d.parameters.length) = some 0 := by decide +kernel
set_option maxHeartbeats 4000000 in
theorem ct_X17_image (l : Launch) (a0 : Nat) : CT l yX17_image cX17_image 2 (some .int) 0 0 rvI [.ref a0] (f_X17_image a0) := by
  refine CT_of (ls := [(0, .ref a0)]) (by decide) (Nat.le_of_ble_eq_true rfl) rfl ?_
  intro X h he z hX hf C E hnm hh
  have hl := hle.rf he
  subst hX
  have L2 : ∀ (a0 : Nat) (n : Nat) (i1 : Int32) (h h1 : Hp) (o : Unit), (l_X17_image_2 a0 n i1).1 h = some (o, h1) → hle h1 he → V X h1 26 [(0, .ref a0)] [] → V X h 2 [(0, .ref a0), (1, .int i1)] [] := by
    intro a0 n
    induction n with
    | zero => intro i1 h h1 o hf; exact mfail_inv hf
    | succ n ih =>
      intro i1 h h1 o hf hl J
      rw [l_X17_image_2] at hf
      refine v_iload_n C 1 dX17_image_2 rfl rfl ?_
      refine v_bipush (x := 122) C dX17_image_3 (by decide) ?_
      refine v_icmp_ge C hf (tgt := 26) dX17_image_5 (by decide) (fun c5 hf => ?_) (fun c5 hf => ?_)
      · obtain ⟨e1, rfl⟩ := mret_inv hf
        subst e1
        exact v_sub (ls' := _) [0] rfl J
      · refine v_aload_n C 0 dX17_image_8 rfl rfl ?_
        refine v_gR (Cn := RX17) (T := TX17) (N := 37) C hf in_X17 rfl (by decide) q1833 rfl dX17_image_9 (fun x1 hf => ?_)
        refine v_iload_n C 1 dX17_image_12 rfl rfl ?_
        refine v_aload_n C 0 dX17_image_13 rfl rfl ?_
        refine v_gR (Cn := RX17) (T := TX17) (N := 37) C hf in_X17 rfl (by decide) q1804 rfl dX17_image_14 (fun x2 hf => ?_)
        refine v_iload_n C 1 dX17_image_17 rfl rfl ?_
        refine v_iaload C hf dX17_image_18 (fun x3 hf => ?_)
        refine v_iastore C hf dX17_image_19 (fun h4 hf => ?_)
        refine v_iinc (ls' := [(1, _), (0, _)]) (y := i1 + (1 : Int32)) C 1 dX17_image_20 rfl rfl (by decide) rfl ?_
        refine v_goto (tgt := 2) C dX17_image_23 (by decide) ?_
        refine v_sub (ls' := _) [1, 0] rfl (ih (i1 + (1 : Int32)) _ _ _ hf hl J)
  have L28 : ∀ (a0 : Nat) (n : Nat) (i1 : Int32) (h h1 : Hp) (o : Unit), (l_X17_image_28 a0 n i1).1 h = some (o, h1) → hle h1 he → V X h1 53 [(0, .ref a0)] [] → V X h 28 [(0, .ref a0), (1, .int i1)] [] := by
    intro a0 n
    induction n with
    | zero => intro i1 h h1 o hf; exact mfail_inv hf
    | succ n ih =>
      intro i1 h h1 o hf hl J
      rw [l_X17_image_28] at hf
      refine v_iload_n C 1 dX17_image_28 rfl rfl ?_
      refine v_sipush (x := 732) C dX17_image_29 (by decide) ?_
      refine v_icmp_ge C hf (tgt := 53) dX17_image_32 (by decide) (fun c32 hf => ?_) (fun c32 hf => ?_)
      · obtain ⟨e1, rfl⟩ := mret_inv hf
        subst e1
        exact v_sub (ls' := _) [0] rfl J
      · refine v_aload_n C 0 dX17_image_35 rfl rfl ?_
        refine v_gR (Cn := RX17) (T := TX17) (N := 37) C hf in_X17 rfl (by decide) q1834 rfl dX17_image_36 (fun x7 hf => ?_)
        refine v_iload_n C 1 dX17_image_39 rfl rfl ?_
        refine v_aload_n C 0 dX17_image_40 rfl rfl ?_
        refine v_gR (Cn := RX17) (T := TX17) (N := 37) C hf in_X17 rfl (by decide) q1831 rfl dX17_image_41 (fun x8 hf => ?_)
        refine v_iload_n C 1 dX17_image_44 rfl rfl ?_
        refine v_iaload C hf dX17_image_45 (fun x9 hf => ?_)
        refine v_iastore C hf dX17_image_46 (fun h10 hf => ?_)
        refine v_iinc (ls' := [(1, _), (0, _)]) (y := i1 + (1 : Int32)) C 1 dX17_image_47 rfl rfl (by decide) rfl ?_
        refine v_goto (tgt := 28) C dX17_image_50 (by decide) ?_
        refine v_sub (ls' := _) [1, 0] rfl (ih (i1 + (1 : Int32)) _ _ _ hf hl J)
  unfold f_X17_image at hf
  refine v_iconst (x := 0) C dX17_image_0 (by decide) ?_
  refine v_istore_n (ls' := [(1, _), (0, _)]) C dX17_image_1 rfl (by decide) rfl ?_
  obtain ⟨x5, h6, eh6, hf, hlh6⟩ := mb_inv hf hl
  refine v_sub (ls' := _) [1, 0] rfl (L2 a0 FU (0 : Int32) _ _ _ eh6 hlh6 ?_)
  refine v_iconst (x := 0) C dX17_image_26 (by decide) ?_
  refine v_istore_n (ls' := [(1, _), (0, _)]) C dX17_image_27 rfl (by decide) rfl ?_
  obtain ⟨x11, h12, eh12, hf, hlh12⟩ := mb_inv hf hl
  refine v_sub (ls' := _) [1, 0] rfl (L28 a0 FU (0 : Int32) _ _ _ eh12 hlh12 ?_)
  refine v_aload_n C 0 dX17_image_53 rfl rfl ?_
  refine v_aload_n C 0 dX17_image_54 rfl rfl ?_
  refine v_gI (Cn := RX17) (T := TX17) (N := 37) C hf in_X17 rfl (by decide) q1832 rfl dX17_image_55 (fun x13 hf => ?_)
  refine v_putv (Cn := RX17) (T := TX17) (N := 37) (ty0 := tyX17) C hf in_X17 tyX17_ok nmX17 rfl (by decide) q1835 rfl rfl rfl rfl dX17_image_58 (fun h14 hf => ?_)
  refine v_iconst (x := 1) C dX17_image_61 (by decide) ?_
  exact v_iret C E hf dX17_image_62
def l_X17_restore_12 (a0 : Nat) : Nat → Int32 → hM (Unit)
  | 0, _ => mfail
  | n + 1, i1 => mi ((122 : Int32) ≤ i1) (mret ()) (mb (gR a0 15 0) fun x2 => mb (gR a0 15 29) fun x3 => mb (aI 1 x3 i1) fun x4 => mb (sI 1 x2 i1 x4) fun _ => l_X17_restore_12 a0 n (i1 + (1 : Int32)))
def l_X17_restore_38 (a0 : Nat) : Nat → Int32 → hM (Unit)
  | 0, _ => mfail
  | n + 1, i1 => mi ((732 : Int32) ≤ i1) (mret ()) (mb (gR a0 15 27) fun x8 => mb (gR a0 15 30) fun x9 => mb (aI 1 x9 i1) fun x10 => mb (sI 1 x8 i1 x10) fun _ => l_X17_restore_38 a0 n (i1 + (1 : Int32)))
def f_X17_restore (a0 : Nat) : hM Int32 :=
  mb (gI a0 15 31) fun x1 => mi (0 ≤ x1) (mb (l_X17_restore_12 a0 FU (0 : Int32)) fun x6 => mb (l_X17_restore_38 a0 FU (0 : Int32)) fun x12 => mb (gI a0 15 31) fun x14 => mb (pF a0 15 28 (.int x14)) fun _ => mret (1 : Int32)) (mret (-4 : Int32))
theorem nd_X17_restore : yX17_restore.cls ≠ "java/lang/invoke/MethodHandle" ∧ yX17_restore.cls ≠ "java/lang/invoke/VarHandle" ∧ (parseMethodDescriptor yX17_restore.desc).map (fun d => d.parameters.length) = some 0 := by decide +kernel
set_option maxHeartbeats 4000000 in
theorem ct_X17_restore (l : Launch) (a0 : Nat) : CT l yX17_restore cX17_restore 2 (some .int) 0 0 rvI [.ref a0] (f_X17_restore a0) := by
  refine CT_of (ls := [(0, .ref a0)]) (by decide) (Nat.le_of_ble_eq_true rfl) rfl ?_
  intro X h he z hX hf C E hnm hh
  have hl := hle.rf he
  subst hX
  have L12 : ∀ (a0 : Nat) (n : Nat) (i1 : Int32) (h h1 : Hp) (o : Unit), (l_X17_restore_12 a0 n i1).1 h = some (o, h1) → hle h1 he → V X h1 36 [(0, .ref a0)] [] → V X h 12 [(0, .ref a0), (1, .int i1)] [] := by
    intro a0 n
    induction n with
    | zero => intro i1 h h1 o hf; exact mfail_inv hf
    | succ n ih =>
      intro i1 h h1 o hf hl J
      rw [l_X17_restore_12] at hf
      refine v_iload_n C 1 dX17_restore_12 rfl rfl ?_
      refine v_bipush (x := 122) C dX17_restore_13 (by decide) ?_
      refine v_icmp_ge C hf (tgt := 36) dX17_restore_15 (by decide) (fun c15 hf => ?_) (fun c15 hf => ?_)
      · obtain ⟨e1, rfl⟩ := mret_inv hf
        subst e1
        exact v_sub (ls' := _) [0] rfl J
      · refine v_aload_n C 0 dX17_restore_18 rfl rfl ?_
        refine v_gR (Cn := RX17) (T := TX17) (N := 37) C hf in_X17 rfl (by decide) q1804 rfl dX17_restore_19 (fun x2 hf => ?_)
        refine v_iload_n C 1 dX17_restore_22 rfl rfl ?_
        refine v_aload_n C 0 dX17_restore_23 rfl rfl ?_
        refine v_gR (Cn := RX17) (T := TX17) (N := 37) C hf in_X17 rfl (by decide) q1833 rfl dX17_restore_24 (fun x3 hf => ?_)
        refine v_iload_n C 1 dX17_restore_27 rfl rfl ?_
        refine v_iaload C hf dX17_restore_28 (fun x4 hf => ?_)
        refine v_iastore C hf dX17_restore_29 (fun h5 hf => ?_)
        refine v_iinc (ls' := [(1, _), (0, _)]) (y := i1 + (1 : Int32)) C 1 dX17_restore_30 rfl rfl (by decide) rfl ?_
        refine v_goto (tgt := 12) C dX17_restore_33 (by decide) ?_
        refine v_sub (ls' := _) [1, 0] rfl (ih (i1 + (1 : Int32)) _ _ _ hf hl J)
  have L38 : ∀ (a0 : Nat) (n : Nat) (i1 : Int32) (h h1 : Hp) (o : Unit), (l_X17_restore_38 a0 n i1).1 h = some (o, h1) → hle h1 he → V X h1 63 [(0, .ref a0)] [] → V X h 38 [(0, .ref a0), (1, .int i1)] [] := by
    intro a0 n
    induction n with
    | zero => intro i1 h h1 o hf; exact mfail_inv hf
    | succ n ih =>
      intro i1 h h1 o hf hl J
      rw [l_X17_restore_38] at hf
      refine v_iload_n C 1 dX17_restore_38 rfl rfl ?_
      refine v_sipush (x := 732) C dX17_restore_39 (by decide) ?_
      refine v_icmp_ge C hf (tgt := 63) dX17_restore_42 (by decide) (fun c42 hf => ?_) (fun c42 hf => ?_)
      · obtain ⟨e1, rfl⟩ := mret_inv hf
        subst e1
        exact v_sub (ls' := _) [0] rfl J
      · refine v_aload_n C 0 dX17_restore_45 rfl rfl ?_
        refine v_gR (Cn := RX17) (T := TX17) (N := 37) C hf in_X17 rfl (by decide) q1831 rfl dX17_restore_46 (fun x8 hf => ?_)
        refine v_iload_n C 1 dX17_restore_49 rfl rfl ?_
        refine v_aload_n C 0 dX17_restore_50 rfl rfl ?_
        refine v_gR (Cn := RX17) (T := TX17) (N := 37) C hf in_X17 rfl (by decide) q1834 rfl dX17_restore_51 (fun x9 hf => ?_)
        refine v_iload_n C 1 dX17_restore_54 rfl rfl ?_
        refine v_iaload C hf dX17_restore_55 (fun x10 hf => ?_)
        refine v_iastore C hf dX17_restore_56 (fun h11 hf => ?_)
        refine v_iinc (ls' := [(1, _), (0, _)]) (y := i1 + (1 : Int32)) C 1 dX17_restore_57 rfl rfl (by decide) rfl ?_
        refine v_goto (tgt := 38) C dX17_restore_60 (by decide) ?_
        refine v_sub (ls' := _) [1, 0] rfl (ih (i1 + (1 : Int32)) _ _ _ hf hl J)
  unfold f_X17_restore at hf
  refine v_aload_n C 0 dX17_restore_0 rfl rfl ?_
  refine v_gI (Cn := RX17) (T := TX17) (N := 37) C hf in_X17 rfl (by decide) q1835 rfl dX17_restore_1 (fun x1 hf => ?_)
  refine v_if_ge C hf (tgt := 10) dX17_restore_4 (by decide) (fun c4 hf => ?_) (fun c4 hf => ?_)
  · refine v_iconst (x := 0) C dX17_restore_10 (by decide) ?_
    refine v_istore_n (ls' := [(1, _), (0, _)]) C dX17_restore_11 rfl (by decide) rfl ?_
    obtain ⟨x6, h7, eh7, hf, hlh7⟩ := mb_inv hf hl
    refine v_sub (ls' := _) [1, 0] rfl (L12 a0 FU (0 : Int32) _ _ _ eh7 hlh7 ?_)
    refine v_iconst (x := 0) C dX17_restore_36 (by decide) ?_
    refine v_istore_n (ls' := [(1, _), (0, _)]) C dX17_restore_37 rfl (by decide) rfl ?_
    obtain ⟨x12, h13, eh13, hf, hlh13⟩ := mb_inv hf hl
    refine v_sub (ls' := _) [1, 0] rfl (L38 a0 FU (0 : Int32) _ _ _ eh13 hlh13 ?_)
    refine v_aload_n C 0 dX17_restore_63 rfl rfl ?_
    refine v_aload_n C 0 dX17_restore_64 rfl rfl ?_
    refine v_gI (Cn := RX17) (T := TX17) (N := 37) C hf in_X17 rfl (by decide) q1835 rfl dX17_restore_65 (fun x14 hf => ?_)
    refine v_putv (Cn := RX17) (T := TX17) (N := 37) (ty0 := tyX17) C hf in_X17 tyX17_ok nmX17 rfl (by decide) q1832 rfl rfl rfl rfl dX17_restore_68 (fun h15 hf => ?_)
    refine v_iconst (x := 1) C dX17_restore_71 (by decide) ?_
    exact v_iret C E hf dX17_restore_72
  · refine v_bipush (x := (-4)) C dX17_restore_7 (by decide) ?_
    exact v_iret C E hf dX17_restore_9
def f_X17_isSheet (i0 : Int32) : hM Int32 :=
  mb (f_X17_in i0.toInt64 (0 : Int64) (3 : Int64)) fun x1 => mrt .boolean x1
theorem nd_X17_isSheet : yX17_isSheet.cls ≠ "java/lang/invoke/MethodHandle" ∧ yX17_isSheet.cls ≠ "java/lang/invoke/VarHandle" ∧ (parseMethodDescriptor yX17_isSheet.desc).map (fun d => d.parameters.length) = some 1 := by decide +kernel
set_option maxHeartbeats 4000000 in
theorem ct_X17_isSheet (l : Launch) (i0 : Int32) : CT l yX17_isSheet cX17_isSheet 1 (some .boolean) 1 25 rvI [.int i0] (f_X17_isSheet i0) := by
  refine CT_of (ls := [(0, .int i0)]) (by decide) (Nat.le_of_ble_eq_true rfl) rfl ?_
  intro X h he z hX hf C E hnm hh
  have hl := hle.rf he
  subst hX
  unfold f_X17_isSheet at hf
  refine v_iload_n C 0 dX17_isSheet_0 rfl rfl ?_
  refine v_i2l C dX17_isSheet_1 ?_
  refine v_lconst (x := 0) C dX17_isSheet_2 (by decide) ?_
  refine v_ldc2 (x := 3) C q2067 dX17_isSheet_3 ?_
  refine v_callS (stk := fun b => .int b :: []) C (ct_X17_in _ i0.toInt64 (0 : Int64) (3 : Int64)) nd_X17_in rfl (Nat.le_of_ble_eq_true rfl) (Nat.le_of_ble_eq_true rfl) [] (Nat.le_of_ble_eq_true rfl) (fun _ => rfl) rfl q1779 q1780 q127 q1781 hf hl dX17_isSheet_6 (fun x1 h2 hf => ?_)
  exact v_zret C E hf dX17_isSheet_9
def f_X17_drop (a0 : Nat) (i1 : Int32) : hM Int32 :=
  mb (f_X17_isSheet i1) fun x1 => mi (¬ x1 = 0) (mb (gR a0 15 32) fun x3 => mb (aI 1 x3 i1) fun x4 => mi (0 ≤ x4) (mb (gR a0 15 32) fun x5 => mb (sI 1 x5 i1 (-1 : Int32)) fun _ => mb (gR a0 15 33) fun x7 => mb (aI 1 x7 i1) fun x8 => mret x8) (mret (-11 : Int32))) (mret (-1 : Int32))
theorem nd_X17_drop : yX17_drop.cls ≠ "java/lang/invoke/MethodHandle" ∧ yX17_drop.cls ≠ "java/lang/invoke/VarHandle" ∧ (parseMethodDescriptor yX17_drop.desc).map (fun d => d.parameters.length) = some 1 := by decide +kernel
set_option maxHeartbeats 4000000 in
theorem ct_X17_drop (l : Launch) (a0 : Nat) (i1 : Int32) : CT l yX17_drop cX17_drop 2 (some .int) 2 45 rvI [.ref a0, .int i1] (f_X17_drop a0 i1) := by
  refine CT_of (ls := [(0, .ref a0), (1, .int i1)]) (by decide) (Nat.le_of_ble_eq_true rfl) rfl ?_
  intro X h he z hX hf C E hnm hh
  have hl := hle.rf he
  subst hX
  unfold f_X17_drop at hf
  refine v_iload_n C 1 dX17_drop_0 rfl rfl ?_
  refine v_callS (stk := fun b => .int b :: []) C (ct_X17_isSheet _ i1) nd_X17_isSheet rfl (Nat.le_of_ble_eq_true rfl) (Nat.le_of_ble_eq_true rfl) [] (Nat.le_of_ble_eq_true rfl) (fun _ => rfl) rfl q2284 q2285 q127 q2286 hf hl dX17_drop_1 (fun x1 h2 hf => ?_)
  refine v_if_ne C hf (tgt := 9) dX17_drop_4 (by decide) (fun c4 hf => ?_) (fun c4 hf => ?_)
  · refine v_aload_n C 0 dX17_drop_9 rfl rfl ?_
    refine v_gR (Cn := RX17) (T := TX17) (N := 37) C hf in_X17 rfl (by decide) q1836 rfl dX17_drop_10 (fun x3 hf => ?_)
    refine v_iload_n C 1 dX17_drop_13 rfl rfl ?_
    refine v_iaload C hf dX17_drop_14 (fun x4 hf => ?_)
    refine v_if_ge C hf (tgt := 21) dX17_drop_15 (by decide) (fun c15 hf => ?_) (fun c15 hf => ?_)
    · refine v_aload_n C 0 dX17_drop_21 rfl rfl ?_
      refine v_gR (Cn := RX17) (T := TX17) (N := 37) C hf in_X17 rfl (by decide) q1836 rfl dX17_drop_22 (fun x5 hf => ?_)
      refine v_iload_n C 1 dX17_drop_25 rfl rfl ?_
      refine v_iconst (x := (-1)) C dX17_drop_26 (by decide) ?_
      refine v_iastore C hf dX17_drop_27 (fun h6 hf => ?_)
      refine v_aload_n C 0 dX17_drop_28 rfl rfl ?_
      refine v_gR (Cn := RX17) (T := TX17) (N := 37) C hf in_X17 rfl (by decide) q1837 rfl dX17_drop_29 (fun x7 hf => ?_)
      refine v_iload_n C 1 dX17_drop_32 rfl rfl ?_
      refine v_iaload C hf dX17_drop_33 (fun x8 hf => ?_)
      exact v_iret C E hf dX17_drop_34
    · refine v_bipush (x := (-11)) C dX17_drop_18 (by decide) ?_
      exact v_iret C E hf dX17_drop_20
  · refine v_iconst (x := (-1)) C dX17_drop_7 (by decide) ?_
    exact v_iret C E hf dX17_drop_8
def f_X17_why (a0 : Nat) (i1 : Int32) (i2 : Int32) (i3 : Int32) (i4 : Int32) : hM Int32 :=
  mb (gR a0 15 32) fun x1 => mb (aI 1 x1 i1) fun x2 => mi (0 ≤ x2) (mb (gR a0 15 32) fun x3 => mb (aI 1 x3 i1) fun x4 => mi (x4 = i2) (mb (mi (i3 < 0) (mret (-13 : Int32)) (mb (gR a0 15 33) fun x7 => mb (aI 1 x7 i1) fun x8 => mi (i4 ≤ (x8 - i3)) (mret (0 : Int32)) (mret (-13 : Int32)))) fun x5 => mret x5) (mret (-12 : Int32))) (mret (-11 : Int32))
theorem nd_X17_why : yX17_why.cls ≠ "java/lang/invoke/MethodHandle" ∧ yX17_why.cls ≠ "java/lang/invoke/VarHandle" ∧ (parseMethodDescriptor yX17_why.desc).map (fun d => d.parameters.length) = some 4 := by decide +kernel
set_option maxHeartbeats 4000000 in
theorem ct_X17_why (l : Launch) (a0 : Nat) (i1 : Int32) (i2 : Int32) (i3 : Int32) (i4 : Int32) : CT l yX17_why cX17_why 5 (some .int) 0 0 rvI [.ref a0, .int i1, .int i2, .int i3, .int i4] (f_X17_why a0 i1 i2 i3 i4) := by
  refine CT_of (ls := [(0, .ref a0), (1, .int i1), (2, .int i2), (3, .int i3), (4, .int i4)]) (by decide) (Nat.le_of_ble_eq_true rfl) rfl ?_
  intro X h he z hX hf C E hnm hh
  have hl := hle.rf he
  subst hX
  unfold f_X17_why at hf
  refine v_aload_n C 0 dX17_why_0 rfl rfl ?_
  refine v_gR (Cn := RX17) (T := TX17) (N := 37) C hf in_X17 rfl (by decide) q1836 rfl dX17_why_1 (fun x1 hf => ?_)
  refine v_iload_n C 1 dX17_why_4 rfl rfl ?_
  refine v_iaload C hf dX17_why_5 (fun x2 hf => ?_)
  refine v_if_ge C hf (tgt := 12) dX17_why_6 (by decide) (fun c6 hf => ?_) (fun c6 hf => ?_)
  · refine v_aload_n C 0 dX17_why_12 rfl rfl ?_
    refine v_gR (Cn := RX17) (T := TX17) (N := 37) C hf in_X17 rfl (by decide) q1836 rfl dX17_why_13 (fun x3 hf => ?_)
    refine v_iload_n C 1 dX17_why_16 rfl rfl ?_
    refine v_iaload C hf dX17_why_17 (fun x4 hf => ?_)
    refine v_iload_n C 2 dX17_why_18 rfl rfl ?_
    refine v_icmp_eq C hf (tgt := 25) dX17_why_19 (by decide) (fun c19 hf => ?_) (fun c19 hf => ?_)
    · refine v_iload_n C 3 dX17_why_25 rfl rfl ?_
      obtain ⟨x5, h6, hAh6, hf, hlh6⟩ := mb_inv hf hl
      refine v_cut (h1 := h6) (pc1 := 48) (ls1 := []) (st1 := [.int x5]) ?_ (fun Jh6 => ?_)
      · clear hAh6 hlh6
        exact v_iret C E hf dX17_why_48
      · clear hf
        have hf := hAh6
        have hl := hlh6
        refine v_if_lt C hf (tgt := 42) dX17_why_26 (by decide) (fun c26 hf => ?_) (fun c26 hf => ?_)
        · refine v_bipush (x := (-13)) C dX17_why_42 (by decide) ?_
          refine v_goto (tgt := 48) C dX17_why_44 (by decide) ?_
          obtain ⟨e1, rfl⟩ := mret_inv hf
          subst e1
          exact v_sub (ls' := _) [] rfl Jh6
        · refine v_iload C 4 dX17_why_29 rfl ?_
          refine v_aload_n C 0 dX17_why_31 rfl rfl ?_
          refine v_gR (Cn := RX17) (T := TX17) (N := 37) C hf in_X17 rfl (by decide) q1837 rfl dX17_why_32 (fun x7 hf => ?_)
          refine v_iload_n C 1 dX17_why_35 rfl rfl ?_
          refine v_iaload C hf dX17_why_36 (fun x8 hf => ?_)
          refine v_iload_n C 3 dX17_why_37 rfl rfl ?_
          refine v_isub C dX17_why_38 ?_
          refine v_icmp_le C hf (tgt := 47) dX17_why_39 (by decide) (fun c39 hf => ?_) (fun c39 hf => ?_)
          · refine v_iconst (x := 0) C dX17_why_47 (by decide) ?_
            obtain ⟨e1, rfl⟩ := mret_inv hf
            subst e1
            exact v_sub (ls' := _) [] rfl Jh6
          · refine v_bipush (x := (-13)) C dX17_why_42 (by decide) ?_
            refine v_goto (tgt := 48) C dX17_why_44 (by decide) ?_
            obtain ⟨e1, rfl⟩ := mret_inv hf
            subst e1
            exact v_sub (ls' := _) [] rfl Jh6
    · refine v_bipush (x := (-12)) C dX17_why_22 (by decide) ?_
      exact v_iret C E hf dX17_why_24
  · refine v_bipush (x := (-11)) C dX17_why_9 (by decide) ?_
    exact v_iret C E hf dX17_why_11
def f_X17_cut (l0 : Int64) (i2 : Int32) : hM Int64 :=
  mb (mi (¬ i2 = 0) (mi (¬ i2 = (1 : Int32)) (mi (¬ i2 = (2 : Int32)) (mret l0) (mret l0.toInt32.toInt64)) (mret l0.toInt32.toInt16.toInt32.toInt64)) (mret l0.toInt32.toInt8.toInt32.toInt64)) fun x1 => mret x1
theorem nd_X17_cut : yX17_cut.cls ≠ "java/lang/invoke/MethodHandle" ∧ yX17_cut.cls ≠ "java/lang/invoke/VarHandle" ∧ (parseMethodDescriptor yX17_cut.desc).map (fun d => d.parameters.length) = some 2 := by decide +kernel
set_option maxHeartbeats 4000000 in
theorem ct_X17_cut (l : Launch) (l0 : Int64) (i2 : Int32) : CT l yX17_cut cX17_cut 3 (some .long) 0 0 rvL [.long l0, .int i2] (f_X17_cut l0 i2) := by
  refine CT_of (ls := [(0, .long l0), (2, .int i2)]) (by decide) (Nat.le_of_ble_eq_true rfl) rfl ?_
  intro X h he z hX hf C E hnm hh
  have hl := hle.rf he
  subst hX
  unfold f_X17_cut at hf
  refine v_iload_n C 1 dX17_cut_0 rfl rfl ?_
  obtain ⟨x1, h2, hAh2, hf, hlh2⟩ := mb_inv hf hl
  refine v_cut (h1 := h2) (pc1 := 35) (ls1 := []) (st1 := [.long x1]) ?_ (fun Jh2 => ?_)
  · clear hAh2 hlh2
    exact v_lret C E hf dX17_cut_35
  · clear hf
    have hf := hAh2
    have hl := hlh2
    refine v_if_ne C hf (tgt := 11) dX17_cut_1 (by decide) (fun c1 hf => ?_) (fun c1 hf => ?_)
    · refine v_iload_n C 1 dX17_cut_11 rfl rfl ?_
      refine v_iconst (x := 1) C dX17_cut_12 (by decide) ?_
      refine v_icmp_ne C hf (tgt := 23) dX17_cut_13 (by decide) (fun c13 hf => ?_) (fun c13 hf => ?_)
      · refine v_iload_n C 1 dX17_cut_23 rfl rfl ?_
        refine v_iconst (x := 2) C dX17_cut_24 (by decide) ?_
        refine v_icmp_ne C hf (tgt := 34) dX17_cut_25 (by decide) (fun c25 hf => ?_) (fun c25 hf => ?_)
        · refine v_lload_n C 0 dX17_cut_34 rfl rfl ?_
          obtain ⟨e1, rfl⟩ := mret_inv hf
          subst e1
          exact v_sub (ls' := _) [] rfl Jh2
        · refine v_lload_n C 0 dX17_cut_28 rfl rfl ?_
          refine v_l2i C dX17_cut_29 ?_
          refine v_i2l C dX17_cut_30 ?_
          refine v_goto (tgt := 35) C dX17_cut_31 (by decide) ?_
          obtain ⟨e1, rfl⟩ := mret_inv hf
          subst e1
          exact v_sub (ls' := _) [] rfl Jh2
      · refine v_lload_n C 0 dX17_cut_16 rfl rfl ?_
        refine v_l2i C dX17_cut_17 ?_
        refine v_i2s C dX17_cut_18 ?_
        refine v_i2l C dX17_cut_19 ?_
        refine v_goto (tgt := 35) C dX17_cut_20 (by decide) ?_
        obtain ⟨e1, rfl⟩ := mret_inv hf
        subst e1
        exact v_sub (ls' := _) [] rfl Jh2
    · refine v_lload_n C 0 dX17_cut_4 rfl rfl ?_
      refine v_l2i C dX17_cut_5 ?_
      refine v_i2b C dX17_cut_6 ?_
      refine v_i2l C dX17_cut_7 ?_
      refine v_goto (tgt := 35) C dX17_cut_8 (by decide) ?_
      obtain ⟨e1, rfl⟩ := mret_inv hf
      subst e1
      exact v_sub (ls' := _) [] rfl Jh2
def l_X17_copy_110 (a0 : Nat) (i1 : Int32) (i2 : Int32) (i3 : Int32) (i4 : Int32) (i5 : Int32) : Nat → Int32 → hM (Unit)
  | 0, _ => mfail
  | n + 1, i6 => mi (i5 ≤ i6) (mret ()) (mb (gR a0 15 35) fun x17 => mb (gR a0 15 34) fun x18 => mb (aL 5 x18 ((((32 : Int32) * i1) + i2) + i6)) fun x19 => mb (sL 5 x17 i6 x19) fun _ => l_X17_copy_110 a0 i1 i2 i3 i4 i5 n (i6 + (1 : Int32)))
def l_X17_copy_147 (a0 : Nat) (i3 : Int32) (i4 : Int32) (i5 : Int32) : Nat → Int32 → hM (Unit)
  | 0, _ => mfail
  | n + 1, i6 => mi (i5 ≤ i6) (mret ()) (mb (gR a0 15 34) fun x23 => mb (gR a0 15 35) fun x24 => mb (aL 5 x24 i6) fun x25 => mb (sL 5 x23 ((((32 : Int32) * i3) + i4) + i6) x25) fun _ => l_X17_copy_147 a0 i3 i4 i5 n (i6 + (1 : Int32)))
def f_X17_copy (a0 : Nat) (i1 : Int32) (i2 : Int32) (i3 : Int32) (i4 : Int32) (i5 : Int32) : hM Int32 :=
  mb (f_X17_isSheet i1) fun x1 => mi (x1 = 0) (mret (-1 : Int32)) (mb (f_X17_isSheet i3) fun x3 => mi (¬ x3 = 0) (mb (gR a0 15 32) fun x5 => mb (aI 1 x5 i1) fun x6 => mi (x6 < 0) (mret (-11 : Int32)) (mb (gR a0 15 32) fun x7 => mb (aI 1 x7 i3) fun x8 => mi (0 ≤ x8) (mb (gR a0 15 32) fun x9 => mb (aI 1 x9 i1) fun x10 => mb (gR a0 15 32) fun x11 => mb (aI 1 x11 i3) fun x12 => mi (x10 = x12) (mi (i5 < 0) (mret (-13 : Int32)) (mi (i2 < 0) (mret (-13 : Int32)) (mi (i4 < 0) (mret (-13 : Int32)) (mb (gR a0 15 33) fun x13 => mb (aI 1 x13 i1) fun x14 => mi (0 < (lg_cmp (i2.toInt64 + i5.toInt64) x14.toInt64)) (mret (-13 : Int32)) (mb (gR a0 15 33) fun x15 => mb (aI 1 x15 i3) fun x16 => mi ((lg_cmp (i4.toInt64 + i5.toInt64) x16.toInt64) ≤ 0) (mb (l_X17_copy_110 a0 i1 i2 i3 i4 i5 FU (0 : Int32)) fun x21 => mb (l_X17_copy_147 a0 i3 i4 i5 FU (0 : Int32)) fun x27 => mret i5) (mret (-13 : Int32))))))) (mret (-12 : Int32))) (mret (-11 : Int32)))) (mret (-1 : Int32)))
theorem nd_X17_copy : yX17_copy.cls ≠ "java/lang/invoke/MethodHandle" ∧ yX17_copy.cls ≠ "java/lang/invoke/VarHandle" ∧ (parseMethodDescriptor yX17_copy.desc).map (fun d => d.parameters.length) = some 5 := by decide +kernel
set_option maxHeartbeats 4000000 in
theorem ct_X17_copy (l : Launch) (a0 : Nat) (i1 : Int32) (i2 : Int32) (i3 : Int32) (i4 : Int32) (i5 : Int32) : CT l yX17_copy cX17_copy 7 (some .int) 2 45 rvI [.ref a0, .int i1, .int i2, .int i3, .int i4, .int i5] (f_X17_copy a0 i1 i2 i3 i4 i5) := by
  refine CT_of (ls := [(0, .ref a0), (1, .int i1), (2, .int i2), (3, .int i3), (4, .int i4), (5, .int i5)]) (by decide) (Nat.le_of_ble_eq_true rfl) rfl ?_
  intro X h he z hX hf C E hnm hh
  have hl := hle.rf he
  subst hX
  have L110 : ∀ (a0 : Nat) (i1 : Int32) (i2 : Int32) (i3 : Int32) (i4 : Int32) (i5 : Int32) (n : Nat) (i6 : Int32) (h h1 : Hp) (o : Unit), (l_X17_copy_110 a0 i1 i2 i3 i4 i5 n i6).1 h = some (o, h1) → hle h1 he → V X h1 144 [(0, .ref a0), (3, .int i3), (4, .int i4), (5, .int i5)] [] → V X h 110 [(0, .ref a0), (1, .int i1), (2, .int i2), (3, .int i3), (4, .int i4), (5, .int i5), (6, .int i6)] [] := by
    intro a0 i1 i2 i3 i4 i5 n
    induction n with
    | zero => intro i6 h h1 o hf; exact mfail_inv hf
    | succ n ih =>
      intro i6 h h1 o hf hl J
      rw [l_X17_copy_110] at hf
      refine v_iload C 6 dX17_copy_110 rfl ?_
      refine v_iload C 5 dX17_copy_112 rfl ?_
      refine v_icmp_ge C hf (tgt := 144) dX17_copy_114 (by decide) (fun c114 hf => ?_) (fun c114 hf => ?_)
      · obtain ⟨e1, rfl⟩ := mret_inv hf
        subst e1
        exact v_sub (ls' := _) [0, 3, 4, 5] rfl J
      · refine v_aload_n C 0 dX17_copy_117 rfl rfl ?_
        refine v_gR (Cn := RX17) (T := TX17) (N := 37) C hf in_X17 rfl (by decide) q1839 rfl dX17_copy_118 (fun x17 hf => ?_)
        refine v_iload C 6 dX17_copy_121 rfl ?_
        refine v_aload_n C 0 dX17_copy_123 rfl rfl ?_
        refine v_gR (Cn := RX17) (T := TX17) (N := 37) C hf in_X17 rfl (by decide) q1838 rfl dX17_copy_124 (fun x18 hf => ?_)
        refine v_bipush (x := 32) C dX17_copy_127 (by decide) ?_
        refine v_iload_n C 1 dX17_copy_129 rfl rfl ?_
        refine v_imul C dX17_copy_130 ?_
        refine v_iload_n C 2 dX17_copy_131 rfl rfl ?_
        refine v_iadd C dX17_copy_132 ?_
        refine v_iload C 6 dX17_copy_133 rfl ?_
        refine v_iadd C dX17_copy_135 ?_
        refine v_laload C hf dX17_copy_136 (fun x19 hf => ?_)
        refine v_lastore C hf dX17_copy_137 (fun h20 hf => ?_)
        refine v_iinc (ls' := [(6, _), (0, _), (1, _), (2, _), (3, _), (4, _), (5, _)]) (y := i6 + (1 : Int32)) C 6 dX17_copy_138 rfl rfl (by decide) rfl ?_
        refine v_goto (tgt := 110) C dX17_copy_141 (by decide) ?_
        refine v_sub (ls' := _) [1, 2, 3, 4, 5, 6, 0] rfl (ih (i6 + (1 : Int32)) _ _ _ hf hl J)
  have L147 : ∀ (a0 : Nat) (i3 : Int32) (i4 : Int32) (i5 : Int32) (n : Nat) (i6 : Int32) (h h1 : Hp) (o : Unit), (l_X17_copy_147 a0 i3 i4 i5 n i6).1 h = some (o, h1) → hle h1 he → V X h1 182 [(5, .int i5)] [] → V X h 147 [(0, .ref a0), (3, .int i3), (4, .int i4), (5, .int i5), (6, .int i6)] [] := by
    intro a0 i3 i4 i5 n
    induction n with
    | zero => intro i6 h h1 o hf; exact mfail_inv hf
    | succ n ih =>
      intro i6 h h1 o hf hl J
      rw [l_X17_copy_147] at hf
      refine v_iload C 4 dX17_copy_147 rfl ?_
      refine v_iload C 3 dX17_copy_149 rfl ?_
      refine v_icmp_ge C hf (tgt := 182) dX17_copy_151 (by decide) (fun c151 hf => ?_) (fun c151 hf => ?_)
      · obtain ⟨e1, rfl⟩ := mret_inv hf
        subst e1
        exact v_sub (ls' := _) [3] rfl J
      · refine v_aload_n C 0 dX17_copy_154 rfl rfl ?_
        refine v_gR (Cn := RX17) (T := TX17) (N := 37) C hf in_X17 rfl (by decide) q1838 rfl dX17_copy_155 (fun x23 hf => ?_)
        refine v_bipush (x := 32) C dX17_copy_158 (by decide) ?_
        refine v_iload_n C 1 dX17_copy_160 rfl rfl ?_
        refine v_imul C dX17_copy_161 ?_
        refine v_iload C 2 dX17_copy_162 rfl ?_
        refine v_iadd C dX17_copy_164 ?_
        refine v_iload C 4 dX17_copy_165 rfl ?_
        refine v_iadd C dX17_copy_167 ?_
        refine v_aload_n C 0 dX17_copy_168 rfl rfl ?_
        refine v_gR (Cn := RX17) (T := TX17) (N := 37) C hf in_X17 rfl (by decide) q1839 rfl dX17_copy_169 (fun x24 hf => ?_)
        refine v_iload C 4 dX17_copy_172 rfl ?_
        refine v_laload C hf dX17_copy_174 (fun x25 hf => ?_)
        refine v_lastore C hf dX17_copy_175 (fun h26 hf => ?_)
        refine v_iinc (ls' := [(6, _), (0, _), (3, _), (4, _), (5, _)]) (y := i6 + (1 : Int32)) C 4 dX17_copy_176 rfl rfl (by decide) rfl ?_
        refine v_goto (tgt := 147) C dX17_copy_179 (by decide) ?_
        refine v_sub (ls' := _) [1, 2, 3, 4, 0] rfl (ih (i6 + (1 : Int32)) _ _ _ hf hl J)
  unfold f_X17_copy at hf
  refine v_iload_n C 1 dX17_copy_0 rfl rfl ?_
  refine v_callS (stk := fun b => .int b :: []) C (ct_X17_isSheet _ i1) nd_X17_isSheet rfl (Nat.le_of_ble_eq_true rfl) (Nat.le_of_ble_eq_true rfl) [] (Nat.le_of_ble_eq_true rfl) (fun _ => rfl) rfl q2284 q2285 q127 q2286 hf hl dX17_copy_1 (fun x1 h2 hf => ?_)
  refine v_if_eq C hf (tgt := 14) dX17_copy_4 (by decide) (fun c4 hf => ?_) (fun c4 hf => ?_)
  · refine v_iconst (x := (-1)) C dX17_copy_14 (by decide) ?_
    exact v_iret C E hf dX17_copy_15
  · refine v_iload_n C 3 dX17_copy_7 rfl rfl ?_
    refine v_callS (stk := fun b => .int b :: []) C (ct_X17_isSheet _ i3) nd_X17_isSheet rfl (Nat.le_of_ble_eq_true rfl) (Nat.le_of_ble_eq_true rfl) [] (Nat.le_of_ble_eq_true rfl) (fun _ => rfl) rfl q2284 q2285 q127 q2286 hf hl dX17_copy_8 (fun x3 h4 hf => ?_)
    refine v_if_ne C hf (tgt := 16) dX17_copy_11 (by decide) (fun c11 hf => ?_) (fun c11 hf => ?_)
    · refine v_aload_n C 0 dX17_copy_16 rfl rfl ?_
      refine v_gR (Cn := RX17) (T := TX17) (N := 37) C hf in_X17 rfl (by decide) q1836 rfl dX17_copy_17 (fun x5 hf => ?_)
      refine v_iload_n C 1 dX17_copy_20 rfl rfl ?_
      refine v_iaload C hf dX17_copy_21 (fun x6 hf => ?_)
      refine v_if_lt C hf (tgt := 34) dX17_copy_22 (by decide) (fun c22 hf => ?_) (fun c22 hf => ?_)
      · refine v_bipush (x := (-11)) C dX17_copy_34 (by decide) ?_
        exact v_iret C E hf dX17_copy_36
      · refine v_aload_n C 0 dX17_copy_25 rfl rfl ?_
        refine v_gR (Cn := RX17) (T := TX17) (N := 37) C hf in_X17 rfl (by decide) q1836 rfl dX17_copy_26 (fun x7 hf => ?_)
        refine v_iload_n C 3 dX17_copy_29 rfl rfl ?_
        refine v_iaload C hf dX17_copy_30 (fun x8 hf => ?_)
        refine v_if_ge C hf (tgt := 37) dX17_copy_31 (by decide) (fun c31 hf => ?_) (fun c31 hf => ?_)
        · refine v_aload_n C 0 dX17_copy_37 rfl rfl ?_
          refine v_gR (Cn := RX17) (T := TX17) (N := 37) C hf in_X17 rfl (by decide) q1836 rfl dX17_copy_38 (fun x9 hf => ?_)
          refine v_iload_n C 1 dX17_copy_41 rfl rfl ?_
          refine v_iaload C hf dX17_copy_42 (fun x10 hf => ?_)
          refine v_aload_n C 0 dX17_copy_43 rfl rfl ?_
          refine v_gR (Cn := RX17) (T := TX17) (N := 37) C hf in_X17 rfl (by decide) q1836 rfl dX17_copy_44 (fun x11 hf => ?_)
          refine v_iload_n C 3 dX17_copy_47 rfl rfl ?_
          refine v_iaload C hf dX17_copy_48 (fun x12 hf => ?_)
          refine v_icmp_eq C hf (tgt := 55) dX17_copy_49 (by decide) (fun c49 hf => ?_) (fun c49 hf => ?_)
          · refine v_iload C 5 dX17_copy_55 rfl ?_
            refine v_if_lt C hf (tgt := 104) dX17_copy_57 (by decide) (fun c57 hf => ?_) (fun c57 hf => ?_)
            · refine v_bipush (x := (-13)) C dX17_copy_104 (by decide) ?_
              exact v_iret C E hf dX17_copy_106
            · refine v_iload_n C 2 dX17_copy_60 rfl rfl ?_
              refine v_if_lt C hf (tgt := 104) dX17_copy_61 (by decide) (fun c61 hf => ?_) (fun c61 hf => ?_)
              · refine v_bipush (x := (-13)) C dX17_copy_104 (by decide) ?_
                exact v_iret C E hf dX17_copy_106
              · refine v_iload C 4 dX17_copy_64 rfl ?_
                refine v_if_lt C hf (tgt := 104) dX17_copy_66 (by decide) (fun c66 hf => ?_) (fun c66 hf => ?_)
                · refine v_bipush (x := (-13)) C dX17_copy_104 (by decide) ?_
                  exact v_iret C E hf dX17_copy_106
                · refine v_iload_n C 2 dX17_copy_69 rfl rfl ?_
                  refine v_i2l C dX17_copy_70 ?_
                  refine v_iload C 5 dX17_copy_71 rfl ?_
                  refine v_i2l C dX17_copy_73 ?_
                  refine v_ladd C dX17_copy_74 ?_
                  refine v_aload_n C 0 dX17_copy_75 rfl rfl ?_
                  refine v_gR (Cn := RX17) (T := TX17) (N := 37) C hf in_X17 rfl (by decide) q1837 rfl dX17_copy_76 (fun x13 hf => ?_)
                  refine v_iload_n C 1 dX17_copy_79 rfl rfl ?_
                  refine v_iaload C hf dX17_copy_80 (fun x14 hf => ?_)
                  refine v_i2l C dX17_copy_81 ?_
                  refine v_lcmp C dX17_copy_82 ?_
                  refine v_if_gt C hf (tgt := 104) dX17_copy_83 (by decide) (fun c83 hf => ?_) (fun c83 hf => ?_)
                  · refine v_bipush (x := (-13)) C dX17_copy_104 (by decide) ?_
                    exact v_iret C E hf dX17_copy_106
                  · refine v_iload C 4 dX17_copy_86 rfl ?_
                    refine v_i2l C dX17_copy_88 ?_
                    refine v_iload C 5 dX17_copy_89 rfl ?_
                    refine v_i2l C dX17_copy_91 ?_
                    refine v_ladd C dX17_copy_92 ?_
                    refine v_aload_n C 0 dX17_copy_93 rfl rfl ?_
                    refine v_gR (Cn := RX17) (T := TX17) (N := 37) C hf in_X17 rfl (by decide) q1837 rfl dX17_copy_94 (fun x15 hf => ?_)
                    refine v_iload_n C 3 dX17_copy_97 rfl rfl ?_
                    refine v_iaload C hf dX17_copy_98 (fun x16 hf => ?_)
                    refine v_i2l C dX17_copy_99 ?_
                    refine v_lcmp C dX17_copy_100 ?_
                    refine v_if_le C hf (tgt := 107) dX17_copy_101 (by decide) (fun c101 hf => ?_) (fun c101 hf => ?_)
                    · refine v_iconst (x := 0) C dX17_copy_107 (by decide) ?_
                      refine v_istore (ls' := [(6, _), (0, _), (1, _), (2, _), (3, _), (4, _), (5, _)]) C dX17_copy_108 (by decide) rfl ?_
                      obtain ⟨x21, h22, eh22, hf, hlh22⟩ := mb_inv hf hl
                      refine v_sub (ls' := _) [1, 2, 3, 4, 5, 6, 0] rfl (L110 a0 i1 i2 i3 i4 i5 FU (0 : Int32) _ _ _ eh22 hlh22 ?_)
                      refine v_iconst (x := 0) C dX17_copy_144 (by decide) ?_
                      refine v_istore (ls' := [(6, _), (0, _), (3, _), (4, _), (5, _)]) C dX17_copy_145 (by decide) rfl ?_
                      obtain ⟨x27, h28, eh28, hf, hlh28⟩ := mb_inv hf hl
                      refine v_sub (ls' := _) [1, 2, 3, 4, 0] rfl (L147 a0 i3 i4 i5 FU (0 : Int32) _ _ _ eh28 hlh28 ?_)
                      refine v_iload C 0 dX17_copy_182 rfl ?_
                      exact v_iret C E hf dX17_copy_184
                    · refine v_bipush (x := (-13)) C dX17_copy_104 (by decide) ?_
                      exact v_iret C E hf dX17_copy_106
          · refine v_bipush (x := (-12)) C dX17_copy_52 (by decide) ?_
            exact v_iret C E hf dX17_copy_54
        · refine v_bipush (x := (-11)) C dX17_copy_34 (by decide) ?_
          exact v_iret C E hf dX17_copy_36
    · refine v_iconst (x := (-1)) C dX17_copy_14 (by decide) ?_
      exact v_iret C E hf dX17_copy_15
def l_X17_film_51 (a0 : Nat) (i1 : Int32) (i2 : Int32) (i4 : Int32) : Nat → Int32 → hM (Unit)
  | 0, _ => mfail
  | n + 1, i6 => mi ((24 : Int32) ≤ i6) (mret ()) (mb (gR a0 15 34) fun x9 => mb (mat a0 15 (f_X17_to a0 i1 i6)) fun x10 => mb (sL 5 x9 ((((32 : Int32) * i2) + i4) + i6) x10.toInt64) fun _ => l_X17_film_51 a0 i1 i2 i4 n (i6 + (1 : Int32)))
def f_X17_film (a0 : Nat) (i1 : Int32) (i2 : Int32) (i3 : Int32) (i4 : Int32) : hM Int32 :=
  mb (f_X17_isMove i1) fun x1 => mi (x1 = 0) (mret (-1 : Int32)) (mb (f_X17_isSheet i2) fun x3 => mi (x3 = 0) (mret (-1 : Int32)) (mb (f_X17_in i3.toInt64 (0 : Int64) (3 : Int64)) fun x5 => mi (¬ x5 = 0) (mb (mat a0 15 (f_X17_why a0 i2 i3 i4 (24 : Int32))) fun x7 => mi (0 ≤ x7) (mb (l_X17_film_51 a0 i1 i2 i4 FU (0 : Int32)) fun x13 => mret (24 : Int32)) (mret x7)) (mret (-1 : Int32))))
theorem nd_X17_film : yX17_film.cls ≠ "java/lang/invoke/MethodHandle" ∧ yX17_film.cls ≠ "java/lang/invoke/VarHandle" ∧ (parseMethodDescriptor yX17_film.desc).map (fun d => d.parameters.length) = some 4 := by decide +kernel
set_option maxHeartbeats 4000000 in
theorem ct_X17_film (l : Launch) (a0 : Nat) (i1 : Int32) (i2 : Int32) (i3 : Int32) (i4 : Int32) : CT l yX17_film cX17_film 7 (some .int) 2 45 rvI [.ref a0, .int i1, .int i2, .int i3, .int i4] (f_X17_film a0 i1 i2 i3 i4) := by
  refine CT_of (ls := [(0, .ref a0), (1, .int i1), (2, .int i2), (3, .int i3), (4, .int i4)]) (by decide) (Nat.le_of_ble_eq_true rfl) rfl ?_
  intro X h he z hX hf C E hnm hh
  have hl := hle.rf he
  subst hX
  have L51 : ∀ (a0 : Nat) (i1 : Int32) (i2 : Int32) (i4 : Int32) (n : Nat) (i6 : Int32) (h h1 : Hp) (o : Unit), (l_X17_film_51 a0 i1 i2 i4 n i6).1 h = some (o, h1) → hle h1 he → V X h1 87 [] [] → V X h 51 [(0, .ref a0), (1, .int i1), (2, .int i2), (4, .int i4), (6, .int i6)] [] := by
    intro a0 i1 i2 i4 n
    induction n with
    | zero => intro i6 h h1 o hf; exact mfail_inv hf
    | succ n ih =>
      intro i6 h h1 o hf hl J
      rw [l_X17_film_51] at hf
      refine v_iload C 4 dX17_film_51 rfl ?_
      refine v_bipush (x := 24) C dX17_film_53 (by decide) ?_
      refine v_icmp_ge C hf (tgt := 87) dX17_film_55 (by decide) (fun c55 hf => ?_) (fun c55 hf => ?_)
      · obtain ⟨e1, rfl⟩ := mret_inv hf
        subst e1
        exact v_sub (ls' := _) [] rfl J
      · refine v_aload_n C 0 dX17_film_58 rfl rfl ?_
        refine v_gR (Cn := RX17) (T := TX17) (N := 37) C hf in_X17 rfl (by decide) q1838 rfl dX17_film_59 (fun x9 hf => ?_)
        refine v_bipush (x := 32) C dX17_film_62 (by decide) ?_
        refine v_iload_n C 2 dX17_film_64 rfl rfl ?_
        refine v_imul C dX17_film_65 ?_
        refine v_iload C 3 dX17_film_66 rfl ?_
        refine v_iadd C dX17_film_68 ?_
        refine v_iload C 4 dX17_film_69 rfl ?_
        refine v_iadd C dX17_film_71 ?_
        refine v_aload_n C 0 dX17_film_72 rfl rfl ?_
        refine v_iload_n C 1 dX17_film_73 rfl rfl ?_
        refine v_iload C 4 dX17_film_74 rfl ?_
        refine v_callV (stk := fun b => .int b :: [.int ((((32 : Int32) * i2) + i4) + i6), .ref x9]) C (ct_X17_to _ a0 i1 i6) rfl ⟨rfl, nd_X17_to⟩ rfl (Nat.le_of_ble_eq_true rfl) (Nat.le_of_ble_eq_true rfl) [.int ((((32 : Int32) * i2) + i4) + i6), .ref x9] (Nat.le_of_ble_eq_true rfl) (fun _ => rfl) rfl q1997 q1999 qs45 q127 q2000 hf hl dX17_film_76 (fun x10 h11 hf => ?_)
        refine v_i2l C dX17_film_79 ?_
        refine v_lastore C hf dX17_film_80 (fun h12 hf => ?_)
        refine v_iinc (ls' := [(6, _), (0, _), (1, _), (2, _), (4, _)]) (y := i6 + (1 : Int32)) C 4 dX17_film_81 rfl rfl (by decide) rfl ?_
        refine v_goto (tgt := 51) C dX17_film_84 (by decide) ?_
        refine v_sub (ls' := _) [1, 2, 3, 4, 0] rfl (ih (i6 + (1 : Int32)) _ _ _ hf hl J)
  unfold f_X17_film at hf
  refine v_iload_n C 1 dX17_film_0 rfl rfl ?_
  refine v_callS (stk := fun b => .int b :: []) C (ct_X17_isMove _ i1) nd_X17_isMove rfl (Nat.le_of_ble_eq_true rfl) (Nat.le_of_ble_eq_true rfl) [] (Nat.le_of_ble_eq_true rfl) (fun _ => rfl) rfl q1989 q1990 q127 q1991 hf hl dX17_film_1 (fun x1 h2 hf => ?_)
  refine v_if_eq C hf (tgt := 26) dX17_film_4 (by decide) (fun c4 hf => ?_) (fun c4 hf => ?_)
  · refine v_iconst (x := (-1)) C dX17_film_26 (by decide) ?_
    exact v_iret C E hf dX17_film_27
  · refine v_iload_n C 2 dX17_film_7 rfl rfl ?_
    refine v_callS (stk := fun b => .int b :: []) C (ct_X17_isSheet _ i2) nd_X17_isSheet rfl (Nat.le_of_ble_eq_true rfl) (Nat.le_of_ble_eq_true rfl) [] (Nat.le_of_ble_eq_true rfl) (fun _ => rfl) rfl q2284 q2285 q127 q2286 hf hl dX17_film_8 (fun x3 h4 hf => ?_)
    refine v_if_eq C hf (tgt := 26) dX17_film_11 (by decide) (fun c11 hf => ?_) (fun c11 hf => ?_)
    · refine v_iconst (x := (-1)) C dX17_film_26 (by decide) ?_
      exact v_iret C E hf dX17_film_27
    · refine v_iload_n C 3 dX17_film_14 rfl rfl ?_
      refine v_i2l C dX17_film_15 ?_
      refine v_lconst (x := 0) C dX17_film_16 (by decide) ?_
      refine v_ldc2 (x := 3) C q2067 dX17_film_17 ?_
      refine v_callS (stk := fun b => .int b :: []) C (ct_X17_in _ i3.toInt64 (0 : Int64) (3 : Int64)) nd_X17_in rfl (Nat.le_of_ble_eq_true rfl) (Nat.le_of_ble_eq_true rfl) [] (Nat.le_of_ble_eq_true rfl) (fun _ => rfl) rfl q1779 q1780 q127 q1781 hf hl dX17_film_20 (fun x5 h6 hf => ?_)
      refine v_if_ne C hf (tgt := 28) dX17_film_23 (by decide) (fun c23 hf => ?_) (fun c23 hf => ?_)
      · refine v_aload_n C 0 dX17_film_28 rfl rfl ?_
        refine v_iload_n C 2 dX17_film_29 rfl rfl ?_
        refine v_iload_n C 3 dX17_film_30 rfl rfl ?_
        refine v_iload C 4 dX17_film_31 rfl ?_
        refine v_bipush (x := 24) C dX17_film_33 (by decide) ?_
        refine v_callV (stk := fun b => .int b :: []) C (ct_X17_why _ a0 i2 i3 i4 (24 : Int32)) rfl ⟨rfl, nd_X17_why⟩ rfl (Nat.le_of_ble_eq_true rfl) (Nat.le_of_ble_eq_true rfl) [] (Nat.le_of_ble_eq_true rfl) (fun _ => rfl) rfl q2295 q2297 qs91 q127 q2298 hf hl dX17_film_35 (fun x7 h8 hf => ?_)
        refine v_istore (ls' := [(5, _), (0, _), (1, _), (2, _), (3, _), (4, _)]) C dX17_film_38 (by decide) rfl ?_
        refine v_iload C 0 dX17_film_40 rfl ?_
        refine v_if_ge C hf (tgt := 48) dX17_film_42 (by decide) (fun c42 hf => ?_) (fun c42 hf => ?_)
        · refine v_iconst (x := 0) C dX17_film_48 (by decide) ?_
          refine v_istore (ls' := [(6, _), (5, _), (0, _), (1, _), (2, _), (3, _), (4, _)]) C dX17_film_49 (by decide) rfl ?_
          obtain ⟨x13, h14, eh14, hf, hlh14⟩ := mb_inv hf hl
          refine v_sub (ls' := _) [2, 3, 4, 6, 0] rfl (L51 a0 i1 i2 i4 FU (0 : Int32) _ _ _ eh14 hlh14 ?_)
          refine v_bipush (x := 24) C dX17_film_87 (by decide) ?_
          exact v_iret C E hf dX17_film_89
        · refine v_iload C 0 dX17_film_45 rfl ?_
          exact v_iret C E hf dX17_film_47
      · refine v_iconst (x := (-1)) C dX17_film_26 (by decide) ?_
        exact v_iret C E hf dX17_film_27
def l_X17_wants_8 (a0 : Nat) (i1 : Int32) (i2 : Int32) : Nat → Int32 → Int32 → Int32 → hM (Int32 × Int32)
  | 0, _, _, _ => mfail
  | n + 1, i3, i4, i5 => mi (i2 ≤ i5) (mret (i3, i4)) (mb (gR a0 15 34) fun x1 => mb (aL 5 x1 (i1 + ((2 : Int32) * i5))) fun x2 => mb (gR a0 15 34) fun x3 => mb (aL 5 x3 ((i1 + ((2 : Int32) * i5)) + (1 : Int32))) fun x4 => mb (mi (¬ i4 = 0) (mret (1 : Int32)) (mb (f_X17_has i3 x2.toInt32) fun x9 => mi (x9 = 0) (mret (0 : Int32)) (mb (gR a0 15 36) fun x11 => mb (aI 1 x11 x2.toInt32) fun x12 => mi (x12 = x4.toInt32) (mret (0 : Int32)) (mret (1 : Int32))))) fun x5 => mb (gR a0 15 36) fun x7 => mb (sI 1 x7 x2.toInt32 x4.toInt32) fun _ => l_X17_wants_8 a0 i1 i2 n (i3 ||| ((1 : Int32) <<< (x2.toInt32 &&& 31))) x5 (i5 + (1 : Int32)))
def f_X17_wants (a0 : Nat) (i1 : Int32) (i2 : Int32) : hM Int32 :=
  mb (l_X17_wants_8 a0 i1 i2 FU (0 : Int32) (0 : Int32) (0 : Int32)) fun x13 => mb (mi (x13.2 = 0) (mret x13.1) (mret (-1 : Int32))) fun x15 => mret x15
theorem nd_X17_wants : yX17_wants.cls ≠ "java/lang/invoke/MethodHandle" ∧ yX17_wants.cls ≠ "java/lang/invoke/VarHandle" ∧ (parseMethodDescriptor yX17_wants.desc).map (fun d => d.parameters.length) = some 2 := by decide +kernel
set_option maxHeartbeats 4000000 in
theorem ct_X17_wants (l : Launch) (a0 : Nat) (i1 : Int32) (i2 : Int32) : CT l yX17_wants cX17_wants 8 (some .int) 1 21 rvI [.ref a0, .int i1, .int i2] (f_X17_wants a0 i1 i2) := by
  refine CT_of (ls := [(0, .ref a0), (1, .int i1), (2, .int i2)]) (by decide) (Nat.le_of_ble_eq_true rfl) rfl ?_
  intro X h he z hX hf C E hnm hh
  have hl := hle.rf he
  subst hX
  have L8 : ∀ (a0 : Nat) (i1 : Int32) (i2 : Int32) (n : Nat) (i3 : Int32) (i4 : Int32) (i5 : Int32) (h h1 : Hp) (o : Int32 × Int32), (l_X17_wants_8 a0 i1 i2 n i3 i4 i5).1 h = some (o, h1) → hle h1 he → V X h1 99 [(3, .int o.1), (4, .int o.2)] [] → V X h 8 [(0, .ref a0), (1, .int i1), (2, .int i2), (3, .int i3), (4, .int i4), (5, .int i5)] [] := by
    intro a0 i1 i2 n
    induction n with
    | zero => intro i3 i4 i5 h h1 o hf; exact mfail_inv hf
    | succ n ih =>
      intro i3 i4 i5 h h1 o hf hl J
      rw [l_X17_wants_8] at hf
      refine v_iload C 5 dX17_wants_8 rfl ?_
      refine v_iload_n C 2 dX17_wants_10 rfl rfl ?_
      refine v_icmp_ge C hf (tgt := 99) dX17_wants_11 (by decide) (fun c11 hf => ?_) (fun c11 hf => ?_)
      · obtain ⟨e1, rfl⟩ := mret_inv hf
        subst e1
        exact v_sub (ls' := _) [3, 4] rfl J
      · refine v_aload_n C 0 dX17_wants_14 rfl rfl ?_
        refine v_gR (Cn := RX17) (T := TX17) (N := 37) C hf in_X17 rfl (by decide) q1838 rfl dX17_wants_15 (fun x1 hf => ?_)
        refine v_iload_n C 1 dX17_wants_18 rfl rfl ?_
        refine v_iconst (x := 2) C dX17_wants_19 (by decide) ?_
        refine v_iload C 5 dX17_wants_20 rfl ?_
        refine v_imul C dX17_wants_22 ?_
        refine v_iadd C dX17_wants_23 ?_
        refine v_laload C hf dX17_wants_24 (fun x2 hf => ?_)
        refine v_l2i C dX17_wants_25 ?_
        refine v_istore (ls' := [(6, _), (0, _), (1, _), (2, _), (3, _), (4, _), (5, _)]) C dX17_wants_26 (by decide) rfl ?_
        refine v_aload_n C 1 dX17_wants_28 rfl rfl ?_
        refine v_gR (Cn := RX17) (T := TX17) (N := 37) C hf in_X17 rfl (by decide) q1838 rfl dX17_wants_29 (fun x3 hf => ?_)
        refine v_iload_n C 2 dX17_wants_32 rfl rfl ?_
        refine v_iconst (x := 2) C dX17_wants_33 (by decide) ?_
        refine v_iload C 6 dX17_wants_34 rfl ?_
        refine v_imul C dX17_wants_36 ?_
        refine v_iadd C dX17_wants_37 ?_
        refine v_iconst (x := 1) C dX17_wants_38 (by decide) ?_
        refine v_iadd C dX17_wants_39 ?_
        refine v_laload C hf dX17_wants_40 (fun x4 hf => ?_)
        refine v_l2i C dX17_wants_41 ?_
        refine v_istore (ls' := [(7, _), (6, _), (0, _), (1, _), (2, _), (3, _), (4, _), (5, _)]) C dX17_wants_42 (by decide) rfl ?_
        refine v_iload C 6 dX17_wants_44 rfl ?_
        obtain ⟨x5, h6, hAh6, hf, hlh6⟩ := mb_inv hf hl
        refine v_cut (h1 := h6) (pc1 := 75) (ls1 := [(0, .ref a0), (1, .int i1), (2, .int i2), (3, .int i3), (5, .int i5), (6, .int x2.toInt32), (7, .int x4.toInt32)]) (st1 := [.int x5]) ?_ (fun Jh6 => ?_)
        · clear hAh6 hlh6
          refine v_istore (ls' := [(4, _), (0, _), (1, _), (2, _), (3, _), (5, _), (6, _), (7, _)]) C dX17_wants_75 (by decide) rfl ?_
          refine v_aload_n C 1 dX17_wants_77 rfl rfl ?_
          refine v_gR (Cn := RX17) (T := TX17) (N := 37) C hf in_X17 rfl (by decide) q1840 rfl dX17_wants_78 (fun x7 hf => ?_)
          refine v_iload C 6 dX17_wants_81 rfl ?_
          refine v_iload C 7 dX17_wants_83 rfl ?_
          refine v_iastore C hf dX17_wants_85 (fun h8 hf => ?_)
          refine v_iload_n C 4 dX17_wants_86 rfl rfl ?_
          refine v_iconst (x := 1) C dX17_wants_87 (by decide) ?_
          refine v_iload C 6 dX17_wants_88 rfl ?_
          refine v_ishl C dX17_wants_90 ?_
          refine v_ior C dX17_wants_91 ?_
          refine v_istore_n (ls' := [(3, _), (4, _), (0, _), (1, _), (2, _), (5, _), (6, _), (7, _)]) C dX17_wants_92 rfl (by decide) rfl ?_
          refine v_iinc (ls' := [(5, _), (3, _), (4, _), (0, _), (1, _), (2, _), (6, _), (7, _)]) (y := i5 + (1 : Int32)) C 5 dX17_wants_93 rfl rfl (by decide) rfl ?_
          refine v_goto (tgt := 8) C dX17_wants_96 (by decide) ?_
          refine v_sub (ls' := _) [3, 4, 5, 1, 2, 0] rfl (ih (i3 ||| ((1 : Int32) <<< (x2.toInt32 &&& 31))) x5 (i5 + (1 : Int32)) _ _ _ hf hl J)
        · clear hf
          have hf := hAh6
          have hl := hlh6
          refine v_if_ne C hf (tgt := 70) dX17_wants_46 (by decide) (fun c46 hf => ?_) (fun c46 hf => ?_)
          · refine v_iconst (x := 1) C dX17_wants_70 (by decide) ?_
            refine v_goto (tgt := 75) C dX17_wants_71 (by decide) ?_
            obtain ⟨e1, rfl⟩ := mret_inv hf
            subst e1
            exact v_sub (ls' := _) [2, 3, 4, 5, 7, 1, 0] rfl Jh6
          · refine v_iload_n C 5 dX17_wants_49 rfl rfl ?_
            refine v_iload C 1 dX17_wants_50 rfl ?_
            refine v_callS (stk := fun b => .int b :: []) C (ct_X17_has _ i3 x2.toInt32) nd_X17_has rfl (Nat.le_of_ble_eq_true rfl) (Nat.le_of_ble_eq_true rfl) [] (Nat.le_of_ble_eq_true rfl) (fun _ => rfl) rfl q1783 q1784 q127 q1785 hf hl dX17_wants_52 (fun x9 h10 hf => ?_)
            refine v_if_eq C hf (tgt := 74) dX17_wants_55 (by decide) (fun c55 hf => ?_) (fun c55 hf => ?_)
            · refine v_iconst (x := 0) C dX17_wants_74 (by decide) ?_
              obtain ⟨e1, rfl⟩ := mret_inv hf
              subst e1
              exact v_sub (ls' := _) [2, 3, 4, 5, 7, 1, 0] rfl Jh6
            · refine v_aload_n C 2 dX17_wants_58 rfl rfl ?_
              refine v_gR (Cn := RX17) (T := TX17) (N := 37) C hf in_X17 rfl (by decide) q1840 rfl dX17_wants_59 (fun x11 hf => ?_)
              refine v_iload C 1 dX17_wants_62 rfl ?_
              refine v_iaload C hf dX17_wants_64 (fun x12 hf => ?_)
              refine v_iload C 0 dX17_wants_65 rfl ?_
              refine v_icmp_eq C hf (tgt := 74) dX17_wants_67 (by decide) (fun c67 hf => ?_) (fun c67 hf => ?_)
              · refine v_iconst (x := 0) C dX17_wants_74 (by decide) ?_
                obtain ⟨e1, rfl⟩ := mret_inv hf
                subst e1
                exact v_sub (ls' := _) [2, 3, 4, 5, 7, 1, 0] rfl Jh6
              · refine v_iconst (x := 1) C dX17_wants_70 (by decide) ?_
                refine v_goto (tgt := 75) C dX17_wants_71 (by decide) ?_
                obtain ⟨e1, rfl⟩ := mret_inv hf
                subst e1
                exact v_sub (ls' := _) [2, 3, 4, 5, 7, 1, 0] rfl Jh6
  unfold f_X17_wants at hf
  refine v_iconst (x := 0) C dX17_wants_0 (by decide) ?_
  refine v_istore_n (ls' := [(3, _), (0, _), (1, _), (2, _)]) C dX17_wants_1 rfl (by decide) rfl ?_
  refine v_iconst (x := 0) C dX17_wants_2 (by decide) ?_
  refine v_istore (ls' := [(4, _), (3, _), (0, _), (1, _), (2, _)]) C dX17_wants_3 (by decide) rfl ?_
  refine v_iconst (x := 0) C dX17_wants_5 (by decide) ?_
  refine v_istore (ls' := [(5, _), (4, _), (3, _), (0, _), (1, _), (2, _)]) C dX17_wants_6 (by decide) rfl ?_
  obtain ⟨x13, h14, eh14, hf, hlh14⟩ := mb_inv hf hl
  refine v_sub (ls' := _) [3, 4, 5, 2, 1, 0] rfl (L8 a0 i1 i2 FU (0 : Int32) (0 : Int32) (0 : Int32) _ _ _ eh14 hlh14 ?_)
  refine v_iload C 1 dX17_wants_99 rfl ?_
  obtain ⟨x15, h16, hAh16, hf, hlh16⟩ := mb_inv hf hl
  refine v_cut (h1 := h16) (pc1 := 109) (ls1 := []) (st1 := [.int x15]) ?_ (fun Jh16 => ?_)
  · clear hAh16 hlh16
    exact v_iret C E hf dX17_wants_109
  · clear hf
    have hf := hAh16
    have hl := hlh16
    refine v_if_eq C hf (tgt := 108) dX17_wants_101 (by decide) (fun c101 hf => ?_) (fun c101 hf => ?_)
    · refine v_iload_n C 0 dX17_wants_108 rfl rfl ?_
      obtain ⟨e1, rfl⟩ := mret_inv hf
      subst e1
      exact v_sub (ls' := _) [] rfl Jh16
    · refine v_iconst (x := (-1)) C dX17_wants_104 (by decide) ?_
      refine v_goto (tgt := 109) C dX17_wants_105 (by decide) ?_
      obtain ⟨e1, rfl⟩ := mret_inv hf
      subst e1
      exact v_sub (ls' := _) [] rfl Jh16
def l_X17_sends_5 (a0 : Nat) (i1 : Int32) (i2 : Int32) : Nat → Int32 → Int32 → hM (Int32)
  | 0, _, _ => mfail
  | n + 1, i3, i4 => mi ((24 : Int32) ≤ i4) (mret i3) (mb (gR a0 15 15) fun x1 => mb (aI 1 x1 i1) fun x2 => mb (mi (i4 = x2) (mret (1 : Int32)) (mb (gR a0 15 16) fun x19 => mb (aI 1 x19 (((24 : Int32) * i1) + i4)) fun x20 => mi (x20 < 0) (mret (0 : Int32)) (mret (1 : Int32)))) fun x3 => mb (mi (i2 ≤ i1) (mi (i3 < 0) (mret (1 : Int32)) (mb (gR a0 15 20) fun x9 => mb (aI 1 x9 i4) fun x10 => mb (gR a0 15 20) fun x11 => mb (aI 1 x11 i3) fun x12 => mi (x12 ≤ x10) (mret (0 : Int32)) (mret (1 : Int32)))) (mb (gR a0 15 20) fun x13 => mb (aI 1 x13 i4) fun x14 => mb (gR a0 15 36) fun x15 => mb (gR a0 15 15) fun x16 => mb (aI 1 x16 i1) fun x17 => mb (aI 1 x15 x17) fun x18 => mi (¬ x14 = x18) (mret (0 : Int32)) (mret (1 : Int32)))) fun x5 => mb (mi (x3 = 0) (mret i3) (mi (x5 = 0) (mret i3) (mret i4))) fun x7 => l_X17_sends_5 a0 i1 i2 n x7 (i4 + (1 : Int32)))
def f_X17_sends (a0 : Nat) (i1 : Int32) (i2 : Int32) : hM Int32 :=
  mb (l_X17_sends_5 a0 i1 i2 FU (-1 : Int32) (0 : Int32)) fun x21 => mret x21
theorem nd_X17_sends : yX17_sends.cls ≠ "java/lang/invoke/MethodHandle" ∧ yX17_sends.cls ≠ "java/lang/invoke/VarHandle" ∧ (parseMethodDescriptor yX17_sends.desc).map (fun d => d.parameters.length) = some 2 := by decide +kernel
set_option maxHeartbeats 4000000 in
theorem ct_X17_sends (l : Launch) (a0 : Nat) (i1 : Int32) (i2 : Int32) : CT l yX17_sends cX17_sends 7 (some .int) 0 0 rvI [.ref a0, .int i1, .int i2] (f_X17_sends a0 i1 i2) := by
  refine CT_of (ls := [(0, .ref a0), (1, .int i1), (2, .int i2)]) (by decide) (Nat.le_of_ble_eq_true rfl) rfl ?_
  intro X h he z hX hf C E hnm hh
  have hl := hle.rf he
  subst hX
  have L5 : ∀ (a0 : Nat) (i1 : Int32) (i2 : Int32) (n : Nat) (i3 : Int32) (i4 : Int32) (h h1 : Hp) (o : Int32), (l_X17_sends_5 a0 i1 i2 n i3 i4).1 h = some (o, h1) → hle h1 he → V X h1 129 [(3, .int o)] [] → V X h 5 [(0, .ref a0), (1, .int i1), (2, .int i2), (3, .int i3), (4, .int i4)] [] := by
    intro a0 i1 i2 n
    induction n with
    | zero => intro i3 i4 h h1 o hf; exact mfail_inv hf
    | succ n ih =>
      intro i3 i4 h h1 o hf hl J
      rw [l_X17_sends_5] at hf
      refine v_iload C 4 dX17_sends_5 rfl ?_
      refine v_bipush (x := 24) C dX17_sends_7 (by decide) ?_
      refine v_icmp_ge C hf (tgt := 129) dX17_sends_9 (by decide) (fun c9 hf => ?_) (fun c9 hf => ?_)
      · obtain ⟨e1, rfl⟩ := mret_inv hf
        subst e1
        exact v_sub (ls' := _) [3] rfl J
      · refine v_iload C 4 dX17_sends_12 rfl ?_
        refine v_aload_n C 0 dX17_sends_14 rfl rfl ?_
        refine v_gR (Cn := RX17) (T := TX17) (N := 37) C hf in_X17 rfl (by decide) q1819 rfl dX17_sends_15 (fun x1 hf => ?_)
        refine v_iload_n C 1 dX17_sends_18 rfl rfl ?_
        refine v_iaload C hf dX17_sends_19 (fun x2 hf => ?_)
        obtain ⟨x3, h4, hAh4, hf, hlh4⟩ := mb_inv hf hl
        refine v_cut (h1 := h4) (pc1 := 43) (ls1 := [(0, .ref a0), (1, .int i1), (2, .int i2), (3, .int i3), (4, .int i4)]) (st1 := [.int x3]) ?_ (fun Jh4 => ?_)
        · clear hAh4 hlh4
          refine v_istore (ls' := [(5, _), (0, _), (1, _), (2, _), (3, _), (4, _)]) C dX17_sends_43 (by decide) rfl ?_
          refine v_iload_n C 2 dX17_sends_45 rfl rfl ?_
          refine v_iload_n C 3 dX17_sends_46 rfl rfl ?_
          obtain ⟨x5, h6, hAh6, hf, hlh6⟩ := mb_inv hf hl
          refine v_cut (h1 := h6) (pc1 := 104) (ls1 := [(0, .ref a0), (1, .int i1), (2, .int i2), (3, .int i3), (4, .int i4), (5, .int x3)]) (st1 := [.int x5]) ?_ (fun Jh6 => ?_)
          · clear hAh6 hlh6
            refine v_istore (ls' := [(6, _), (0, _), (1, _), (2, _), (3, _), (4, _), (5, _)]) C dX17_sends_104 (by decide) rfl ?_
            refine v_iload C 6 dX17_sends_106 rfl ?_
            obtain ⟨x7, h8, hAh8, hf, hlh8⟩ := mb_inv hf hl
            refine v_cut (h1 := h8) (pc1 := 122) (ls1 := [(0, .ref a0), (1, .int i1), (2, .int i2), (4, .int i4)]) (st1 := [.int x7]) ?_ (fun Jh8 => ?_)
            · clear hAh8 hlh8
              refine v_istore_n (ls' := [(3, _), (0, _), (1, _), (2, _), (4, _)]) C dX17_sends_122 rfl (by decide) rfl ?_
              refine v_iinc (ls' := [(4, _), (3, _), (0, _), (1, _), (2, _)]) (y := i4 + (1 : Int32)) C 4 dX17_sends_123 rfl rfl (by decide) rfl ?_
              refine v_goto (tgt := 5) C dX17_sends_126 (by decide) ?_
              refine v_sub (ls' := _) [2, 3, 4, 1, 0] rfl (ih x7 (i4 + (1 : Int32)) _ _ _ hf hl J)
            · clear hf
              have hf := hAh8
              have hl := hlh8
              refine v_if_eq C hf (tgt := 121) dX17_sends_108 (by decide) (fun c108 hf => ?_) (fun c108 hf => ?_)
              · refine v_iload_n C 4 dX17_sends_121 rfl rfl ?_
                obtain ⟨e1, rfl⟩ := mret_inv hf
                subst e1
                exact v_sub (ls' := _) [1, 2, 3, 5] rfl Jh8
              · refine v_iload C 0 dX17_sends_111 rfl ?_
                refine v_if_eq C hf (tgt := 121) dX17_sends_113 (by decide) (fun c113 hf => ?_) (fun c113 hf => ?_)
                · refine v_iload_n C 4 dX17_sends_121 rfl rfl ?_
                  obtain ⟨e1, rfl⟩ := mret_inv hf
                  subst e1
                  exact v_sub (ls' := _) [1, 2, 3, 5] rfl Jh8
                · refine v_iload C 5 dX17_sends_116 rfl ?_
                  refine v_goto (tgt := 122) C dX17_sends_118 (by decide) ?_
                  obtain ⟨e1, rfl⟩ := mret_inv hf
                  subst e1
                  exact v_sub (ls' := _) [1, 2, 3, 5] rfl Jh8
          · clear hf
            have hf := hAh6
            have hl := hlh6
            refine v_icmp_ge C hf (tgt := 79) dX17_sends_47 (by decide) (fun c47 hf => ?_) (fun c47 hf => ?_)
            · refine v_iload_n C 4 dX17_sends_79 rfl rfl ?_
              refine v_if_lt C hf (tgt := 99) dX17_sends_80 (by decide) (fun c80 hf => ?_) (fun c80 hf => ?_)
              · refine v_iconst (x := 1) C dX17_sends_99 (by decide) ?_
                refine v_goto (tgt := 104) C dX17_sends_100 (by decide) ?_
                obtain ⟨e1, rfl⟩ := mret_inv hf
                subst e1
                exact v_sub (ls' := _) [1, 2, 3, 4, 5, 0] rfl Jh6
              · refine v_aload_n C 1 dX17_sends_83 rfl rfl ?_
                refine v_gR (Cn := RX17) (T := TX17) (N := 37) C hf in_X17 rfl (by decide) q1824 rfl dX17_sends_84 (fun x9 hf => ?_)
                refine v_iload C 5 dX17_sends_87 rfl ?_
                refine v_iaload C hf dX17_sends_89 (fun x10 hf => ?_)
                refine v_aload_n C 1 dX17_sends_90 rfl rfl ?_
                refine v_gR (Cn := RX17) (T := TX17) (N := 37) C hf in_X17 rfl (by decide) q1824 rfl dX17_sends_91 (fun x11 hf => ?_)
                refine v_iload_n C 4 dX17_sends_94 rfl rfl ?_
                refine v_iaload C hf dX17_sends_95 (fun x12 hf => ?_)
                refine v_icmp_ge C hf (tgt := 103) dX17_sends_96 (by decide) (fun c96 hf => ?_) (fun c96 hf => ?_)
                · refine v_iconst (x := 0) C dX17_sends_103 (by decide) ?_
                  obtain ⟨e1, rfl⟩ := mret_inv hf
                  subst e1
                  exact v_sub (ls' := _) [1, 2, 3, 4, 5, 0] rfl Jh6
                · refine v_iconst (x := 1) C dX17_sends_99 (by decide) ?_
                  refine v_goto (tgt := 104) C dX17_sends_100 (by decide) ?_
                  obtain ⟨e1, rfl⟩ := mret_inv hf
                  subst e1
                  exact v_sub (ls' := _) [1, 2, 3, 4, 5, 0] rfl Jh6
            · refine v_aload_n C 1 dX17_sends_50 rfl rfl ?_
              refine v_gR (Cn := RX17) (T := TX17) (N := 37) C hf in_X17 rfl (by decide) q1824 rfl dX17_sends_51 (fun x13 hf => ?_)
              refine v_iload C 5 dX17_sends_54 rfl ?_
              refine v_iaload C hf dX17_sends_56 (fun x14 hf => ?_)
              refine v_aload_n C 1 dX17_sends_57 rfl rfl ?_
              refine v_gR (Cn := RX17) (T := TX17) (N := 37) C hf in_X17 rfl (by decide) q1840 rfl dX17_sends_58 (fun x15 hf => ?_)
              refine v_aload_n C 1 dX17_sends_61 rfl rfl ?_
              refine v_gR (Cn := RX17) (T := TX17) (N := 37) C hf in_X17 rfl (by decide) q1819 rfl dX17_sends_62 (fun x16 hf => ?_)
              refine v_iload_n C 2 dX17_sends_65 rfl rfl ?_
              refine v_iaload C hf dX17_sends_66 (fun x17 hf => ?_)
              refine v_iaload C hf dX17_sends_67 (fun x18 hf => ?_)
              refine v_icmp_ne C hf (tgt := 75) dX17_sends_68 (by decide) (fun c68 hf => ?_) (fun c68 hf => ?_)
              · refine v_iconst (x := 0) C dX17_sends_75 (by decide) ?_
                refine v_goto (tgt := 104) C dX17_sends_76 (by decide) ?_
                obtain ⟨e1, rfl⟩ := mret_inv hf
                subst e1
                exact v_sub (ls' := _) [1, 2, 3, 4, 5, 0] rfl Jh6
              · refine v_iconst (x := 1) C dX17_sends_71 (by decide) ?_
                refine v_goto (tgt := 104) C dX17_sends_72 (by decide) ?_
                obtain ⟨e1, rfl⟩ := mret_inv hf
                subst e1
                exact v_sub (ls' := _) [1, 2, 3, 4, 5, 0] rfl Jh6
        · clear hf
          have hf := hAh4
          have hl := hlh4
          refine v_icmp_eq C hf (tgt := 38) dX17_sends_20 (by decide) (fun c20 hf => ?_) (fun c20 hf => ?_)
          · refine v_iconst (x := 1) C dX17_sends_38 (by decide) ?_
            refine v_goto (tgt := 43) C dX17_sends_39 (by decide) ?_
            obtain ⟨e1, rfl⟩ := mret_inv hf
            subst e1
            exact v_sub (ls' := _) [0, 1, 2, 3, 4] rfl Jh4
          · refine v_aload_n C 0 dX17_sends_23 rfl rfl ?_
            refine v_gR (Cn := RX17) (T := TX17) (N := 37) C hf in_X17 rfl (by decide) q1820 rfl dX17_sends_24 (fun x19 hf => ?_)
            refine v_bipush (x := 24) C dX17_sends_27 (by decide) ?_
            refine v_iload_n C 1 dX17_sends_29 rfl rfl ?_
            refine v_imul C dX17_sends_30 ?_
            refine v_iload C 4 dX17_sends_31 rfl ?_
            refine v_iadd C dX17_sends_33 ?_
            refine v_iaload C hf dX17_sends_34 (fun x20 hf => ?_)
            refine v_if_lt C hf (tgt := 42) dX17_sends_35 (by decide) (fun c35 hf => ?_) (fun c35 hf => ?_)
            · refine v_iconst (x := 0) C dX17_sends_42 (by decide) ?_
              obtain ⟨e1, rfl⟩ := mret_inv hf
              subst e1
              exact v_sub (ls' := _) [0, 1, 2, 3, 4] rfl Jh4
            · refine v_iconst (x := 1) C dX17_sends_38 (by decide) ?_
              refine v_goto (tgt := 43) C dX17_sends_39 (by decide) ?_
              obtain ⟨e1, rfl⟩ := mret_inv hf
              subst e1
              exact v_sub (ls' := _) [0, 1, 2, 3, 4] rfl Jh4
  unfold f_X17_sends at hf
  refine v_iconst (x := (-1)) C dX17_sends_0 (by decide) ?_
  refine v_istore_n (ls' := [(3, _), (0, _), (1, _), (2, _)]) C dX17_sends_1 rfl (by decide) rfl ?_
  refine v_iconst (x := 0) C dX17_sends_2 (by decide) ?_
  refine v_istore (ls' := [(4, _), (3, _), (0, _), (1, _), (2, _)]) C dX17_sends_3 (by decide) rfl ?_
  obtain ⟨x21, h22, eh22, hf, hlh22⟩ := mb_inv hf hl
  refine v_sub (ls' := _) [2, 3, 4, 1, 0] rfl (L5 a0 i1 i2 FU (-1 : Int32) (0 : Int32) _ _ _ eh22 hlh22 ?_)
  refine v_iload_n C 0 dX17_sends_129 rfl rfl ?_
  exact v_iret C E hf dX17_sends_130
def f_X19_isThere (a0 : Nat) (i1 : Int32) : hM Int32 :=
  mrt .boolean (1 : Int32)
theorem nd_X19_isThere : yX19_isThere.cls ≠ "java/lang/invoke/MethodHandle" ∧ yX19_isThere.cls ≠ "java/lang/invoke/VarHandle" ∧ (parseMethodDescriptor yX19_isThere.desc).map (fun d => d.parameters.length) = some 1 := by decide +kernel
set_option maxHeartbeats 4000000 in
theorem ct_X19_isThere (l : Launch) (a0 : Nat) (i1 : Int32) : CT l yX19_isThere cX19_isThere 2 (some .boolean) 0 0 rvI [.ref a0, .int i1] (f_X19_isThere a0 i1) := by
  refine CT_of (ls := [(0, .ref a0), (1, .int i1)]) (by decide) (Nat.le_of_ble_eq_true rfl) rfl ?_
  intro X h he z hX hf C E hnm hh
  have hl := hle.rf he
  subst hX
  unfold f_X19_isThere at hf
  refine v_iconst (x := 1) C dX19_isThere_0 (by decide) ?_
  exact v_zret C E hf dX19_isThere_1
def f_X20_init (a0 : Nat) : hM Unit :=
  mret ()
theorem nd_X20_init : yX20_init.cls ≠ "java/lang/invoke/MethodHandle" ∧ yX20_init.cls ≠ "java/lang/invoke/VarHandle" ∧ (parseMethodDescriptor yX20_init.desc).map (fun d => d.parameters.length) = some 0 := by decide +kernel
set_option maxHeartbeats 4000000 in
theorem ct_X20_init (l : Launch) (a0 : Nat) : CT l yX20_init cX20_init 1 none 1 12 rv0 [.ref a0] (f_X20_init a0) := by
  refine CT_of (ls := [(0, .ref a0)]) (by decide) (Nat.le_of_ble_eq_true rfl) rfl ?_
  intro X h he z hX hf C E hnm hh
  have hl := hle.rf he
  subst hX
  unfold f_X20_init at hf
  refine v_aload_n C 0 dX20_init_0 rfl rfl ?_
  refine v_objInit C q1446 q147 q148 (Nat.le_of_ble_eq_true rfl) (Nat.le_of_ble_eq_true rfl) dX20_init_1 ?_
  exact v_vret C E hf dX20_init_4
def f_X20_many (a0 : Nat) : hM Int32 :=
  mret (24 : Int32)
theorem nd_X20_many : yX20_many.cls ≠ "java/lang/invoke/MethodHandle" ∧ yX20_many.cls ≠ "java/lang/invoke/VarHandle" ∧ (parseMethodDescriptor yX20_many.desc).map (fun d => d.parameters.length) = some 0 := by decide +kernel
set_option maxHeartbeats 4000000 in
theorem ct_X20_many (l : Launch) (a0 : Nat) : CT l yX20_many cX20_many 1 (some .int) 0 0 rvI [.ref a0] (f_X20_many a0) := by
  refine CT_of (ls := [(0, .ref a0)]) (by decide) (Nat.le_of_ble_eq_true rfl) rfl ?_
  intro X h he z hX hf C E hnm hh
  have hl := hle.rf he
  subst hX
  unfold f_X20_many at hf
  refine v_bipush (x := 24) C dX20_many_0 (by decide) ?_
  exact v_iret C E hf dX20_many_2
def f_X21_init (a0 : Nat) (a1 : Nat) : hM Unit :=
  mb (pF a0 17 0 (.ref a1)) fun _ => mret ()
theorem nd_X21_init : yX21_init.cls ≠ "java/lang/invoke/MethodHandle" ∧ yX21_init.cls ≠ "java/lang/invoke/VarHandle" ∧ (parseMethodDescriptor yX21_init.desc).map (fun d => d.parameters.length) = some 1 := by decide +kernel
set_option maxHeartbeats 4000000 in
theorem ct_X21_init (l : Launch) (a0 : Nat) (a1 : Nat) : CT l yX21_init cX21_init 2 none 1 12 rv0 [.ref a0, .ref a1] (f_X21_init a0 a1) := by
  refine CT_of (ls := [(0, .ref a0), (1, .ref a1)]) (by decide) (Nat.le_of_ble_eq_true rfl) rfl ?_
  intro X h he z hX hf C E hnm hh
  have hl := hle.rf he
  subst hX
  unfold f_X21_init at hf
  refine v_aload_n C 0 dX21_init_0 rfl rfl ?_
  refine v_objInit C q1453 q147 q148 (Nat.le_of_ble_eq_true rfl) (Nat.le_of_ble_eq_true rfl) dX21_init_1 ?_
  refine v_aload_n C 0 dX21_init_4 rfl rfl ?_
  refine v_aload_n C 1 dX21_init_5 rfl rfl ?_
  refine v_putvF (Cn := RX21) (T := TX21) (N := 1) (ty0 := tyX21) C hf in_X21 tyX21_ok nmX21 rfl (by decide) q1454 rfl rfl rfl hnm rfl rfl dX21_init_6 (fun h1 hf => ?_)
  exact v_vret C E hf dX21_init_9
def f_X21_many (a0 : Nat) : hM Int32 :=
  mb (gR a0 17 0) fun x1 => mb (alen 1 x1) fun x2 => mret x2
theorem nd_X21_many : yX21_many.cls ≠ "java/lang/invoke/MethodHandle" ∧ yX21_many.cls ≠ "java/lang/invoke/VarHandle" ∧ (parseMethodDescriptor yX21_many.desc).map (fun d => d.parameters.length) = some 0 := by decide +kernel
set_option maxHeartbeats 4000000 in
theorem ct_X21_many (l : Launch) (a0 : Nat) : CT l yX21_many cX21_many 1 (some .int) 0 0 rvI [.ref a0] (f_X21_many a0) := by
  refine CT_of (ls := [(0, .ref a0)]) (by decide) (Nat.le_of_ble_eq_true rfl) rfl ?_
  intro X h he z hX hf C E hnm hh
  have hl := hle.rf he
  subst hX
  unfold f_X21_many at hf
  refine v_aload_n C 0 dX21_many_0 rfl rfl ?_
  refine v_gR (Cn := RX21) (T := TX21) (N := 1) C hf in_X21 rfl (by decide) q1454 rfl dX21_many_1 (fun x1 hf => ?_)
  refine v_alen C hf (by decide) dX21_many_4 (fun x2 hf => ?_)
  exact v_iret C E hf dX21_many_5
def l_X21_at_10 (a0 : Nat) (i1 : Int32) : Nat → Int32 → Int32 → hM (Int32)
  | 0, _, _ => mfail
  | n + 1, i2, i3 => mi (i3 ≤ i2) (mret i2) (mb (mdiv (i2 + i3) (2 : Int32)) fun x3 => mb (gR a0 17 0) fun x4 => mb (aI 1 x4 x3) fun x5 => mb (mi (i1 ≤ x5) (mret (i2, x3)) (mret (x3 + (1 : Int32), i3))) fun ⟨x6, x7⟩ => l_X21_at_10 a0 i1 n x6 x7)
def f_X21_at (a0 : Nat) (i1 : Int32) : hM Int32 :=
  mb (gR a0 17 0) fun x1 => mb (alen 1 x1) fun x2 => mb (l_X21_at_10 a0 i1 FU (0 : Int32) (x2 - (1 : Int32))) fun x9 => mret x9
theorem nd_X21_at : yX21_at.cls ≠ "java/lang/invoke/MethodHandle" ∧ yX21_at.cls ≠ "java/lang/invoke/VarHandle" ∧ (parseMethodDescriptor yX21_at.desc).map (fun d => d.parameters.length) = some 1 := by decide +kernel
set_option maxHeartbeats 4000000 in
theorem ct_X21_at (l : Launch) (a0 : Nat) (i1 : Int32) : CT l yX21_at cX21_at 5 (some .int) 0 0 rvI [.ref a0, .int i1] (f_X21_at a0 i1) := by
  refine CT_of (ls := [(0, .ref a0), (1, .int i1)]) (by decide) (Nat.le_of_ble_eq_true rfl) rfl ?_
  intro X h he z hX hf C E hnm hh
  have hl := hle.rf he
  subst hX
  have L10 : ∀ (a0 : Nat) (i1 : Int32) (n : Nat) (i2 : Int32) (i3 : Int32) (h h1 : Hp) (o : Int32), (l_X21_at_10 a0 i1 n i2 i3).1 h = some (o, h1) → hle h1 he → V X h1 47 [(2, .int o)] [] → V X h 10 [(0, .ref a0), (1, .int i1), (2, .int i2), (3, .int i3)] [] := by
    intro a0 i1 n
    induction n with
    | zero => intro i2 i3 h h1 o hf; exact mfail_inv hf
    | succ n ih =>
      intro i2 i3 h h1 o hf hl J
      rw [l_X21_at_10] at hf
      refine v_iload_n C 2 dX21_at_10 rfl rfl ?_
      refine v_iload_n C 3 dX21_at_11 rfl rfl ?_
      refine v_icmp_ge C hf (tgt := 47) dX21_at_12 (by decide) (fun c12 hf => ?_) (fun c12 hf => ?_)
      · obtain ⟨e1, rfl⟩ := mret_inv hf
        subst e1
        exact v_sub (ls' := _) [2] rfl J
      · refine v_iload_n C 2 dX21_at_15 rfl rfl ?_
        refine v_iload_n C 3 dX21_at_16 rfl rfl ?_
        refine v_iadd C dX21_at_17 ?_
        refine v_iconst (x := 2) C dX21_at_18 (by decide) ?_
        refine v_idiv C hf dX21_at_19 (fun x3 hf => ?_)
        refine v_istore (ls' := [(4, _), (0, _), (1, _), (2, _), (3, _)]) C dX21_at_20 (by decide) rfl ?_
        refine v_aload_n C 1 dX21_at_22 rfl rfl ?_
        refine v_gR (Cn := RX21) (T := TX21) (N := 1) C hf in_X21 rfl (by decide) q1454 rfl dX21_at_23 (fun x4 hf => ?_)
        refine v_iload C 0 dX21_at_26 rfl ?_
        refine v_iaload C hf dX21_at_28 (fun x5 hf => ?_)
        refine v_iload_n C 2 dX21_at_29 rfl rfl ?_
        obtain ⟨⟨x6, x7⟩, h8, hAh8, hf, hlh8⟩ := mb_inv hf hl
        refine v_cut (h1 := h8) (pc1 := 44) (ls1 := [(0, .ref a0), (1, .int i1), (2, .int x6), (3, .int x7)]) (st1 := []) ?_ (fun Jh8 => ?_)
        · clear hAh8 hlh8
          refine v_goto (tgt := 10) C dX21_at_44 (by decide) ?_
          refine v_sub (ls' := _) [0, 1, 2, 3] rfl (ih x6 x7 _ _ _ hf hl J)
        · clear hf
          have hf := hAh8
          have hl := hlh8
          refine v_icmp_ge C hf (tgt := 41) dX21_at_30 (by decide) (fun c30 hf => ?_) (fun c30 hf => ?_)
          · refine v_iload C 0 dX21_at_41 rfl ?_
            refine v_istore_n (ls' := [(3, _), (4, _), (0, _), (1, _), (2, _)]) C dX21_at_43 rfl (by decide) rfl ?_
            obtain ⟨e1, rfl⟩ := mret_inv hf
            simp only [Prod.mk.injEq] at e1
            obtain ⟨rfl, rfl⟩ := e1
            exact v_sub (ls' := _) [2, 3, 4, 0] rfl Jh8
          · refine v_iload C 0 dX21_at_33 rfl ?_
            refine v_iconst (x := 1) C dX21_at_35 (by decide) ?_
            refine v_iadd C dX21_at_36 ?_
            refine v_istore_n (ls' := [(2, _), (4, _), (0, _), (1, _), (3, _)]) C dX21_at_37 rfl (by decide) rfl ?_
            refine v_goto (tgt := 44) C dX21_at_38 (by decide) ?_
            obtain ⟨e1, rfl⟩ := mret_inv hf
            simp only [Prod.mk.injEq] at e1
            obtain ⟨rfl, rfl⟩ := e1
            exact v_sub (ls' := _) [2, 3, 0, 4] rfl Jh8
  unfold f_X21_at at hf
  refine v_iconst (x := 0) C dX21_at_0 (by decide) ?_
  refine v_istore_n (ls' := [(2, _), (0, _), (1, _)]) C dX21_at_1 rfl (by decide) rfl ?_
  refine v_aload_n C 1 dX21_at_2 rfl rfl ?_
  refine v_gR (Cn := RX21) (T := TX21) (N := 1) C hf in_X21 rfl (by decide) q1454 rfl dX21_at_3 (fun x1 hf => ?_)
  refine v_alen C hf (by decide) dX21_at_6 (fun x2 hf => ?_)
  refine v_iconst (x := 1) C dX21_at_7 (by decide) ?_
  refine v_isub C dX21_at_8 ?_
  refine v_istore_n (ls' := [(3, _), (2, _), (0, _), (1, _)]) C dX21_at_9 rfl (by decide) rfl ?_
  obtain ⟨x9, h10, eh10, hf, hlh10⟩ := mb_inv hf hl
  refine v_sub (ls' := _) [2, 3, 1, 0] rfl (L10 a0 i1 FU (0 : Int32) (x2 - (1 : Int32)) _ _ _ eh10 hlh10 ?_)
  refine v_iload_n C 0 dX21_at_47 rfl rfl ?_
  exact v_iret C E hf dX21_at_48
def f_X22_init (a0 : Nat) (a1 : Nat) : hM Unit :=
  mb (newA 1 (6 : Int32)) fun x1 => mb (pF a0 18 1 (.ref x1)) fun _ => mb (pF a0 18 0 (.ref a1)) fun _ => mret ()
theorem nd_X22_init : yX22_init.cls ≠ "java/lang/invoke/MethodHandle" ∧ yX22_init.cls ≠ "java/lang/invoke/VarHandle" ∧ (parseMethodDescriptor yX22_init.desc).map (fun d => d.parameters.length) = some 1 := by decide +kernel
set_option maxHeartbeats 4000000 in
theorem ct_X22_init (l : Launch) (a0 : Nat) (a1 : Nat) : CT l yX22_init cX22_init 2 none 1 12 rv0 [.ref a0, .ref a1] (f_X22_init a0 a1) := by
  refine CT_of (ls := [(0, .ref a0), (1, .ref a1)]) (by decide) (Nat.le_of_ble_eq_true rfl) rfl ?_
  intro X h he z hX hf C E hnm hh
  have hl := hle.rf he
  subst hX
  unfold f_X22_init at hf
  refine v_aload_n C 0 dX22_init_0 rfl rfl ?_
  refine v_objInit C q1463 q147 q148 (Nat.le_of_ble_eq_true rfl) (Nat.le_of_ble_eq_true rfl) dX22_init_1 ?_
  refine v_aload_n C 0 dX22_init_4 rfl rfl ?_
  refine v_bipush (x := 6) C dX22_init_5 (by decide) ?_
  refine v_newarrayint C hf hl q234 dX22_init_7 (fun x1 h2 hf => ?_)
  refine v_putvF (Cn := RX22) (T := TX22) (N := 2) (ty0 := tyX22) C hf in_X22 tyX22_ok nmX22 rfl (by decide) q1465 rfl rfl rfl hnm rfl rfl dX22_init_9 (fun h3 hf => ?_)
  refine v_aload_n C 0 dX22_init_12 rfl rfl ?_
  refine v_aload_n C 1 dX22_init_13 rfl rfl ?_
  refine v_putvF (Cn := RX22) (T := TX22) (N := 2) (ty0 := tyX22) C hf in_X22 tyX22_ok nmX22 rfl (by decide) q1464 rfl rfl rfl hnm rfl rfl dX22_init_14 (fun h4 hf => ?_)
  exact v_vret C E hf dX22_init_17
def f_X22_many (a0 : Nat) : hM Int32 :=
  mret (4096 : Int32)
theorem nd_X22_many : yX22_many.cls ≠ "java/lang/invoke/MethodHandle" ∧ yX22_many.cls ≠ "java/lang/invoke/VarHandle" ∧ (parseMethodDescriptor yX22_many.desc).map (fun d => d.parameters.length) = some 0 := by decide +kernel
set_option maxHeartbeats 4000000 in
theorem ct_X22_many (l : Launch) (a0 : Nat) : CT l yX22_many cX22_many 1 (some .int) 0 0 rvI [.ref a0] (f_X22_many a0) := by
  refine CT_of (ls := [(0, .ref a0)]) (by decide) (Nat.le_of_ble_eq_true rfl) rfl ?_
  intro X h he z hX hf C E hnm hh
  have hl := hle.rf he
  subst hX
  unfold f_X22_many at hf
  refine v_sipush (x := 4096) C dX22_many_0 (by decide) ?_
  exact v_iret C E hf dX22_many_3
def f_X22_isThere (a0 : Nat) (i1 : Int32) : hM Int32 :=
  mb (gR a0 18 0) fun x1 => mb (gR x1 1 6) fun x2 => mb (aI 1 x2 i1) fun x3 => mb (mi (0 ≤ x3) (mret (0 : Int32)) (mret (1 : Int32))) fun x4 => mrt .boolean x4
theorem nd_X22_isThere : yX22_isThere.cls ≠ "java/lang/invoke/MethodHandle" ∧ yX22_isThere.cls ≠ "java/lang/invoke/VarHandle" ∧ (parseMethodDescriptor yX22_isThere.desc).map (fun d => d.parameters.length) = some 1 := by decide +kernel
set_option maxHeartbeats 4000000 in
theorem ct_X22_isThere (l : Launch) (a0 : Nat) (i1 : Int32) : CT l yX22_isThere cX22_isThere 2 (some .boolean) 0 0 rvI [.ref a0, .int i1] (f_X22_isThere a0 i1) := by
  refine CT_of (ls := [(0, .ref a0), (1, .int i1)]) (by decide) (Nat.le_of_ble_eq_true rfl) rfl ?_
  intro X h he z hX hf C E hnm hh
  have hl := hle.rf he
  subst hX
  unfold f_X22_isThere at hf
  refine v_aload_n C 0 dX22_isThere_0 rfl rfl ?_
  refine v_gR (Cn := RX22) (T := TX22) (N := 2) C hf in_X22 rfl (by decide) q1464 rfl dX22_isThere_1 (fun x1 hf => ?_)
  refine v_gRN (Cn := RX1) (T := TX1) (N := 10) C hf in_X1 rfl (by decide) q208 rfl dX22_isThere_4 (fun x2 hf => ?_)
  refine v_iload_n C 1 dX22_isThere_7 rfl rfl ?_
  refine v_iaload C hf dX22_isThere_8 (fun x3 hf => ?_)
  obtain ⟨x4, h5, hAh5, hf, hlh5⟩ := mb_inv hf hl
  refine v_cut (h1 := h5) (pc1 := 17) (ls1 := []) (st1 := [.int x4]) ?_ (fun Jh5 => ?_)
  · clear hAh5 hlh5
    exact v_zret C E hf dX22_isThere_17
  · clear hf
    have hf := hAh5
    have hl := hlh5
    refine v_if_ge C hf (tgt := 16) dX22_isThere_9 (by decide) (fun c9 hf => ?_) (fun c9 hf => ?_)
    · refine v_iconst (x := 0) C dX22_isThere_16 (by decide) ?_
      obtain ⟨e1, rfl⟩ := mret_inv hf
      subst e1
      exact v_sub (ls' := _) [] rfl Jh5
    · refine v_iconst (x := 1) C dX22_isThere_12 (by decide) ?_
      refine v_goto (tgt := 17) C dX22_isThere_13 (by decide) ?_
      obtain ⟨e1, rfl⟩ := mret_inv hf
      subst e1
      exact v_sub (ls' := _) [] rfl Jh5
def f_X3_init (a0 : Nat) : hM Unit :=
  mb (newA 0 (24 : Int32)) fun x1 => mb (pF a0 3 0 (.ref x1)) fun _ => mb (newA 0 (24 : Int32)) fun x4 => mb (pF a0 3 1 (.ref x4)) fun _ => mret ()
theorem nd_X3_init : yX3_init.cls ≠ "java/lang/invoke/MethodHandle" ∧ yX3_init.cls ≠ "java/lang/invoke/VarHandle" ∧ (parseMethodDescriptor yX3_init.desc).map (fun d => d.parameters.length) = some 0 := by decide +kernel
set_option maxHeartbeats 4000000 in
theorem ct_X3_init (l : Launch) (a0 : Nat) : CT l yX3_init cX3_init 1 none 1 12 rv0 [.ref a0] (f_X3_init a0) := by
  refine CT_of (ls := [(0, .ref a0)]) (by decide) (Nat.le_of_ble_eq_true rfl) rfl ?_
  intro X h he z hX hf C E hnm hh
  have hl := hle.rf he
  subst hX
  unfold f_X3_init at hf
  refine v_aload_n C 0 dX3_init_0 rfl rfl ?_
  refine v_objInit C q247 q147 q148 (Nat.le_of_ble_eq_true rfl) (Nat.le_of_ble_eq_true rfl) dX3_init_1 ?_
  refine v_aload_n C 0 dX3_init_4 rfl rfl ?_
  refine v_bipush (x := 24) C dX3_init_5 (by decide) ?_
  refine v_newarraybyte C hf hl q256 dX3_init_7 (fun x1 h2 hf => ?_)
  refine v_putvF (Cn := RX3) (T := TX3) (N := 2) (ty0 := tyX3) C hf in_X3 tyX3_ok nmX3 rfl (by decide) q248 rfl rfl rfl hnm rfl rfl dX3_init_9 (fun h3 hf => ?_)
  refine v_aload_n C 0 dX3_init_12 rfl rfl ?_
  refine v_bipush (x := 24) C dX3_init_13 (by decide) ?_
  refine v_newarraybyte C hf hl q256 dX3_init_15 (fun x4 h5 hf => ?_)
  refine v_putvF (Cn := RX3) (T := TX3) (N := 2) (ty0 := tyX3) C hf in_X3 tyX3_ok nmX3 rfl (by decide) q250 rfl rfl rfl hnm rfl rfl dX3_init_17 (fun h6 hf => ?_)
  exact v_vret C E hf dX3_init_20
def f_X3_to (a0 : Nat) (i1 : Int32) : hM Int32 :=
  mb (gR a0 3 0) fun x1 => mb (aI 0 x1 i1) fun x2 => mret x2
theorem nd_X3_to : yX3_to.cls ≠ "java/lang/invoke/MethodHandle" ∧ yX3_to.cls ≠ "java/lang/invoke/VarHandle" ∧ (parseMethodDescriptor yX3_to.desc).map (fun d => d.parameters.length) = some 1 := by decide +kernel
set_option maxHeartbeats 4000000 in
theorem ct_X3_to (l : Launch) (a0 : Nat) (i1 : Int32) : CT l yX3_to cX3_to 2 (some .int) 0 0 rvI [.ref a0, .int i1] (f_X3_to a0 i1) := by
  refine CT_of (ls := [(0, .ref a0), (1, .int i1)]) (by decide) (Nat.le_of_ble_eq_true rfl) rfl ?_
  intro X h he z hX hf C E hnm hh
  have hl := hle.rf he
  subst hX
  unfold f_X3_to at hf
  refine v_aload_n C 0 dX3_to_0 rfl rfl ?_
  refine v_gR (Cn := RX3) (T := TX3) (N := 2) C hf in_X3 rfl (by decide) q248 rfl dX3_to_1 (fun x1 hf => ?_)
  refine v_iload_n C 1 dX3_to_4 rfl rfl ?_
  refine v_baload C hf dX3_to_5 (fun x2 hf => ?_)
  exact v_iret C E hf dX3_to_6
def l_X3_turnBack_2 (a0 : Nat) : Nat → Int32 → hM (Unit)
  | 0, _ => mfail
  | n + 1, i1 => mi ((24 : Int32) ≤ i1) (mret ()) (mb (gR a0 3 1) fun x1 => mb (gR a0 3 0) fun x2 => mb (aI 0 x2 i1) fun x3 => mb (sI 0 x1 x3 i1.toInt8.toInt32) fun _ => l_X3_turnBack_2 a0 n (i1 + (1 : Int32)))
def f_X3_turnBack (a0 : Nat) : hM Unit :=
  mb (l_X3_turnBack_2 a0 FU (0 : Int32)) fun x5 => mret ()
theorem nd_X3_turnBack : yX3_turnBack.cls ≠ "java/lang/invoke/MethodHandle" ∧ yX3_turnBack.cls ≠ "java/lang/invoke/VarHandle" ∧ (parseMethodDescriptor yX3_turnBack.desc).map (fun d => d.parameters.length) = some 0 := by decide +kernel
set_option maxHeartbeats 4000000 in
theorem ct_X3_turnBack (l : Launch) (a0 : Nat) : CT l yX3_turnBack cX3_turnBack 2 none 0 0 rv0 [.ref a0] (f_X3_turnBack a0) := by
  refine CT_of (ls := [(0, .ref a0)]) (by decide) (Nat.le_of_ble_eq_true rfl) rfl ?_
  intro X h he z hX hf C E hnm hh
  have hl := hle.rf he
  subst hX
  have L2 : ∀ (a0 : Nat) (n : Nat) (i1 : Int32) (h h1 : Hp) (o : Unit), (l_X3_turnBack_2 a0 n i1).1 h = some (o, h1) → hle h1 he → V X h1 27 [] [] → V X h 2 [(0, .ref a0), (1, .int i1)] [] := by
    intro a0 n
    induction n with
    | zero => intro i1 h h1 o hf; exact mfail_inv hf
    | succ n ih =>
      intro i1 h h1 o hf hl J
      rw [l_X3_turnBack_2] at hf
      refine v_iload_n C 1 dX3_turnBack_2 rfl rfl ?_
      refine v_bipush (x := 24) C dX3_turnBack_3 (by decide) ?_
      refine v_icmp_ge C hf (tgt := 27) dX3_turnBack_5 (by decide) (fun c5 hf => ?_) (fun c5 hf => ?_)
      · obtain ⟨e1, rfl⟩ := mret_inv hf
        subst e1
        exact v_sub (ls' := _) [] rfl J
      · refine v_aload_n C 0 dX3_turnBack_8 rfl rfl ?_
        refine v_gR (Cn := RX3) (T := TX3) (N := 2) C hf in_X3 rfl (by decide) q250 rfl dX3_turnBack_9 (fun x1 hf => ?_)
        refine v_aload_n C 0 dX3_turnBack_12 rfl rfl ?_
        refine v_gR (Cn := RX3) (T := TX3) (N := 2) C hf in_X3 rfl (by decide) q248 rfl dX3_turnBack_13 (fun x2 hf => ?_)
        refine v_iload_n C 1 dX3_turnBack_16 rfl rfl ?_
        refine v_baload C hf dX3_turnBack_17 (fun x3 hf => ?_)
        refine v_iload_n C 1 dX3_turnBack_18 rfl rfl ?_
        refine v_i2b C dX3_turnBack_19 ?_
        refine v_bastore C hf dX3_turnBack_20 (fun h4 hf => ?_)
        refine v_iinc (ls' := [(1, _), (0, _)]) (y := i1 + (1 : Int32)) C 1 dX3_turnBack_21 rfl rfl (by decide) rfl ?_
        refine v_goto (tgt := 2) C dX3_turnBack_24 (by decide) ?_
        refine v_sub (ls' := _) [1, 0] rfl (ih (i1 + (1 : Int32)) _ _ _ hf hl J)
  unfold f_X3_turnBack at hf
  refine v_iconst (x := 0) C dX3_turnBack_0 (by decide) ?_
  refine v_istore_n (ls' := [(1, _), (0, _)]) C dX3_turnBack_1 rfl (by decide) rfl ?_
  obtain ⟨x5, h6, eh6, hf, hlh6⟩ := mb_inv hf hl
  refine v_sub (ls' := _) [1, 0] rfl (L2 a0 FU (0 : Int32) _ _ _ eh6 hlh6 ?_)
  exact v_vret C E hf dX3_turnBack_27
def l_X3_staying_4 (a0 : Nat) : Nat → Int32 → Int32 → hM (Int32)
  | 0, _, _ => mfail
  | n + 1, i1, i2 => mi ((24 : Int32) ≤ i2) (mret i1) (mb (gR a0 3 0) fun x1 => mb (aI 0 x1 i2) fun x2 => mb (mi (¬ x2 = i2) (mret (0 : Int32)) (mret (1 : Int32))) fun x3 => l_X3_staying_4 a0 n (i1 + x3) (i2 + (1 : Int32)))
def f_X3_staying (a0 : Nat) : hM Int32 :=
  mb (l_X3_staying_4 a0 FU (0 : Int32) (0 : Int32)) fun x5 => mret x5
theorem nd_X3_staying : yX3_staying.cls ≠ "java/lang/invoke/MethodHandle" ∧ yX3_staying.cls ≠ "java/lang/invoke/VarHandle" ∧ (parseMethodDescriptor yX3_staying.desc).map (fun d => d.parameters.length) = some 0 := by decide +kernel
set_option maxHeartbeats 4000000 in
theorem ct_X3_staying (l : Launch) (a0 : Nat) : CT l yX3_staying cX3_staying 3 (some .int) 0 0 rvI [.ref a0] (f_X3_staying a0) := by
  refine CT_of (ls := [(0, .ref a0)]) (by decide) (Nat.le_of_ble_eq_true rfl) rfl ?_
  intro X h he z hX hf C E hnm hh
  have hl := hle.rf he
  subst hX
  have L4 : ∀ (a0 : Nat) (n : Nat) (i1 : Int32) (i2 : Int32) (h h1 : Hp) (o : Int32), (l_X3_staying_4 a0 n i1 i2).1 h = some (o, h1) → hle h1 he → V X h1 34 [(1, .int o)] [] → V X h 4 [(0, .ref a0), (1, .int i1), (2, .int i2)] [] := by
    intro a0 n
    induction n with
    | zero => intro i1 i2 h h1 o hf; exact mfail_inv hf
    | succ n ih =>
      intro i1 i2 h h1 o hf hl J
      rw [l_X3_staying_4] at hf
      refine v_iload_n C 2 dX3_staying_4 rfl rfl ?_
      refine v_bipush (x := 24) C dX3_staying_5 (by decide) ?_
      refine v_icmp_ge C hf (tgt := 34) dX3_staying_7 (by decide) (fun c7 hf => ?_) (fun c7 hf => ?_)
      · obtain ⟨e1, rfl⟩ := mret_inv hf
        subst e1
        exact v_sub (ls' := _) [1] rfl J
      · refine v_iload_n C 1 dX3_staying_10 rfl rfl ?_
        refine v_aload_n C 0 dX3_staying_11 rfl rfl ?_
        refine v_gR (Cn := RX3) (T := TX3) (N := 2) C hf in_X3 rfl (by decide) q248 rfl dX3_staying_12 (fun x1 hf => ?_)
        refine v_iload_n C 2 dX3_staying_15 rfl rfl ?_
        refine v_baload C hf dX3_staying_16 (fun x2 hf => ?_)
        refine v_iload_n C 2 dX3_staying_17 rfl rfl ?_
        obtain ⟨x3, h4, hAh4, hf, hlh4⟩ := mb_inv hf hl
        refine v_cut (h1 := h4) (pc1 := 26) (ls1 := [(0, .ref a0), (2, .int i2)]) (st1 := [.int x3, .int i1]) ?_ (fun Jh4 => ?_)
        · clear hAh4 hlh4
          refine v_iadd C dX3_staying_26 ?_
          refine v_istore_n (ls' := [(1, _), (0, _), (2, _)]) C dX3_staying_27 rfl (by decide) rfl ?_
          refine v_iinc (ls' := [(2, _), (1, _), (0, _)]) (y := i2 + (1 : Int32)) C 2 dX3_staying_28 rfl rfl (by decide) rfl ?_
          refine v_goto (tgt := 4) C dX3_staying_31 (by decide) ?_
          refine v_sub (ls' := _) [2, 1, 0] rfl (ih (i1 + x3) (i2 + (1 : Int32)) _ _ _ hf hl J)
        · clear hf
          have hf := hAh4
          have hl := hlh4
          refine v_icmp_ne C hf (tgt := 25) dX3_staying_18 (by decide) (fun c18 hf => ?_) (fun c18 hf => ?_)
          · refine v_iconst (x := 0) C dX3_staying_25 (by decide) ?_
            obtain ⟨e1, rfl⟩ := mret_inv hf
            subst e1
            exact v_sub (ls' := _) [0, 2] rfl Jh4
          · refine v_iconst (x := 1) C dX3_staying_21 (by decide) ?_
            refine v_goto (tgt := 26) C dX3_staying_22 (by decide) ?_
            obtain ⟨e1, rfl⟩ := mret_inv hf
            subst e1
            exact v_sub (ls' := _) [0, 2] rfl Jh4
  unfold f_X3_staying at hf
  refine v_iconst (x := 0) C dX3_staying_0 (by decide) ?_
  refine v_istore_n (ls' := [(1, _), (0, _)]) C dX3_staying_1 rfl (by decide) rfl ?_
  refine v_iconst (x := 0) C dX3_staying_2 (by decide) ?_
  refine v_istore_n (ls' := [(2, _), (1, _), (0, _)]) C dX3_staying_3 rfl (by decide) rfl ?_
  obtain ⟨x5, h6, eh6, hf, hlh6⟩ := mb_inv hf hl
  refine v_sub (ls' := _) [2, 1, 0] rfl (L4 a0 FU (0 : Int32) (0 : Int32) _ _ _ eh6 hlh6 ?_)
  refine v_iload_n C 0 dX3_staying_34 rfl rfl ?_
  exact v_iret C E hf dX3_staying_35
def l_X3_common_4  : Nat → Int32 → Int32 → hM (Int32)
  | 0, _, _ => mfail
  | n + 1, i2, i3 => mi (i3 = 0) (mret i2) (mb (mrem i2 i3) fun x1 => l_X3_common_4 n i3 x1)
def f_X3_common (i0 : Int32) (i1 : Int32) : hM Int32 :=
  mb (l_X3_common_4 FU i0 i1) fun x2 => mret x2
theorem nd_X3_common : yX3_common.cls ≠ "java/lang/invoke/MethodHandle" ∧ yX3_common.cls ≠ "java/lang/invoke/VarHandle" ∧ (parseMethodDescriptor yX3_common.desc).map (fun d => d.parameters.length) = some 2 := by decide +kernel
set_option maxHeartbeats 4000000 in
theorem ct_X3_common (l : Launch) (i0 : Int32) (i1 : Int32) : CT l yX3_common cX3_common 5 (some .int) 0 0 rvI [.int i0, .int i1] (f_X3_common i0 i1) := by
  refine CT_of (ls := [(0, .int i0), (1, .int i1)]) (by decide) (Nat.le_of_ble_eq_true rfl) rfl ?_
  intro X h he z hX hf C E hnm hh
  have hl := hle.rf he
  subst hX
  have L4 : ∀  (n : Nat) (i2 : Int32) (i3 : Int32) (h h1 : Hp) (o : Int32), (l_X3_common_4 n i2 i3).1 h = some (o, h1) → hle h1 he → V X h1 21 [(2, .int o)] [] → V X h 4 [(2, .int i2), (3, .int i3)] [] := by
    intro  n
    induction n with
    | zero => intro i2 i3 h h1 o hf; exact mfail_inv hf
    | succ n ih =>
      intro i2 i3 h h1 o hf hl J
      rw [l_X3_common_4] at hf
      refine v_iload_n C 1 dX3_common_4 rfl rfl ?_
      refine v_if_eq C hf (tgt := 21) dX3_common_5 (by decide) (fun c5 hf => ?_) (fun c5 hf => ?_)
      · obtain ⟨e1, rfl⟩ := mret_inv hf
        subst e1
        exact v_sub (ls' := _) [0] rfl J
      · refine v_iload_n C 0 dX3_common_8 rfl rfl ?_
        refine v_iload_n C 1 dX3_common_9 rfl rfl ?_
        refine v_irem C hf dX3_common_10 (fun x1 hf => ?_)
        refine v_istore (ls' := [(4, _), (2, _), (3, _)]) C dX3_common_11 (by decide) rfl ?_
        refine v_iload_n C 2 dX3_common_13 rfl rfl ?_
        refine v_istore_n (ls' := [(2, _), (4, _), (3, _)]) C dX3_common_14 rfl (by decide) rfl ?_
        refine v_iload C 1 dX3_common_15 rfl ?_
        refine v_istore_n (ls' := [(3, _), (2, _), (4, _)]) C dX3_common_17 rfl (by decide) rfl ?_
        refine v_goto (tgt := 4) C dX3_common_18 (by decide) ?_
        refine v_sub (ls' := _) [1, 0] rfl (ih i3 x1 _ _ _ hf hl J)
  unfold f_X3_common at hf
  refine v_iload_n C 0 dX3_common_0 rfl rfl ?_
  refine v_istore_n (ls' := [(2, _), (0, _), (1, _)]) C dX3_common_1 rfl (by decide) rfl ?_
  refine v_iload_n C 2 dX3_common_2 rfl rfl ?_
  refine v_istore_n (ls' := [(3, _), (2, _), (0, _), (1, _)]) C dX3_common_3 rfl (by decide) rfl ?_
  obtain ⟨x2, h3, eh3, hf, hlh3⟩ := mb_inv hf hl
  refine v_sub (ls' := _) [1, 0] rfl (L4  FU i0 i1 _ _ _ eh3 hlh3 ?_)
  refine v_iload_n C 0 dX3_common_21 rfl rfl ?_
  exact v_iret C E hf dX3_common_22
def l_X3_unlike_4 (a0 : Nat) (a1 : Nat) : Nat → Int32 → Int32 → hM (Int32)
  | 0, _, _ => mfail
  | n + 1, i2, i3 => mi ((24 : Int32) ≤ i3) (mret i2) (mb (gR a0 3 0) fun x1 => mb (aI 0 x1 i3) fun x2 => mb (gR a1 3 0) fun x3 => mb (aI 0 x3 i3) fun x4 => mb (mi (¬ x2 = x4) (mret (1 : Int32)) (mret (0 : Int32))) fun x5 => l_X3_unlike_4 a0 a1 n (i2 + x5) (i3 + (1 : Int32)))
def f_X3_unlike (a0 : Nat) (a1 : Nat) : hM Int32 :=
  mb (l_X3_unlike_4 a0 a1 FU (0 : Int32) (0 : Int32)) fun x7 => mret x7
theorem nd_X3_unlike : yX3_unlike.cls ≠ "java/lang/invoke/MethodHandle" ∧ yX3_unlike.cls ≠ "java/lang/invoke/VarHandle" ∧ (parseMethodDescriptor yX3_unlike.desc).map (fun d => d.parameters.length) = some 1 := by decide +kernel
set_option maxHeartbeats 4000000 in
theorem ct_X3_unlike (l : Launch) (a0 : Nat) (a1 : Nat) : CT l yX3_unlike cX3_unlike 4 (some .int) 0 0 rvI [.ref a0, .ref a1] (f_X3_unlike a0 a1) := by
  refine CT_of (ls := [(0, .ref a0), (1, .ref a1)]) (by decide) (Nat.le_of_ble_eq_true rfl) rfl ?_
  intro X h he z hX hf C E hnm hh
  have hl := hle.rf he
  subst hX
  have L4 : ∀ (a0 : Nat) (a1 : Nat) (n : Nat) (i2 : Int32) (i3 : Int32) (h h1 : Hp) (o : Int32), (l_X3_unlike_4 a0 a1 n i2 i3).1 h = some (o, h1) → hle h1 he → V X h1 39 [(2, .int o)] [] → V X h 4 [(0, .ref a0), (1, .ref a1), (2, .int i2), (3, .int i3)] [] := by
    intro a0 a1 n
    induction n with
    | zero => intro i2 i3 h h1 o hf; exact mfail_inv hf
    | succ n ih =>
      intro i2 i3 h h1 o hf hl J
      rw [l_X3_unlike_4] at hf
      refine v_iload_n C 3 dX3_unlike_4 rfl rfl ?_
      refine v_bipush (x := 24) C dX3_unlike_5 (by decide) ?_
      refine v_icmp_ge C hf (tgt := 39) dX3_unlike_7 (by decide) (fun c7 hf => ?_) (fun c7 hf => ?_)
      · obtain ⟨e1, rfl⟩ := mret_inv hf
        subst e1
        exact v_sub (ls' := _) [2] rfl J
      · refine v_iload_n C 2 dX3_unlike_10 rfl rfl ?_
        refine v_aload_n C 0 dX3_unlike_11 rfl rfl ?_
        refine v_gR (Cn := RX3) (T := TX3) (N := 2) C hf in_X3 rfl (by decide) q248 rfl dX3_unlike_12 (fun x1 hf => ?_)
        refine v_iload_n C 3 dX3_unlike_15 rfl rfl ?_
        refine v_baload C hf dX3_unlike_16 (fun x2 hf => ?_)
        refine v_aload_n C 1 dX3_unlike_17 rfl rfl ?_
        refine v_gR (Cn := RX3) (T := TX3) (N := 2) C hf in_X3 rfl (by decide) q248 rfl dX3_unlike_18 (fun x3 hf => ?_)
        refine v_iload_n C 3 dX3_unlike_21 rfl rfl ?_
        refine v_baload C hf dX3_unlike_22 (fun x4 hf => ?_)
        obtain ⟨x5, h6, hAh6, hf, hlh6⟩ := mb_inv hf hl
        refine v_cut (h1 := h6) (pc1 := 31) (ls1 := [(0, .ref a0), (1, .ref a1), (3, .int i3)]) (st1 := [.int x5, .int i2]) ?_ (fun Jh6 => ?_)
        · clear hAh6 hlh6
          refine v_iadd C dX3_unlike_31 ?_
          refine v_istore_n (ls' := [(2, _), (0, _), (1, _), (3, _)]) C dX3_unlike_32 rfl (by decide) rfl ?_
          refine v_iinc (ls' := [(3, _), (2, _), (0, _), (1, _)]) (y := i3 + (1 : Int32)) C 3 dX3_unlike_33 rfl rfl (by decide) rfl ?_
          refine v_goto (tgt := 4) C dX3_unlike_36 (by decide) ?_
          refine v_sub (ls' := _) [2, 3, 1, 0] rfl (ih (i2 + x5) (i3 + (1 : Int32)) _ _ _ hf hl J)
        · clear hf
          have hf := hAh6
          have hl := hlh6
          refine v_icmp_ne C hf (tgt := 30) dX3_unlike_23 (by decide) (fun c23 hf => ?_) (fun c23 hf => ?_)
          · refine v_iconst (x := 1) C dX3_unlike_30 (by decide) ?_
            obtain ⟨e1, rfl⟩ := mret_inv hf
            subst e1
            exact v_sub (ls' := _) [0, 1, 3] rfl Jh6
          · refine v_iconst (x := 0) C dX3_unlike_26 (by decide) ?_
            refine v_goto (tgt := 31) C dX3_unlike_27 (by decide) ?_
            obtain ⟨e1, rfl⟩ := mret_inv hf
            subst e1
            exact v_sub (ls' := _) [0, 1, 3] rfl Jh6
  unfold f_X3_unlike at hf
  refine v_iconst (x := 0) C dX3_unlike_0 (by decide) ?_
  refine v_istore_n (ls' := [(2, _), (0, _), (1, _)]) C dX3_unlike_1 rfl (by decide) rfl ?_
  refine v_iconst (x := 0) C dX3_unlike_2 (by decide) ?_
  refine v_istore_n (ls' := [(3, _), (2, _), (0, _), (1, _)]) C dX3_unlike_3 rfl (by decide) rfl ?_
  obtain ⟨x7, h8, eh8, hf, hlh8⟩ := mb_inv hf hl
  refine v_sub (ls' := _) [2, 3, 1, 0] rfl (L4 a0 a1 FU (0 : Int32) (0 : Int32) _ _ _ eh8 hlh8 ?_)
  refine v_iload_n C 0 dX3_unlike_39 rfl rfl ?_
  exact v_iret C E hf dX3_unlike_40
def l_X3_thenBack_2 (a0 : Nat) (a1 : Nat) : Nat → Int32 → hM (Unit)
  | 0, _ => mfail
  | n + 1, i2 => mi ((24 : Int32) ≤ i2) (mret ()) (mb (gR a0 3 0) fun x1 => mb (gR a1 3 1) fun x2 => mb (gR a0 3 0) fun x3 => mb (aI 0 x3 i2) fun x4 => mb (aI 0 x2 x4) fun x5 => mb (sI 0 x1 i2 x5) fun _ => l_X3_thenBack_2 a0 a1 n (i2 + (1 : Int32)))
def f_X3_thenBack (a0 : Nat) (a1 : Nat) : hM Unit :=
  mb (l_X3_thenBack_2 a0 a1 FU (0 : Int32)) fun x7 => mret ()
theorem nd_X3_thenBack : yX3_thenBack.cls ≠ "java/lang/invoke/MethodHandle" ∧ yX3_thenBack.cls ≠ "java/lang/invoke/VarHandle" ∧ (parseMethodDescriptor yX3_thenBack.desc).map (fun d => d.parameters.length) = some 1 := by decide +kernel
set_option maxHeartbeats 4000000 in
theorem ct_X3_thenBack (l : Launch) (a0 : Nat) (a1 : Nat) : CT l yX3_thenBack cX3_thenBack 3 none 0 0 rv0 [.ref a0, .ref a1] (f_X3_thenBack a0 a1) := by
  refine CT_of (ls := [(0, .ref a0), (1, .ref a1)]) (by decide) (Nat.le_of_ble_eq_true rfl) rfl ?_
  intro X h he z hX hf C E hnm hh
  have hl := hle.rf he
  subst hX
  have L2 : ∀ (a0 : Nat) (a1 : Nat) (n : Nat) (i2 : Int32) (h h1 : Hp) (o : Unit), (l_X3_thenBack_2 a0 a1 n i2).1 h = some (o, h1) → hle h1 he → V X h1 31 [] [] → V X h 2 [(0, .ref a0), (1, .ref a1), (2, .int i2)] [] := by
    intro a0 a1 n
    induction n with
    | zero => intro i2 h h1 o hf; exact mfail_inv hf
    | succ n ih =>
      intro i2 h h1 o hf hl J
      rw [l_X3_thenBack_2] at hf
      refine v_iload_n C 2 dX3_thenBack_2 rfl rfl ?_
      refine v_bipush (x := 24) C dX3_thenBack_3 (by decide) ?_
      refine v_icmp_ge C hf (tgt := 31) dX3_thenBack_5 (by decide) (fun c5 hf => ?_) (fun c5 hf => ?_)
      · obtain ⟨e1, rfl⟩ := mret_inv hf
        subst e1
        exact v_sub (ls' := _) [] rfl J
      · refine v_aload_n C 0 dX3_thenBack_8 rfl rfl ?_
        refine v_gR (Cn := RX3) (T := TX3) (N := 2) C hf in_X3 rfl (by decide) q248 rfl dX3_thenBack_9 (fun x1 hf => ?_)
        refine v_iload_n C 2 dX3_thenBack_12 rfl rfl ?_
        refine v_aload_n C 1 dX3_thenBack_13 rfl rfl ?_
        refine v_gR (Cn := RX3) (T := TX3) (N := 2) C hf in_X3 rfl (by decide) q250 rfl dX3_thenBack_14 (fun x2 hf => ?_)
        refine v_aload_n C 0 dX3_thenBack_17 rfl rfl ?_
        refine v_gR (Cn := RX3) (T := TX3) (N := 2) C hf in_X3 rfl (by decide) q248 rfl dX3_thenBack_18 (fun x3 hf => ?_)
        refine v_iload_n C 2 dX3_thenBack_21 rfl rfl ?_
        refine v_baload C hf dX3_thenBack_22 (fun x4 hf => ?_)
        refine v_baload C hf dX3_thenBack_23 (fun x5 hf => ?_)
        refine v_bastore C hf dX3_thenBack_24 (fun h6 hf => ?_)
        refine v_iinc (ls' := [(2, _), (0, _), (1, _)]) (y := i2 + (1 : Int32)) C 2 dX3_thenBack_25 rfl rfl (by decide) rfl ?_
        refine v_goto (tgt := 2) C dX3_thenBack_28 (by decide) ?_
        refine v_sub (ls' := _) [1, 2, 0] rfl (ih (i2 + (1 : Int32)) _ _ _ hf hl J)
  unfold f_X3_thenBack at hf
  refine v_iconst (x := 0) C dX3_thenBack_0 (by decide) ?_
  refine v_istore_n (ls' := [(2, _), (0, _), (1, _)]) C dX3_thenBack_1 rfl (by decide) rfl ?_
  obtain ⟨x7, h8, eh8, hf, hlh8⟩ := mb_inv hf hl
  refine v_sub (ls' := _) [1, 2, 0] rfl (L2 a0 a1 FU (0 : Int32) _ _ _ eh8 hlh8 ?_)
  exact v_vret C E hf dX3_thenBack_31
def f_X3_from (a0 : Nat) (i1 : Int32) : hM Int32 :=
  mb (gR a0 3 1) fun x1 => mb (aI 0 x1 i1) fun x2 => mret x2
theorem nd_X3_from : yX3_from.cls ≠ "java/lang/invoke/MethodHandle" ∧ yX3_from.cls ≠ "java/lang/invoke/VarHandle" ∧ (parseMethodDescriptor yX3_from.desc).map (fun d => d.parameters.length) = some 1 := by decide +kernel
set_option maxHeartbeats 4000000 in
theorem ct_X3_from (l : Launch) (a0 : Nat) (i1 : Int32) : CT l yX3_from cX3_from 2 (some .int) 0 0 rvI [.ref a0, .int i1] (f_X3_from a0 i1) := by
  refine CT_of (ls := [(0, .ref a0), (1, .int i1)]) (by decide) (Nat.le_of_ble_eq_true rfl) rfl ?_
  intro X h he z hX hf C E hnm hh
  have hl := hle.rf he
  subst hX
  unfold f_X3_from at hf
  refine v_aload_n C 0 dX3_from_0 rfl rfl ?_
  refine v_gR (Cn := RX3) (T := TX3) (N := 2) C hf in_X3 rfl (by decide) q250 rfl dX3_from_1 (fun x1 hf => ?_)
  refine v_iload_n C 1 dX3_from_4 rfl rfl ?_
  refine v_baload C hf dX3_from_5 (fun x2 hf => ?_)
  exact v_iret C E hf dX3_from_6
def l_X3_behind_2 (a0 : Nat) (a1 : Nat) : Nat → Int32 → hM (Unit)
  | 0, _ => mfail
  | n + 1, i2 => mi ((24 : Int32) ≤ i2) (mret ()) (mb (gR a0 3 1) fun x1 => mb (gR a0 3 0) fun x2 => mb (gR a1 3 0) fun x3 => mb (aI 0 x3 i2) fun x4 => mb (aI 0 x2 x4) fun x5 => mb (sI 0 x1 i2 x5) fun _ => l_X3_behind_2 a0 a1 n (i2 + (1 : Int32)))
def f_X3_behind (a0 : Nat) (a1 : Nat) : hM Unit :=
  mb (l_X3_behind_2 a0 a1 FU (0 : Int32)) fun x7 => mb (gR a0 3 1) fun x9 => mb (gR a0 3 0) fun x10 => mb (cpI 0 x9 (0 : Int32) x10 (0 : Int32) (24 : Int32)) fun _ => mb (mat a0 3 (f_X3_turnBack a0)) fun _ => mret ()
theorem nd_X3_behind : yX3_behind.cls ≠ "java/lang/invoke/MethodHandle" ∧ yX3_behind.cls ≠ "java/lang/invoke/VarHandle" ∧ (parseMethodDescriptor yX3_behind.desc).map (fun d => d.parameters.length) = some 1 := by decide +kernel
set_option maxHeartbeats 4000000 in
theorem ct_X3_behind (l : Launch) (a0 : Nat) (a1 : Nat) : CT l yX3_behind cX3_behind 3 none 1 21 rv0 [.ref a0, .ref a1] (f_X3_behind a0 a1) := by
  refine CT_of (ls := [(0, .ref a0), (1, .ref a1)]) (by decide) (Nat.le_of_ble_eq_true rfl) rfl ?_
  intro X h he z hX hf C E hnm hh
  have hl := hle.rf he
  subst hX
  have L2 : ∀ (a0 : Nat) (a1 : Nat) (n : Nat) (i2 : Int32) (h h1 : Hp) (o : Unit), (l_X3_behind_2 a0 a1 n i2).1 h = some (o, h1) → hle h1 he → V X h1 31 [(0, .ref a0)] [] → V X h 2 [(0, .ref a0), (1, .ref a1), (2, .int i2)] [] := by
    intro a0 a1 n
    induction n with
    | zero => intro i2 h h1 o hf; exact mfail_inv hf
    | succ n ih =>
      intro i2 h h1 o hf hl J
      rw [l_X3_behind_2] at hf
      refine v_iload_n C 2 dX3_behind_2 rfl rfl ?_
      refine v_bipush (x := 24) C dX3_behind_3 (by decide) ?_
      refine v_icmp_ge C hf (tgt := 31) dX3_behind_5 (by decide) (fun c5 hf => ?_) (fun c5 hf => ?_)
      · obtain ⟨e1, rfl⟩ := mret_inv hf
        subst e1
        exact v_sub (ls' := _) [0] rfl J
      · refine v_aload_n C 0 dX3_behind_8 rfl rfl ?_
        refine v_gR (Cn := RX3) (T := TX3) (N := 2) C hf in_X3 rfl (by decide) q250 rfl dX3_behind_9 (fun x1 hf => ?_)
        refine v_iload_n C 2 dX3_behind_12 rfl rfl ?_
        refine v_aload_n C 0 dX3_behind_13 rfl rfl ?_
        refine v_gR (Cn := RX3) (T := TX3) (N := 2) C hf in_X3 rfl (by decide) q248 rfl dX3_behind_14 (fun x2 hf => ?_)
        refine v_aload_n C 1 dX3_behind_17 rfl rfl ?_
        refine v_gR (Cn := RX3) (T := TX3) (N := 2) C hf in_X3 rfl (by decide) q248 rfl dX3_behind_18 (fun x3 hf => ?_)
        refine v_iload_n C 2 dX3_behind_21 rfl rfl ?_
        refine v_baload C hf dX3_behind_22 (fun x4 hf => ?_)
        refine v_baload C hf dX3_behind_23 (fun x5 hf => ?_)
        refine v_bastore C hf dX3_behind_24 (fun h6 hf => ?_)
        refine v_iinc (ls' := [(2, _), (0, _), (1, _)]) (y := i2 + (1 : Int32)) C 2 dX3_behind_25 rfl rfl (by decide) rfl ?_
        refine v_goto (tgt := 2) C dX3_behind_28 (by decide) ?_
        refine v_sub (ls' := _) [1, 2, 0] rfl (ih (i2 + (1 : Int32)) _ _ _ hf hl J)
  unfold f_X3_behind at hf
  refine v_iconst (x := 0) C dX3_behind_0 (by decide) ?_
  refine v_istore_n (ls' := [(2, _), (0, _), (1, _)]) C dX3_behind_1 rfl (by decide) rfl ?_
  obtain ⟨x7, h8, eh8, hf, hlh8⟩ := mb_inv hf hl
  refine v_sub (ls' := _) [1, 2, 0] rfl (L2 a0 a1 FU (0 : Int32) _ _ _ eh8 hlh8 ?_)
  refine v_aload_n C 0 dX3_behind_31 rfl rfl ?_
  refine v_gR (Cn := RX3) (T := TX3) (N := 2) C hf in_X3 rfl (by decide) q250 rfl dX3_behind_32 (fun x9 hf => ?_)
  refine v_iconst (x := 0) C dX3_behind_35 (by decide) ?_
  refine v_aload_n C 0 dX3_behind_36 rfl rfl ?_
  refine v_gR (Cn := RX3) (T := TX3) (N := 2) C hf in_X3 rfl (by decide) q248 rfl dX3_behind_37 (fun x10 hf => ?_)
  refine v_iconst (x := 0) C dX3_behind_40 (by decide) ?_
  refine v_bipush (x := 24) C dX3_behind_41 (by decide) ?_
  refine v_cpI C hf (by decide) (Nat.le_of_ble_eq_true rfl) (Nat.le_of_ble_eq_true rfl) q1684 q917 q916 q128 dX3_behind_43 (fun h11 hf => ?_)
  refine v_aload_n C 0 dX3_behind_46 rfl rfl ?_
  refine v_callV (stk := fun _ => []) C (ct_X3_turnBack _ a0) rfl ⟨rfl, nd_X3_turnBack⟩ rfl (Nat.le_of_ble_eq_true rfl) (Nat.le_of_ble_eq_true rfl) [] (Nat.le_of_ble_eq_true rfl) (fun _ => rfl) rfl q688 q690 qs6 q103 q691 hf hl dX3_behind_47 (fun x12 h13 hf => ?_)
  exact v_vret C E hf dX3_behind_50
def f_X4_text (a0 : Nat) : hM Nat :=
  mb (gR a0 4 0) fun x1 => mret x1
theorem nd_X4_text : yX4_text.cls ≠ "java/lang/invoke/MethodHandle" ∧ yX4_text.cls ≠ "java/lang/invoke/VarHandle" ∧ (parseMethodDescriptor yX4_text.desc).map (fun d => d.parameters.length) = some 0 := by decide +kernel
set_option maxHeartbeats 4000000 in
theorem ct_X4_text (l : Launch) (a0 : Nat) : CT l yX4_text cX4_text 1 (some (.object "java/lang/CharSequence")) 0 0 rvR [.ref a0] (f_X4_text a0) := by
  refine CT_of (ls := [(0, .ref a0)]) (by decide) (Nat.le_of_ble_eq_true rfl) rfl ?_
  intro X h he z hX hf C E hnm hh
  have hl := hle.rf he
  subst hX
  unfold f_X4_text at hf
  refine v_aload_n C 0 dX4_text_0 rfl rfl ?_
  refine v_gR (Cn := RX4) (T := TX4) (N := 2) C hf in_X4 rfl (by decide) q390 rfl dX4_text_1 (fun x1 hf => ?_)
  exact v_aret C E hf (Or.inl ⟨_, rfl⟩) dX4_text_4
def f_X4_at (a0 : Nat) : hM Int32 :=
  mb (gI a0 4 1) fun x1 => mret x1
theorem nd_X4_at : yX4_at.cls ≠ "java/lang/invoke/MethodHandle" ∧ yX4_at.cls ≠ "java/lang/invoke/VarHandle" ∧ (parseMethodDescriptor yX4_at.desc).map (fun d => d.parameters.length) = some 0 := by decide +kernel
set_option maxHeartbeats 4000000 in
theorem ct_X4_at (l : Launch) (a0 : Nat) : CT l yX4_at cX4_at 1 (some .int) 0 0 rvI [.ref a0] (f_X4_at a0) := by
  refine CT_of (ls := [(0, .ref a0)]) (by decide) (Nat.le_of_ble_eq_true rfl) rfl ?_
  intro X h he z hX hf C E hnm hh
  have hl := hle.rf he
  subst hX
  unfold f_X4_at at hf
  refine v_aload_n C 0 dX4_at_0 rfl rfl ?_
  refine v_gI (Cn := RX4) (T := TX4) (N := 2) C hf in_X4 rfl (by decide) q392 rfl dX4_at_1 (fun x1 hf => ?_)
  exact v_iret C E hf dX4_at_4
def f_X4_goOn (a0 : Nat) (i1 : Int32) : hM Unit :=
  mb (pF a0 4 1 (.int i1)) fun _ => mret ()
theorem nd_X4_goOn : yX4_goOn.cls ≠ "java/lang/invoke/MethodHandle" ∧ yX4_goOn.cls ≠ "java/lang/invoke/VarHandle" ∧ (parseMethodDescriptor yX4_goOn.desc).map (fun d => d.parameters.length) = some 1 := by decide +kernel
set_option maxHeartbeats 4000000 in
theorem ct_X4_goOn (l : Launch) (a0 : Nat) (i1 : Int32) : CT l yX4_goOn cX4_goOn 2 none 0 0 rv0 [.ref a0, .int i1] (f_X4_goOn a0 i1) := by
  refine CT_of (ls := [(0, .ref a0), (1, .int i1)]) (by decide) (Nat.le_of_ble_eq_true rfl) rfl ?_
  intro X h he z hX hf C E hnm hh
  have hl := hle.rf he
  subst hX
  unfold f_X4_goOn at hf
  refine v_aload_n C 0 dX4_goOn_0 rfl rfl ?_
  refine v_iload_n C 1 dX4_goOn_1 rfl rfl ?_
  refine v_putv (Cn := RX4) (T := TX4) (N := 2) (ty0 := tyX4) C hf in_X4 tyX4_ok nmX4 rfl (by decide) q392 rfl rfl rfl rfl dX4_goOn_2 (fun h1 hf => ?_)
  exact v_vret C E hf dX4_goOn_5
def l_X6_begin_5 (a0 : Nat) (a1 : Nat) (i2 : Int32) : Nat → Int32 → Int32 → hM (Int32)
  | 0, _, _ => mfail
  | n + 1, i3, i4 => mi (i2 ≤ i4) (mret i3) (mb (gR a0 6 0) fun x1 => mb (aR 7 x1 i4) fun x2 => mb (aI 1 a1 i4) fun x3 => mb (pF x2 8 0 (.int x3)) fun _ => mb (aI 1 a1 i4) fun x5 => l_X6_begin_5 a0 a1 i2 n (i3 ||| ((1 : Int32) <<< (x5 &&& 31))) (i4 + (1 : Int32)))
def l_X6_begin_46 (a0 : Nat) (i3 : Int32) : Nat → Int32 → Int32 → hM (Unit)
  | 0, _, _ => mfail
  | n + 1, i4, i5 => mi ((24 : Int32) ≤ i5) (mret ()) (mb (f_X0_has i3 i5) fun x8 => mb (mi (¬ x8 = 0) (mret i4) (mb (gR a0 6 0) fun x12 => mb (aR 7 x12 i4) fun x13 => mb (pF x13 8 0 (.int i5)) fun _ => mret (i4 + (1 : Int32)))) fun x10 => l_X6_begin_46 a0 i3 n x10 (i5 + (1 : Int32)))
def f_X6_begin (a0 : Nat) (a1 : Nat) (i2 : Int32) : hM Unit :=
  mb (l_X6_begin_5 a0 a1 i2 FU (0 : Int32) (0 : Int32)) fun x6 => mb (l_X6_begin_46 a0 x6 FU i2 (0 : Int32)) fun x15 => mb (pF a0 6 3 (.int (0 : Int32))) fun _ => mret ()
theorem nd_X6_begin : yX6_begin.cls ≠ "java/lang/invoke/MethodHandle" ∧ yX6_begin.cls ≠ "java/lang/invoke/VarHandle" ∧ (parseMethodDescriptor yX6_begin.desc).map (fun d => d.parameters.length) = some 2 := by decide +kernel
set_option maxHeartbeats 4000000 in
theorem ct_X6_begin (l : Launch) (a0 : Nat) (a1 : Nat) (i2 : Int32) : CT l yX6_begin cX6_begin 6 none 1 21 rv0 [.ref a0, .ref a1, .int i2] (f_X6_begin a0 a1 i2) := by
  refine CT_of (ls := [(0, .ref a0), (1, .ref a1), (2, .int i2)]) (by decide) (Nat.le_of_ble_eq_true rfl) rfl ?_
  intro X h he z hX hf C E hnm hh
  have hl := hle.rf he
  subst hX
  have L5 : ∀ (a0 : Nat) (a1 : Nat) (i2 : Int32) (n : Nat) (i3 : Int32) (i4 : Int32) (h h1 : Hp) (o : Int32), (l_X6_begin_5 a0 a1 i2 n i3 i4).1 h = some (o, h1) → hle h1 he → V X h1 40 [(0, .ref a0), (2, .int i2), (3, .int o)] [] → V X h 5 [(0, .ref a0), (1, .ref a1), (2, .int i2), (3, .int i3), (4, .int i4)] [] := by
    intro a0 a1 i2 n
    induction n with
    | zero => intro i3 i4 h h1 o hf; exact mfail_inv hf
    | succ n ih =>
      intro i3 i4 h h1 o hf hl J
      rw [l_X6_begin_5] at hf
      refine v_iload C 4 dX6_begin_5 rfl ?_
      refine v_iload_n C 2 dX6_begin_7 rfl rfl ?_
      refine v_icmp_ge C hf (tgt := 40) dX6_begin_8 (by decide) (fun c8 hf => ?_) (fun c8 hf => ?_)
      · obtain ⟨e1, rfl⟩ := mret_inv hf
        subst e1
        exact v_sub (ls' := _) [0, 2, 3] rfl J
      · refine v_aload_n C 0 dX6_begin_11 rfl rfl ?_
        refine v_gR (Cn := RX6) (T := TX6) (N := 6) C hf in_X6 rfl (by decide) q466 rfl dX6_begin_12 (fun x1 hf => ?_)
        refine v_iload C 4 dX6_begin_15 rfl ?_
        refine v_aaload C hf (by decide) rfl dX6_begin_17 (fun x2 hf => ?_)
        refine v_aload_n C 1 dX6_begin_18 rfl rfl ?_
        refine v_iload C 4 dX6_begin_19 rfl ?_
        refine v_iaload C hf dX6_begin_21 (fun x3 hf => ?_)
        refine v_putvN (Cn := RX8) (T := TX8) (N := 5) (ty0 := tyX8) C hf in_X8 tyX8_ok nmX8 rfl (by decide) q446 rfl rfl rfl rfl dX6_begin_22 (fun h4 hf => ?_)
        refine v_iload_n C 3 dX6_begin_25 rfl rfl ?_
        refine v_iconst (x := 1) C dX6_begin_26 (by decide) ?_
        refine v_aload_n C 1 dX6_begin_27 rfl rfl ?_
        refine v_iload C 4 dX6_begin_28 rfl ?_
        refine v_iaload C hf dX6_begin_30 (fun x5 hf => ?_)
        refine v_ishl C dX6_begin_31 ?_
        refine v_ior C dX6_begin_32 ?_
        refine v_istore_n (ls' := [(3, _), (0, _), (1, _), (2, _), (4, _)]) C dX6_begin_33 rfl (by decide) rfl ?_
        refine v_iinc (ls' := [(4, _), (3, _), (0, _), (1, _), (2, _)]) (y := i4 + (1 : Int32)) C 4 dX6_begin_34 rfl rfl (by decide) rfl ?_
        refine v_goto (tgt := 5) C dX6_begin_37 (by decide) ?_
        refine v_sub (ls' := _) [2, 3, 4, 1, 0] rfl (ih (i3 ||| ((1 : Int32) <<< (x5 &&& 31))) (i4 + (1 : Int32)) _ _ _ hf hl J)
  have L46 : ∀ (a0 : Nat) (i3 : Int32) (n : Nat) (i4 : Int32) (i5 : Int32) (h h1 : Hp) (o : Unit), (l_X6_begin_46 a0 i3 n i4 i5).1 h = some (o, h1) → hle h1 he → V X h1 83 [(0, .ref a0)] [] → V X h 46 [(0, .ref a0), (3, .int i3), (4, .int i4), (5, .int i5)] [] := by
    intro a0 i3 n
    induction n with
    | zero => intro i4 i5 h h1 o hf; exact mfail_inv hf
    | succ n ih =>
      intro i4 i5 h h1 o hf hl J
      rw [l_X6_begin_46] at hf
      refine v_iload C 3 dX6_begin_46 rfl ?_
      refine v_bipush (x := 24) C dX6_begin_48 (by decide) ?_
      refine v_icmp_ge C hf (tgt := 83) dX6_begin_50 (by decide) (fun c50 hf => ?_) (fun c50 hf => ?_)
      · obtain ⟨e1, rfl⟩ := mret_inv hf
        subst e1
        exact v_sub (ls' := _) [0] rfl J
      · refine v_iload_n C 1 dX6_begin_53 rfl rfl ?_
        refine v_iload C 3 dX6_begin_54 rfl ?_
        refine v_callSN (stk := fun b => .int b :: []) C (ct_X0_has _ i3 i5) nd_X0_has rfl (Nat.le_of_ble_eq_true rfl) (Nat.le_of_ble_eq_true rfl) [] (Nat.le_of_ble_eq_true rfl) (fun _ => rfl) rfl q1390 q164 q96 q165 hf hl dX6_begin_56 (fun x8 h9 hf => ?_)
        obtain ⟨x10, h11, hAh11, hf, hlh11⟩ := mb_inv hf hl
        refine v_cut (h1 := h11) (pc1 := 77) (ls1 := [(0, .ref a0), (3, .int i3), (4, .int x10), (5, .int i5)]) (st1 := []) ?_ (fun Jh11 => ?_)
        · clear hAh11 hlh11
          refine v_iinc (ls' := [(5, _), (0, _), (3, _), (4, _)]) (y := i5 + (1 : Int32)) C 3 dX6_begin_77 rfl rfl (by decide) rfl ?_
          refine v_goto (tgt := 46) C dX6_begin_80 (by decide) ?_
          refine v_sub (ls' := _) [1, 2, 3, 0] rfl (ih x10 (i5 + (1 : Int32)) _ _ _ hf hl J)
        · clear hf
          have hf := hAh11
          have hl := hlh11
          refine v_if_ne C hf (tgt := 77) dX6_begin_59 (by decide) (fun c59 hf => ?_) (fun c59 hf => ?_)
          · obtain ⟨e1, rfl⟩ := mret_inv hf
            subst e1
            exact v_sub (ls' := _) [0, 1, 2, 3] rfl Jh11
          · refine v_aload_n C 0 dX6_begin_62 rfl rfl ?_
            refine v_gR (Cn := RX6) (T := TX6) (N := 6) C hf in_X6 rfl (by decide) q466 rfl dX6_begin_63 (fun x12 hf => ?_)
            refine v_iload C 2 dX6_begin_66 rfl ?_
            refine v_aaload C hf (by decide) rfl dX6_begin_68 (fun x13 hf => ?_)
            refine v_iload C 3 dX6_begin_69 rfl ?_
            refine v_putvN (Cn := RX8) (T := TX8) (N := 5) (ty0 := tyX8) C hf in_X8 tyX8_ok nmX8 rfl (by decide) q446 rfl rfl rfl rfl dX6_begin_71 (fun h14 hf => ?_)
            refine v_iinc (ls' := [(4, _), (0, _), (3, _), (5, _)]) (y := i4 + (1 : Int32)) C 2 dX6_begin_74 rfl rfl (by decide) rfl ?_
            obtain ⟨e1, rfl⟩ := mret_inv hf
            subst e1
            exact v_sub (ls' := _) [1, 2, 0, 3] rfl Jh11
  unfold f_X6_begin at hf
  refine v_iconst (x := 0) C dX6_begin_0 (by decide) ?_
  refine v_istore_n (ls' := [(3, _), (0, _), (1, _), (2, _)]) C dX6_begin_1 rfl (by decide) rfl ?_
  refine v_iconst (x := 0) C dX6_begin_2 (by decide) ?_
  refine v_istore (ls' := [(4, _), (3, _), (0, _), (1, _), (2, _)]) C dX6_begin_3 (by decide) rfl ?_
  obtain ⟨x6, h7, eh7, hf, hlh7⟩ := mb_inv hf hl
  refine v_sub (ls' := _) [2, 3, 4, 1, 0] rfl (L5 a0 a1 i2 FU (0 : Int32) (0 : Int32) _ _ _ eh7 hlh7 ?_)
  refine v_iload_n C 1 dX6_begin_40 rfl rfl ?_
  refine v_istore (ls' := [(4, _), (0, _), (2, _), (3, _)]) C dX6_begin_41 (by decide) rfl ?_
  refine v_iconst (x := 0) C dX6_begin_43 (by decide) ?_
  refine v_istore (ls' := [(5, _), (4, _), (0, _), (2, _), (3, _)]) C dX6_begin_44 (by decide) rfl ?_
  obtain ⟨x15, h16, eh16, hf, hlh16⟩ := mb_inv hf hl
  refine v_sub (ls' := _) [2, 4, 1, 0] rfl (L46 a0 x6 FU i2 (0 : Int32) _ _ _ eh16 hlh16 ?_)
  refine v_aload_n C 0 dX6_begin_83 rfl rfl ?_
  refine v_iconst (x := 0) C dX6_begin_84 (by decide) ?_
  refine v_putv (Cn := RX6) (T := TX6) (N := 6) (ty0 := tyX6) C hf in_X6 tyX6_ok nmX6 rfl (by decide) q469 rfl rfl rfl rfl dX6_begin_85 (fun h17 hf => ?_)
  exact v_vret C E hf dX6_begin_88
def l_X6_depthOf_2 (a0 : Nat) (a1 : Nat) : Nat → Int32 → hM (Int32)
  | 0, _ => mfail
  | n + 1, i2 => mi ((24 : Int32) ≤ i2) (mret i2) (mb (gR a0 6 0) fun x1 => mb (aR 7 x1 i2) fun x2 => mb (gI x2 8 0) fun x3 => mb (mat a1 3 (f_X3_to a1 x3)) fun x4 => mb (gR a0 6 0) fun x6 => mb (aR 7 x6 i2) fun x7 => mb (gI x7 8 0) fun x8 => mi (¬ x4 = x8) (mret i2) (l_X6_depthOf_2 a0 a1 n (i2 + (1 : Int32))))
def f_X6_depthOf (a0 : Nat) (a1 : Nat) : hM Int32 :=
  mb (l_X6_depthOf_2 a0 a1 FU (0 : Int32)) fun x9 => mb (mi ((24 : Int32) ≤ x9) (mret (-4 : Int32)) (mret x9)) fun x11 => mret x11
theorem nd_X6_depthOf : yX6_depthOf.cls ≠ "java/lang/invoke/MethodHandle" ∧ yX6_depthOf.cls ≠ "java/lang/invoke/VarHandle" ∧ (parseMethodDescriptor yX6_depthOf.desc).map (fun d => d.parameters.length) = some 1 := by decide +kernel
set_option maxHeartbeats 4000000 in
theorem ct_X6_depthOf (l : Launch) (a0 : Nat) (a1 : Nat) : CT l yX6_depthOf cX6_depthOf 3 (some .int) 1 21 rvI [.ref a0, .ref a1] (f_X6_depthOf a0 a1) := by
  refine CT_of (ls := [(0, .ref a0), (1, .ref a1)]) (by decide) (Nat.le_of_ble_eq_true rfl) rfl ?_
  intro X h he z hX hf C E hnm hh
  have hl := hle.rf he
  subst hX
  have L2 : ∀ (a0 : Nat) (a1 : Nat) (n : Nat) (i2 : Int32) (h h1 : Hp) (o : Int32), (l_X6_depthOf_2 a0 a1 n i2).1 h = some (o, h1) → hle h1 he → V X h1 39 [(2, .int o)] [] → V X h 2 [(0, .ref a0), (1, .ref a1), (2, .int i2)] [] := by
    intro a0 a1 n
    induction n with
    | zero => intro i2 h h1 o hf; exact mfail_inv hf
    | succ n ih =>
      intro i2 h h1 o hf hl J
      rw [l_X6_depthOf_2] at hf
      refine v_iload_n C 2 dX6_depthOf_2 rfl rfl ?_
      refine v_bipush (x := 24) C dX6_depthOf_3 (by decide) ?_
      refine v_icmp_ge C hf (tgt := 39) dX6_depthOf_5 (by decide) (fun c5 hf => ?_) (fun c5 hf => ?_)
      · obtain ⟨e1, rfl⟩ := mret_inv hf
        subst e1
        exact v_sub (ls' := _) [2] rfl J
      · refine v_aload_n C 1 dX6_depthOf_8 rfl rfl ?_
        refine v_aload_n C 0 dX6_depthOf_9 rfl rfl ?_
        refine v_gR (Cn := RX6) (T := TX6) (N := 6) C hf in_X6 rfl (by decide) q466 rfl dX6_depthOf_10 (fun x1 hf => ?_)
        refine v_iload_n C 2 dX6_depthOf_13 rfl rfl ?_
        refine v_aaload C hf (by decide) rfl dX6_depthOf_14 (fun x2 hf => ?_)
        refine v_gIN (Cn := RX8) (T := TX8) (N := 5) C hf in_X8 rfl (by decide) q446 rfl dX6_depthOf_15 (fun x3 hf => ?_)
        refine v_callV (stk := fun b => .int b :: []) C (ct_X3_to _ a1 x3) rfl ⟨rfl, nd_X3_to⟩ rfl (Nat.le_of_ble_eq_true rfl) (Nat.le_of_ble_eq_true rfl) [] (Nat.le_of_ble_eq_true rfl) (fun _ => rfl) rfl q1399 q646 q2328 q103 q648 hf hl dX6_depthOf_18 (fun x4 h5 hf => ?_)
        refine v_aload_n C 0 dX6_depthOf_21 rfl rfl ?_
        refine v_gR (Cn := RX6) (T := TX6) (N := 6) C hf in_X6 rfl (by decide) q466 rfl dX6_depthOf_22 (fun x6 hf => ?_)
        refine v_iload_n C 2 dX6_depthOf_25 rfl rfl ?_
        refine v_aaload C hf (by decide) rfl dX6_depthOf_26 (fun x7 hf => ?_)
        refine v_gIN (Cn := RX8) (T := TX8) (N := 5) C hf in_X8 rfl (by decide) q446 rfl dX6_depthOf_27 (fun x8 hf => ?_)
        refine v_icmp_ne C hf (tgt := 39) dX6_depthOf_30 (by decide) (fun c30 hf => ?_) (fun c30 hf => ?_)
        · obtain ⟨e1, rfl⟩ := mret_inv hf
          subst e1
          exact v_sub (ls' := _) [2] rfl J
        · refine v_iinc (ls' := [(2, _), (0, _), (1, _)]) (y := i2 + (1 : Int32)) C 2 dX6_depthOf_33 rfl rfl (by decide) rfl ?_
          refine v_goto (tgt := 2) C dX6_depthOf_36 (by decide) ?_
          refine v_sub (ls' := _) [1, 2, 0] rfl (ih (i2 + (1 : Int32)) _ _ _ hf hl J)
  unfold f_X6_depthOf at hf
  refine v_iconst (x := 0) C dX6_depthOf_0 (by decide) ?_
  refine v_istore_n (ls' := [(2, _), (0, _), (1, _)]) C dX6_depthOf_1 rfl (by decide) rfl ?_
  obtain ⟨x9, h10, eh10, hf, hlh10⟩ := mb_inv hf hl
  refine v_sub (ls' := _) [1, 2, 0] rfl (L2 a0 a1 FU (0 : Int32) _ _ _ eh10 hlh10 ?_)
  refine v_iload_n C 0 dX6_depthOf_39 rfl rfl ?_
  refine v_bipush (x := 24) C dX6_depthOf_40 (by decide) ?_
  obtain ⟨x11, h12, hAh12, hf, hlh12⟩ := mb_inv hf hl
  refine v_cut (h1 := h12) (pc1 := 51) (ls1 := []) (st1 := [.int x11]) ?_ (fun Jh12 => ?_)
  · clear hAh12 hlh12
    exact v_iret C E hf dX6_depthOf_51
  · clear hf
    have hf := hAh12
    have hl := hlh12
    refine v_icmp_ge C hf (tgt := 49) dX6_depthOf_42 (by decide) (fun c42 hf => ?_) (fun c42 hf => ?_)
    · refine v_bipush (x := (-4)) C dX6_depthOf_49 (by decide) ?_
      obtain ⟨e1, rfl⟩ := mret_inv hf
      subst e1
      exact v_sub (ls' := _) [] rfl Jh12
    · refine v_iload_n C 0 dX6_depthOf_45 rfl rfl ?_
      refine v_goto (tgt := 51) C dX6_depthOf_46 (by decide) ?_
      obtain ⟨e1, rfl⟩ := mret_inv hf
      subst e1
      exact v_sub (ls' := _) [] rfl Jh12
def l_X6_sift_2 (a0 : Nat) : Nat → Int32 → hM ((Unit) ⊕ (Int32))
  | 0, _ => mfail
  | n + 1, i2 => mi ((24 : Int32) ≤ i2) (mret (Sum.inl ())) (mb (gR a0 6 4) fun x1 => mb (gR a0 6 0) fun x2 => mb (aR 7 x2 i2) fun x3 => mb (gI x3 8 0) fun x4 => mb (mat x1 3 (f_X3_to x1 x4)) fun x5 => mb (gR a0 6 0) fun x7 => mb (aR 7 x7 i2) fun x8 => mb (gI x8 8 3) fun x9 => mb (f_X0_has x9 x5) fun x10 => mi (¬ x10 = 0) (mb (gR a0 6 0) fun x12 => mb (aR 7 x12 i2) fun x13 => mb (gI x13 8 0) fun x14 => mb (mi (x5 = x14) (mret ()) (mb (gR a0 6 4) fun x16 => mb (gR a0 6 0) fun x17 => mb (aR 7 x17 i2) fun x18 => mb (gR x18 8 1) fun x19 => mb (aR 6 x19 x5) fun x20 => mb (mat x16 3 (f_X3_thenBack x16 x20)) fun _ => mret ())) fun _ => l_X6_sift_2 a0 n (i2 + (1 : Int32))) (mret (Sum.inr i2)))
def f_X6_sift (a0 : Nat) (i1 : Int32) : hM Int32 :=
  mbs (l_X6_sift_2 a0 FU i1) (fun x23 => mret (-4 : Int32)) id
theorem nd_X6_sift : yX6_sift.cls ≠ "java/lang/invoke/MethodHandle" ∧ yX6_sift.cls ≠ "java/lang/invoke/VarHandle" ∧ (parseMethodDescriptor yX6_sift.desc).map (fun d => d.parameters.length) = some 1 := by decide +kernel
set_option maxHeartbeats 4000000 in
theorem ct_X6_sift (l : Launch) (a0 : Nat) (i1 : Int32) : CT l yX6_sift cX6_sift 4 (some .int) 1 22 rvI [.ref a0, .int i1] (f_X6_sift a0 i1) := by
  refine CT_of (ls := [(0, .ref a0), (1, .int i1)]) (by decide) (Nat.le_of_ble_eq_true rfl) rfl ?_
  intro X h he z hX hf C E hnm hh
  have hl := hle.rf he
  subst hX
  have L2 : ∀ (a0 : Nat) (n : Nat) (i2 : Int32) (h h1 : Hp) (o : (Unit) ⊕ (Int32)), (l_X6_sift_2 a0 n i2).1 h = some (o, h1) → hle h1 he → (∀ b, o = Sum.inl b → V X h1 80 [] []) → (∀ c, o = Sum.inr c → (mret c).1 h1 = some (z, he)) → V X h 2 [(0, .ref a0), (2, .int i2)] [] := by
    intro a0 n
    induction n with
    | zero => intro i2 h h1 o hf; exact mfail_inv hf
    | succ n ih =>
      intro i2 h h1 o hf hl J hret
      rw [l_X6_sift_2] at hf
      refine v_iload_n C 1 dX6_sift_2 rfl rfl ?_
      refine v_bipush (x := 24) C dX6_sift_3 (by decide) ?_
      refine v_icmp_ge C hf (tgt := 80) dX6_sift_5 (by decide) (fun c5 hf => ?_) (fun c5 hf => ?_)
      · obtain ⟨e1, rfl⟩ := mret_inv hf
        subst e1
        exact v_sub (ls' := _) [] rfl (J _ rfl)
      · refine v_aload_n C 0 dX6_sift_8 rfl rfl ?_
        refine v_gR (Cn := RX6) (T := TX6) (N := 6) C hf in_X6 rfl (by decide) q470 rfl dX6_sift_9 (fun x1 hf => ?_)
        refine v_aload_n C 0 dX6_sift_12 rfl rfl ?_
        refine v_gR (Cn := RX6) (T := TX6) (N := 6) C hf in_X6 rfl (by decide) q466 rfl dX6_sift_13 (fun x2 hf => ?_)
        refine v_iload_n C 1 dX6_sift_16 rfl rfl ?_
        refine v_aaload C hf (by decide) rfl dX6_sift_17 (fun x3 hf => ?_)
        refine v_gIN (Cn := RX8) (T := TX8) (N := 5) C hf in_X8 rfl (by decide) q446 rfl dX6_sift_18 (fun x4 hf => ?_)
        refine v_callV (stk := fun b => .int b :: []) C (ct_X3_to _ x1 x4) rfl ⟨rfl, nd_X3_to⟩ rfl (Nat.le_of_ble_eq_true rfl) (Nat.le_of_ble_eq_true rfl) [] (Nat.le_of_ble_eq_true rfl) (fun _ => rfl) rfl q1399 q646 q2328 q103 q648 hf hl dX6_sift_21 (fun x5 h6 hf => ?_)
        refine v_istore_n (ls' := [(3, _), (0, _), (2, _)]) C dX6_sift_24 rfl (by decide) rfl ?_
        refine v_aload_n C 1 dX6_sift_25 rfl rfl ?_
        refine v_gR (Cn := RX6) (T := TX6) (N := 6) C hf in_X6 rfl (by decide) q466 rfl dX6_sift_26 (fun x7 hf => ?_)
        refine v_iload_n C 2 dX6_sift_29 rfl rfl ?_
        refine v_aaload C hf (by decide) rfl dX6_sift_30 (fun x8 hf => ?_)
        refine v_gIN (Cn := RX8) (T := TX8) (N := 5) C hf in_X8 rfl (by decide) q452 rfl dX6_sift_31 (fun x9 hf => ?_)
        refine v_iload_n C 0 dX6_sift_34 rfl rfl ?_
        refine v_callSN (stk := fun b => .int b :: []) C (ct_X0_has _ x9 x5) nd_X0_has rfl (Nat.le_of_ble_eq_true rfl) (Nat.le_of_ble_eq_true rfl) [] (Nat.le_of_ble_eq_true rfl) (fun _ => rfl) rfl q1390 q164 q96 q165 hf hl dX6_sift_35 (fun x10 h11 hf => ?_)
        refine v_if_ne C hf (tgt := 43) dX6_sift_38 (by decide) (fun c38 hf => ?_) (fun c38 hf => ?_)
        · refine v_iload_n C 0 dX6_sift_43 rfl rfl ?_
          refine v_aload_n C 1 dX6_sift_44 rfl rfl ?_
          refine v_gR (Cn := RX6) (T := TX6) (N := 6) C hf in_X6 rfl (by decide) q466 rfl dX6_sift_45 (fun x12 hf => ?_)
          refine v_iload_n C 2 dX6_sift_48 rfl rfl ?_
          refine v_aaload C hf (by decide) rfl dX6_sift_49 (fun x13 hf => ?_)
          refine v_gIN (Cn := RX8) (T := TX8) (N := 5) C hf in_X8 rfl (by decide) q446 rfl dX6_sift_50 (fun x14 hf => ?_)
          obtain ⟨_u, h15, hAh15, hf, hlh15⟩ := mb_inv hf hl
          refine v_cut (h1 := h15) (pc1 := 74) (ls1 := [(0, .ref a0), (2, .int i2)]) (st1 := []) ?_ (fun Jh15 => ?_)
          · clear hAh15 hlh15
            refine v_iinc (ls' := [(2, _), (0, _)]) (y := i2 + (1 : Int32)) C 1 dX6_sift_74 rfl rfl (by decide) rfl ?_
            refine v_goto (tgt := 2) C dX6_sift_77 (by decide) ?_
            refine v_sub (ls' := _) [1, 0] rfl (ih (i2 + (1 : Int32)) _ _ _ hf hl J hret)
          · clear hf
            have hf := hAh15
            have hl := hlh15
            refine v_icmp_eq C hf (tgt := 74) dX6_sift_53 (by decide) (fun c53 hf => ?_) (fun c53 hf => ?_)
            · obtain ⟨e1, rfl⟩ := mret_inv hf
              exact v_sub (ls' := _) [1, 2] rfl Jh15
            · refine v_aload_n C 1 dX6_sift_56 rfl rfl ?_
              refine v_gR (Cn := RX6) (T := TX6) (N := 6) C hf in_X6 rfl (by decide) q470 rfl dX6_sift_57 (fun x16 hf => ?_)
              refine v_aload_n C 1 dX6_sift_60 rfl rfl ?_
              refine v_gR (Cn := RX6) (T := TX6) (N := 6) C hf in_X6 rfl (by decide) q466 rfl dX6_sift_61 (fun x17 hf => ?_)
              refine v_iload_n C 2 dX6_sift_64 rfl rfl ?_
              refine v_aaload C hf (by decide) rfl dX6_sift_65 (fun x18 hf => ?_)
              refine v_gRN (Cn := RX8) (T := TX8) (N := 5) C hf in_X8 rfl (by decide) q448 rfl dX6_sift_66 (fun x19 hf => ?_)
              refine v_iload_n C 0 dX6_sift_69 rfl rfl ?_
              refine v_aaload C hf (by decide) rfl dX6_sift_70 (fun x20 hf => ?_)
              refine v_callV (stk := fun _ => []) C (ct_X3_thenBack _ x16 x20) rfl ⟨rfl, nd_X3_thenBack⟩ rfl (Nat.le_of_ble_eq_true rfl) (Nat.le_of_ble_eq_true rfl) [] (Nat.le_of_ble_eq_true rfl) (fun _ => rfl) rfl q1425 q1426 q1427 q103 q1428 hf hl dX6_sift_71 (fun x21 h22 hf => ?_)
              obtain ⟨e1, rfl⟩ := mret_inv hf
              exact v_sub (ls' := _) [1, 2] rfl Jh15
        · refine v_iload_n C 2 dX6_sift_41 rfl rfl ?_
          exact v_iret C E (mret_up hf hret) dX6_sift_42
  unfold f_X6_sift at hf
  refine v_iload_n C 1 dX6_sift_0 rfl rfl ?_
  refine v_istore_n (ls' := [(2, _), (0, _), (1, _)]) C dX6_sift_1 rfl (by decide) rfl ?_
  obtain ⟨ox23, h24, eh24, hlh24, hkh24, hrh24⟩ := mbs_inv hf hl
  refine v_sub (ls' := _) [1, 0] rfl (L2 a0 FU i1 _ _ _ eh24 hlh24 (fun x23 eo => ?_) hrh24)
  have hf := hkh24 x23 eo
  clear hkh24 hrh24
  refine v_bipush (x := (-4)) C dX6_sift_80 (by decide) ?_
  exact v_iret C E hf dX6_sift_82
def l_X6_order_4 (a0 : Nat) : Nat → Int32 → Int32 → hM (Int32)
  | 0, _, _ => mfail
  | n + 1, i2, i3 => mi ((24 : Int32) ≤ i3) (mret i2) (mb (gR a0 6 0) fun x1 => mb (aR 7 x1 i3) fun x2 => mb (gI x2 8 4) fun x3 => l_X6_order_4 a0 n (i2 * x3) (i3 + (1 : Int32)))
def f_X6_order (a0 : Nat) (i1 : Int32) : hM Int32 :=
  mb (l_X6_order_4 a0 FU (1 : Int32) i1) fun x4 => mret x4
theorem nd_X6_order : yX6_order.cls ≠ "java/lang/invoke/MethodHandle" ∧ yX6_order.cls ≠ "java/lang/invoke/VarHandle" ∧ (parseMethodDescriptor yX6_order.desc).map (fun d => d.parameters.length) = some 1 := by decide +kernel
set_option maxHeartbeats 4000000 in
theorem ct_X6_order (l : Launch) (a0 : Nat) (i1 : Int32) : CT l yX6_order cX6_order 4 (some .int) 0 0 rvI [.ref a0, .int i1] (f_X6_order a0 i1) := by
  refine CT_of (ls := [(0, .ref a0), (1, .int i1)]) (by decide) (Nat.le_of_ble_eq_true rfl) rfl ?_
  intro X h he z hX hf C E hnm hh
  have hl := hle.rf he
  subst hX
  have L4 : ∀ (a0 : Nat) (n : Nat) (i2 : Int32) (i3 : Int32) (h h1 : Hp) (o : Int32), (l_X6_order_4 a0 n i2 i3).1 h = some (o, h1) → hle h1 he → V X h1 28 [(2, .int o)] [] → V X h 4 [(0, .ref a0), (2, .int i2), (3, .int i3)] [] := by
    intro a0 n
    induction n with
    | zero => intro i2 i3 h h1 o hf; exact mfail_inv hf
    | succ n ih =>
      intro i2 i3 h h1 o hf hl J
      rw [l_X6_order_4] at hf
      refine v_iload_n C 2 dX6_order_4 rfl rfl ?_
      refine v_bipush (x := 24) C dX6_order_5 (by decide) ?_
      refine v_icmp_ge C hf (tgt := 28) dX6_order_7 (by decide) (fun c7 hf => ?_) (fun c7 hf => ?_)
      · obtain ⟨e1, rfl⟩ := mret_inv hf
        subst e1
        exact v_sub (ls' := _) [1] rfl J
      · refine v_iload_n C 1 dX6_order_10 rfl rfl ?_
        refine v_aload_n C 0 dX6_order_11 rfl rfl ?_
        refine v_gR (Cn := RX6) (T := TX6) (N := 6) C hf in_X6 rfl (by decide) q466 rfl dX6_order_12 (fun x1 hf => ?_)
        refine v_iload_n C 2 dX6_order_15 rfl rfl ?_
        refine v_aaload C hf (by decide) rfl dX6_order_16 (fun x2 hf => ?_)
        refine v_gIN (Cn := RX8) (T := TX8) (N := 5) C hf in_X8 rfl (by decide) q454 rfl dX6_order_17 (fun x3 hf => ?_)
        refine v_imul C dX6_order_20 ?_
        refine v_istore_n (ls' := [(2, _), (0, _), (3, _)]) C dX6_order_21 rfl (by decide) rfl ?_
        refine v_iinc (ls' := [(3, _), (2, _), (0, _)]) (y := i3 + (1 : Int32)) C 2 dX6_order_22 rfl rfl (by decide) rfl ?_
        refine v_goto (tgt := 4) C dX6_order_25 (by decide) ?_
        refine v_sub (ls' := _) [2, 1, 0] rfl (ih (i2 * x3) (i3 + (1 : Int32)) _ _ _ hf hl J)
  unfold f_X6_order at hf
  refine v_iconst (x := 1) C dX6_order_0 (by decide) ?_
  refine v_istore_n (ls' := [(2, _), (0, _), (1, _)]) C dX6_order_1 rfl (by decide) rfl ?_
  refine v_iload_n C 2 dX6_order_2 rfl rfl ?_
  refine v_istore_n (ls' := [(3, _), (2, _), (0, _), (1, _)]) C dX6_order_3 rfl (by decide) rfl ?_
  obtain ⟨x4, h5, eh5, hf, hlh5⟩ := mb_inv hf hl
  refine v_sub (ls' := _) [2, 1, 0] rfl (L4 a0 FU (1 : Int32) i1 _ _ _ eh5 hlh5 ?_)
  refine v_iload_n C 0 dX6_order_28 rfl rfl ?_
  exact v_iret C E hf dX6_order_29
def f_X7_init (a0 : Nat) : hM Unit :=
  mret ()
theorem nd_X7_init : yX7_init.cls ≠ "java/lang/invoke/MethodHandle" ∧ yX7_init.cls ≠ "java/lang/invoke/VarHandle" ∧ (parseMethodDescriptor yX7_init.desc).map (fun d => d.parameters.length) = some 0 := by decide +kernel
set_option maxHeartbeats 4000000 in
theorem ct_X7_init (l : Launch) (a0 : Nat) : CT l yX7_init cX7_init 1 none 1 12 rv0 [.ref a0] (f_X7_init a0) := by
  refine CT_of (ls := [(0, .ref a0)]) (by decide) (Nat.le_of_ble_eq_true rfl) rfl ?_
  intro X h he z hX hf C E hnm hh
  have hl := hle.rf he
  subst hX
  unfold f_X7_init at hf
  refine v_aload_n C 0 dX7_init_0 rfl rfl ?_
  refine v_objInit C q437 q147 q148 (Nat.le_of_ble_eq_true rfl) (Nat.le_of_ble_eq_true rfl) dX7_init_1 ?_
  exact v_vret C E hf dX7_init_4
def f_X7_to (a0 : Nat) (i1 : Int32) : hM Int32 :=
  mret i1
theorem nd_X7_to : yX7_to.cls ≠ "java/lang/invoke/MethodHandle" ∧ yX7_to.cls ≠ "java/lang/invoke/VarHandle" ∧ (parseMethodDescriptor yX7_to.desc).map (fun d => d.parameters.length) = some 1 := by decide +kernel
set_option maxHeartbeats 4000000 in
theorem ct_X7_to (l : Launch) (a0 : Nat) (i1 : Int32) : CT l yX7_to cX7_to 2 (some .int) 0 0 rvI [.ref a0, .int i1] (f_X7_to a0 i1) := by
  refine CT_of (ls := [(0, .ref a0), (1, .int i1)]) (by decide) (Nat.le_of_ble_eq_true rfl) rfl ?_
  intro X h he z hX hf C E hnm hh
  have hl := hle.rf he
  subst hX
  unfold f_X7_to at hf
  refine v_iload_n C 1 dX7_to_0 rfl rfl ?_
  exact v_iret C E hf dX7_to_1
def f_X8_init (a0 : Nat) : hM Unit :=
  mb (newA 6 (24 : Int32)) fun x1 => mb (pF a0 8 1 (.ref x1)) fun _ => mb (newA 1 (24 : Int32)) fun x4 => mb (pF a0 8 2 (.ref x4)) fun _ => mret ()
theorem nd_X8_init : yX8_init.cls ≠ "java/lang/invoke/MethodHandle" ∧ yX8_init.cls ≠ "java/lang/invoke/VarHandle" ∧ (parseMethodDescriptor yX8_init.desc).map (fun d => d.parameters.length) = some 0 := by decide +kernel
set_option maxHeartbeats 4000000 in
theorem ct_X8_init (l : Launch) (a0 : Nat) : CT l yX8_init cX8_init 1 none 1 12 rv0 [.ref a0] (f_X8_init a0) := by
  refine CT_of (ls := [(0, .ref a0)]) (by decide) (Nat.le_of_ble_eq_true rfl) rfl ?_
  intro X h he z hX hf C E hnm hh
  have hl := hle.rf he
  subst hX
  unfold f_X8_init at hf
  refine v_aload_n C 0 dX8_init_0 rfl rfl ?_
  refine v_objInit C q443 q147 q148 (Nat.le_of_ble_eq_true rfl) (Nat.le_of_ble_eq_true rfl) dX8_init_1 ?_
  refine v_aload_n C 0 dX8_init_4 rfl rfl ?_
  refine v_bipush (x := 24) C dX8_init_5 (by decide) ?_
  refine v_anewarray (kd := 6) (Cn := "EightBlocks$Move") C hf hl (by decide) (by decide) rfl q444 q242 dX8_init_7 (fun x1 h2 hf => ?_)
  refine v_putvF (Cn := RX8) (T := TX8) (N := 5) (ty0 := tyX8) C hf in_X8 tyX8_ok nmX8 rfl (by decide) q447 rfl rfl rfl hnm rfl rfl dX8_init_10 (fun h3 hf => ?_)
  refine v_aload_n C 0 dX8_init_13 rfl rfl ?_
  refine v_bipush (x := 24) C dX8_init_14 (by decide) ?_
  refine v_newarrayint C hf hl q234 dX8_init_16 (fun x4 h5 hf => ?_)
  refine v_putvF (Cn := RX8) (T := TX8) (N := 5) (ty0 := tyX8) C hf in_X8 tyX8_ok nmX8 rfl (by decide) q449 rfl rfl rfl hnm rfl rfl dX8_init_18 (fun h6 hf => ?_)
  exact v_vret C E hf dX8_init_21
def f_X8_reach (a0 : Nat) (i1 : Int32) : hM Nat :=
  mb (gI a0 8 3) fun x1 => mb (pF a0 8 3 (.int (x1 ||| ((1 : Int32) <<< (i1 &&& 31))))) fun _ => mb (gR a0 8 2) fun x3 => mb (gI a0 8 4) fun x4 => mb (sI 1 x3 x4 i1) fun _ => mb (gI a0 8 4) fun x6 => mb (pF a0 8 4 (.int (x6 + (1 : Int32)))) fun _ => mb (gR a0 8 1) fun x8 => mb (aQ 6 x8 i1) fun x9 => mb (mq x9 (mb (gR a0 8 1) fun x14 => mb (newO 3 2 [.null, .null]) fun x15 => mb (f_X3_init x15) fun _ => mb (sR 6 3 x14 i1 x15) fun _ => mret ()) (fun y10 => mret ())) fun _ => mb (gR a0 8 1) fun x12 => mb (aR 6 x12 i1) fun x13 => mret x13
theorem nd_X8_reach : yX8_reach.cls ≠ "java/lang/invoke/MethodHandle" ∧ yX8_reach.cls ≠ "java/lang/invoke/VarHandle" ∧ (parseMethodDescriptor yX8_reach.desc).map (fun d => d.parameters.length) = some 1 := by decide +kernel
set_option maxHeartbeats 4000000 in
theorem ct_X8_reach (l : Launch) (a0 : Nat) (i1 : Int32) : CT l yX8_reach cX8_reach 2 (some (.object "EightBlocks$Move")) 2 32 rvR [.ref a0, .int i1] (f_X8_reach a0 i1) := by
  refine CT_of (ls := [(0, .ref a0), (1, .int i1)]) (by decide) (Nat.le_of_ble_eq_true rfl) rfl ?_
  intro X h he z hX hf C E hnm hh
  have hl := hle.rf he
  subst hX
  unfold f_X8_reach at hf
  refine v_aload_n C 0 dX8_reach_0 rfl rfl ?_
  refine v_dup C dX8_reach_1 rfl ?_
  refine v_gI (Cn := RX8) (T := TX8) (N := 5) C hf in_X8 rfl (by decide) q451 rfl dX8_reach_2 (fun x1 hf => ?_)
  refine v_iconst (x := 1) C dX8_reach_5 (by decide) ?_
  refine v_iload_n C 1 dX8_reach_6 rfl rfl ?_
  refine v_ishl C dX8_reach_7 ?_
  refine v_ior C dX8_reach_8 ?_
  refine v_putv (Cn := RX8) (T := TX8) (N := 5) (ty0 := tyX8) C hf in_X8 tyX8_ok nmX8 rfl (by decide) q451 rfl rfl rfl rfl dX8_reach_9 (fun h2 hf => ?_)
  refine v_aload_n C 0 dX8_reach_12 rfl rfl ?_
  refine v_gR (Cn := RX8) (T := TX8) (N := 5) C hf in_X8 rfl (by decide) q449 rfl dX8_reach_13 (fun x3 hf => ?_)
  refine v_aload_n C 0 dX8_reach_16 rfl rfl ?_
  refine v_gI (Cn := RX8) (T := TX8) (N := 5) C hf in_X8 rfl (by decide) q453 rfl dX8_reach_17 (fun x4 hf => ?_)
  refine v_iload_n C 1 dX8_reach_20 rfl rfl ?_
  refine v_iastore C hf dX8_reach_21 (fun h5 hf => ?_)
  refine v_aload_n C 0 dX8_reach_22 rfl rfl ?_
  refine v_dup C dX8_reach_23 rfl ?_
  refine v_gI (Cn := RX8) (T := TX8) (N := 5) C hf in_X8 rfl (by decide) q453 rfl dX8_reach_24 (fun x6 hf => ?_)
  refine v_iconst (x := 1) C dX8_reach_27 (by decide) ?_
  refine v_iadd C dX8_reach_28 ?_
  refine v_putv (Cn := RX8) (T := TX8) (N := 5) (ty0 := tyX8) C hf in_X8 tyX8_ok nmX8 rfl (by decide) q453 rfl rfl rfl rfl dX8_reach_29 (fun h7 hf => ?_)
  refine v_aload_n C 0 dX8_reach_32 rfl rfl ?_
  refine v_gR (Cn := RX8) (T := TX8) (N := 5) C hf in_X8 rfl (by decide) q447 rfl dX8_reach_33 (fun x8 hf => ?_)
  refine v_iload_n C 1 dX8_reach_36 rfl rfl ?_
  refine v_aaloadQ C hf (by decide) rfl dX8_reach_37 (fun x9 hf => ?_)
  obtain ⟨_u, h11, hAh11, hf, hlh11⟩ := mb_inv hf hl
  refine v_cut (h1 := h11) (pc1 := 54) (ls1 := [(0, .ref a0), (1, .int i1)]) (st1 := []) ?_ (fun Jh11 => ?_)
  · clear hAh11 hlh11
    refine v_aload_n C 0 dX8_reach_54 rfl rfl ?_
    refine v_gR (Cn := RX8) (T := TX8) (N := 5) C hf in_X8 rfl (by decide) q447 rfl dX8_reach_55 (fun x12 hf => ?_)
    refine v_iload_n C 1 dX8_reach_58 rfl rfl ?_
    refine v_aaload C hf (by decide) rfl dX8_reach_59 (fun x13 hf => ?_)
    exact v_aret C E hf (Or.inl ⟨_, rfl⟩) dX8_reach_60
  · clear hf
    have hf := hAh11
    have hl := hlh11
    refine v_ifnonnullq C hf (tgt := 54) dX8_reach_38 (by decide) (fun y10 c38 hf => ?_) (fun c38 hf => ?_)
    · subst c38
      obtain ⟨e1, rfl⟩ := mret_inv hf
      exact v_sub (ls' := _) [0, 1] rfl Jh11
    · refine v_aload_n C 0 dX8_reach_41 rfl rfl ?_
      refine v_gR (Cn := RX8) (T := TX8) (N := 5) C hf in_X8 rfl (by decide) q447 rfl dX8_reach_42 (fun x14 hf => ?_)
      refine v_iload_n C 1 dX8_reach_45 rfl rfl ?_
      refine v_new (Cn := RX3) (T := TX3) (N := 2) (ty0 := tyX3) C hf hl in_X3 tyX3_ok rfl q444 q243 q103 dvX3 dX8_reach_46 (fun x15 h16 hf => ?_)
      refine v_dup C dX8_reach_49 rfl ?_
      refine v_callIN (stk := fun _ => [.ref x15, .int i1, .ref x14]) C (ct_X3_init _ x15) nd_X3_init rfl (Nat.le_of_ble_eq_true rfl) (Nat.le_of_ble_eq_true rfl) [.ref x15, .int i1, .ref x14] (Nat.le_of_ble_eq_true rfl) (fun _ => rfl) rfl rfl q1417 q245 q103 q246 hf hl dX8_reach_50 (fun x17 h18 hf => ?_)
      refine v_aastore C hf (by decide) rfl rfl dX8_reach_53 (fun h19 hf => ?_)
      obtain ⟨e1, rfl⟩ := mret_inv hf
      exact v_sub (ls' := _) [0, 1] rfl Jh11
def f_X9_init (a0 : Nat) : hM Unit :=
  mb (newA 2 (4096 : Int32)) fun x1 => mb (pF a0 9 0 (.ref x1)) fun _ => mb (newA 1 (4096 : Int32)) fun x4 => mb (pF a0 9 1 (.ref x4)) fun _ => mret ()
theorem nd_X9_init : yX9_init.cls ≠ "java/lang/invoke/MethodHandle" ∧ yX9_init.cls ≠ "java/lang/invoke/VarHandle" ∧ (parseMethodDescriptor yX9_init.desc).map (fun d => d.parameters.length) = some 0 := by decide +kernel
set_option maxHeartbeats 4000000 in
theorem ct_X9_init (l : Launch) (a0 : Nat) : CT l yX9_init cX9_init 1 none 1 12 rv0 [.ref a0] (f_X9_init a0) := by
  refine CT_of (ls := [(0, .ref a0)]) (by decide) (Nat.le_of_ble_eq_true rfl) rfl ?_
  intro X h he z hX hf C E hnm hh
  have hl := hle.rf he
  subst hX
  unfold f_X9_init at hf
  refine v_aload_n C 0 dX9_init_0 rfl rfl ?_
  refine v_objInit C q490 q147 q148 (Nat.le_of_ble_eq_true rfl) (Nat.le_of_ble_eq_true rfl) dX9_init_1 ?_
  refine v_aload_n C 0 dX9_init_4 rfl rfl ?_
  refine v_sipush (x := 4096) C dX9_init_5 (by decide) ?_
  refine v_newarrayboolean C hf hl q499 dX9_init_8 (fun x1 h2 hf => ?_)
  refine v_putvF (Cn := RX9) (T := TX9) (N := 2) (ty0 := tyX9) C hf in_X9 tyX9_ok nmX9 rfl (by decide) q491 rfl rfl rfl hnm rfl rfl dX9_init_10 (fun h3 hf => ?_)
  refine v_aload_n C 0 dX9_init_13 rfl rfl ?_
  refine v_sipush (x := 4096) C dX9_init_14 (by decide) ?_
  refine v_newarrayint C hf hl q234 dX9_init_17 (fun x4 h5 hf => ?_)
  refine v_putvF (Cn := RX9) (T := TX9) (N := 2) (ty0 := tyX9) C hf in_X9 tyX9_ok nmX9 rfl (by decide) q493 rfl rfl rfl hnm rfl rfl dX9_init_19 (fun h6 hf => ?_)
  exact v_vret C E hf dX9_init_22
def f_J0_floorMod (i0 : Int32) (i1 : Int32) : hM Int32 :=
  mb (mrem i0 i1) fun x1 => mi (0 ≤ (i0 ^^^ i1)) (mret x1) (mi (x1 = 0) (mret x1) (mret (x1 + i1)))
theorem nd_J0_floorMod : yJ0_floorMod.cls ≠ "java/lang/invoke/MethodHandle" ∧ yJ0_floorMod.cls ≠ "java/lang/invoke/VarHandle" ∧ (parseMethodDescriptor yJ0_floorMod.desc).map (fun d => d.parameters.length) = some 2 := by decide +kernel
set_option maxHeartbeats 4000000 in
theorem ct_J0_floorMod (l : Launch) (i0 : Int32) (i1 : Int32) : CT l yJ0_floorMod cJ0_floorMod 3 (some .int) 0 0 rvI [.int i0, .int i1] (f_J0_floorMod i0 i1) := by
  refine CT_of (ls := [(0, .int i0), (1, .int i1)]) (by decide +kernel) (Nat.le_of_ble_eq_true rfl) rfl ?_
  intro X h he z hX hf C E hnm hh
  have hl := hle.rf he
  subst hX
  unfold f_J0_floorMod at hf
  refine v_iload_n C 0 dJ0_floorMod_0 rfl rfl ?_
  refine v_iload_n C 1 dJ0_floorMod_1 rfl rfl ?_
  refine v_irem C hf dJ0_floorMod_2 (fun x1 hf => ?_)
  refine v_istore_n (ls' := [(2, _), (0, _), (1, _)]) C dJ0_floorMod_3 rfl (by decide) rfl ?_
  refine v_iload_n C 1 dJ0_floorMod_4 rfl rfl ?_
  refine v_iload_n C 2 dJ0_floorMod_5 rfl rfl ?_
  refine v_ixor C dJ0_floorMod_6 ?_
  refine v_if_ge C hf (tgt := 18) dJ0_floorMod_7 (by decide) (fun c7 hf => ?_) (fun c7 hf => ?_)
  · refine v_iload_n C 0 dJ0_floorMod_18 rfl rfl ?_
    exact v_iret C E hf dJ0_floorMod_19
  · refine v_iload_n C 0 dJ0_floorMod_10 rfl rfl ?_
    refine v_if_eq C hf (tgt := 18) dJ0_floorMod_11 (by decide) (fun c11 hf => ?_) (fun c11 hf => ?_)
    · refine v_iload_n C 0 dJ0_floorMod_18 rfl rfl ?_
      exact v_iret C E hf dJ0_floorMod_19
    · refine v_iload_n C 0 dJ0_floorMod_14 rfl rfl ?_
      refine v_iload_n C 2 dJ0_floorMod_15 rfl rfl ?_
      refine v_iadd C dJ0_floorMod_16 ?_
      exact v_iret C E hf dJ0_floorMod_17
def f_J0_min (i0 : Int32) (i1 : Int32) : hM Int32 :=
  mb (mi (i1 < i0) (mret i1) (mret i0)) fun x1 => mret x1
theorem nd_J0_min : yJ0_min.cls ≠ "java/lang/invoke/MethodHandle" ∧ yJ0_min.cls ≠ "java/lang/invoke/VarHandle" ∧ (parseMethodDescriptor yJ0_min.desc).map (fun d => d.parameters.length) = some 2 := by decide +kernel
set_option maxHeartbeats 4000000 in
theorem ct_J0_min (l : Launch) (i0 : Int32) (i1 : Int32) : CT l yJ0_min cJ0_min 2 (some .int) 0 0 rvI [.int i0, .int i1] (f_J0_min i0 i1) := by
  refine CT_of (ls := [(0, .int i0), (1, .int i1)]) (by decide +kernel) (Nat.le_of_ble_eq_true rfl) rfl ?_
  intro X h he z hX hf C E hnm hh
  have hl := hle.rf he
  subst hX
  unfold f_J0_min at hf
  refine v_iload_n C 0 dJ0_min_0 rfl rfl ?_
  refine v_iload_n C 1 dJ0_min_1 rfl rfl ?_
  obtain ⟨x1, h2, hAh2, hf, hlh2⟩ := mb_inv hf hl
  refine v_cut (h1 := h2) (pc1 := 10) (ls1 := []) (st1 := [.int x1]) ?_ (fun Jh2 => ?_)
  · clear hAh2 hlh2
    exact v_iret C E hf dJ0_min_10
  · clear hf
    have hf := hAh2
    have hl := hlh2
    refine v_icmp_gt C hf (tgt := 9) dJ0_min_2 (by decide) (fun c2 hf => ?_) (fun c2 hf => ?_)
    · refine v_iload_n C 1 dJ0_min_9 rfl rfl ?_
      obtain ⟨e1, rfl⟩ := mret_inv hf
      subst e1
      exact v_sub (ls' := _) [] rfl Jh2
    · refine v_iload_n C 0 dJ0_min_5 rfl rfl ?_
      refine v_goto (tgt := 10) C dJ0_min_6 (by decide) ?_
      obtain ⟨e1, rfl⟩ := mret_inv hf
      subst e1
      exact v_sub (ls' := _) [] rfl Jh2
def f_J0_max (i0 : Int32) (i1 : Int32) : hM Int32 :=
  mb (mi (i0 < i1) (mret i1) (mret i0)) fun x1 => mret x1
theorem nd_J0_max : yJ0_max.cls ≠ "java/lang/invoke/MethodHandle" ∧ yJ0_max.cls ≠ "java/lang/invoke/VarHandle" ∧ (parseMethodDescriptor yJ0_max.desc).map (fun d => d.parameters.length) = some 2 := by decide +kernel
set_option maxHeartbeats 4000000 in
theorem ct_J0_max (l : Launch) (i0 : Int32) (i1 : Int32) : CT l yJ0_max cJ0_max 2 (some .int) 0 0 rvI [.int i0, .int i1] (f_J0_max i0 i1) := by
  refine CT_of (ls := [(0, .int i0), (1, .int i1)]) (by decide +kernel) (Nat.le_of_ble_eq_true rfl) rfl ?_
  intro X h he z hX hf C E hnm hh
  have hl := hle.rf he
  subst hX
  unfold f_J0_max at hf
  refine v_iload_n C 0 dJ0_max_0 rfl rfl ?_
  refine v_iload_n C 1 dJ0_max_1 rfl rfl ?_
  obtain ⟨x1, h2, hAh2, hf, hlh2⟩ := mb_inv hf hl
  refine v_cut (h1 := h2) (pc1 := 10) (ls1 := []) (st1 := [.int x1]) ?_ (fun Jh2 => ?_)
  · clear hAh2 hlh2
    exact v_iret C E hf dJ0_max_10
  · clear hf
    have hf := hAh2
    have hl := hlh2
    refine v_icmp_lt C hf (tgt := 9) dJ0_max_2 (by decide) (fun c2 hf => ?_) (fun c2 hf => ?_)
    · refine v_iload_n C 1 dJ0_max_9 rfl rfl ?_
      obtain ⟨e1, rfl⟩ := mret_inv hf
      subst e1
      exact v_sub (ls' := _) [] rfl Jh2
    · refine v_iload_n C 0 dJ0_max_5 rfl rfl ?_
      refine v_goto (tgt := 10) C dJ0_max_6 (by decide) ?_
      obtain ⟨e1, rfl⟩ := mret_inv hf
      subst e1
      exact v_sub (ls' := _) [] rfl Jh2
def f_J1_numberOfTrailingZeros (i0 : Int32) : hM Int32 :=
  mi (0 < ((i0 ^^^ (-1 : Int32)) &&& (i0 - (1 : Int32)))) (mb (mi (((i0 ^^^ (-1 : Int32)) &&& (i0 - (1 : Int32))) ≤ (65536 : Int32)) (mret ((i0 ^^^ (-1 : Int32)) &&& (i0 - (1 : Int32)), (1 : Int32))) (mret (jushr ((i0 ^^^ (-1 : Int32)) &&& (i0 - (1 : Int32))) (16 : Int32), (1 : Int32) + (16 : Int32)))) fun ⟨x1, x2⟩ => mb (mi (x1 ≤ (256 : Int32)) (mret (x1, x2)) (mret (jushr x1 (8 : Int32), x2 + (8 : Int32)))) fun ⟨x4, x5⟩ => mb (mi (x4 ≤ (16 : Int32)) (mret (x4, x5)) (mret (jushr x4 (4 : Int32), x5 + (4 : Int32)))) fun ⟨x7, x8⟩ => mb (mi (x7 ≤ (4 : Int32)) (mret (x7, x8)) (mret (jushr x7 (2 : Int32), x8 + (2 : Int32)))) fun ⟨x10, x11⟩ => mret (x11 + (jushr x10 (1 : Int32)))) (mret (((i0 ^^^ (-1 : Int32)) &&& (i0 - (1 : Int32))) &&& (32 : Int32)))
theorem nd_J1_numberOfTrailingZeros : yJ1_numberOfTrailingZeros.cls ≠ "java/lang/invoke/MethodHandle" ∧ yJ1_numberOfTrailingZeros.cls ≠ "java/lang/invoke/VarHandle" ∧ (parseMethodDescriptor yJ1_numberOfTrailingZeros.desc).map (fun d => d.parameters.length) = some 1 := by decide +kernel
set_option maxHeartbeats 4000000 in
theorem ct_J1_numberOfTrailingZeros (l : Launch) (i0 : Int32) : CT l yJ1_numberOfTrailingZeros cJ1_numberOfTrailingZeros 2 (some .int) 0 0 rvI [.int i0] (f_J1_numberOfTrailingZeros i0) := by
  refine CT_of (ls := [(0, .int i0)]) (by decide) (Nat.le_of_ble_eq_true rfl) rfl ?_
  intro X h he z hX hf C E hnm hh
  have hl := hle.rf he
  subst hX
  unfold f_J1_numberOfTrailingZeros at hf
  refine v_iload_n C 0 dJ1_numberOfTrailingZeros_0 rfl rfl ?_
  refine v_iconst (x := (-1)) C dJ1_numberOfTrailingZeros_1 (by decide) ?_
  refine v_ixor C dJ1_numberOfTrailingZeros_2 ?_
  refine v_iload_n C 0 dJ1_numberOfTrailingZeros_3 rfl rfl ?_
  refine v_iconst (x := 1) C dJ1_numberOfTrailingZeros_4 (by decide) ?_
  refine v_isub C dJ1_numberOfTrailingZeros_5 ?_
  refine v_iand C dJ1_numberOfTrailingZeros_6 ?_
  refine v_istore_n (ls' := [(0, _)]) C dJ1_numberOfTrailingZeros_7 rfl (by decide) rfl ?_
  refine v_iload_n C 0 dJ1_numberOfTrailingZeros_8 rfl rfl ?_
  refine v_if_gt C hf (tgt := 17) dJ1_numberOfTrailingZeros_9 (by decide) (fun c9 hf => ?_) (fun c9 hf => ?_)
  · refine v_iconst (x := 1) C dJ1_numberOfTrailingZeros_17 (by decide) ?_
    refine v_istore_n (ls' := [(1, _), (0, _)]) C dJ1_numberOfTrailingZeros_18 rfl (by decide) rfl ?_
    refine v_iload_n C 1 dJ1_numberOfTrailingZeros_19 rfl rfl ?_
    refine v_ldcw (x := 65536) C q177 dJ1_numberOfTrailingZeros_20 ?_
    obtain ⟨⟨x1, x2⟩, h3, hAh3, hf, hlh3⟩ := mb_inv hf hl
    refine v_cut (h1 := h3) (pc1 := 34) (ls1 := [(0, .int x1), (1, .int x2)]) (st1 := []) ?_ (fun Jh3 => ?_)
    · clear hAh3 hlh3
      refine v_iload_n C 0 dJ1_numberOfTrailingZeros_34 rfl rfl ?_
      refine v_sipush (x := 256) C dJ1_numberOfTrailingZeros_35 (by decide) ?_
      obtain ⟨⟨x4, x5⟩, h6, hAh6, hf, hlh6⟩ := mb_inv hf hl
      refine v_cut (h1 := h6) (pc1 := 49) (ls1 := [(0, .int x4), (1, .int x5)]) (st1 := []) ?_ (fun Jh6 => ?_)
      · clear hAh6 hlh6
        refine v_iload_n C 0 dJ1_numberOfTrailingZeros_49 rfl rfl ?_
        refine v_bipush (x := 16) C dJ1_numberOfTrailingZeros_50 (by decide) ?_
        obtain ⟨⟨x7, x8⟩, h9, hAh9, hf, hlh9⟩ := mb_inv hf hl
        refine v_cut (h1 := h9) (pc1 := 62) (ls1 := [(0, .int x7), (1, .int x8)]) (st1 := []) ?_ (fun Jh9 => ?_)
        · clear hAh9 hlh9
          refine v_iload_n C 0 dJ1_numberOfTrailingZeros_62 rfl rfl ?_
          refine v_iconst (x := 4) C dJ1_numberOfTrailingZeros_63 (by decide) ?_
          obtain ⟨⟨x10, x11⟩, h12, hAh12, hf, hlh12⟩ := mb_inv hf hl
          refine v_cut (h1 := h12) (pc1 := 74) (ls1 := [(0, .int x10), (1, .int x11)]) (st1 := []) ?_ (fun Jh12 => ?_)
          · clear hAh12 hlh12
            refine v_iload_n C 1 dJ1_numberOfTrailingZeros_74 rfl rfl ?_
            refine v_iload_n C 0 dJ1_numberOfTrailingZeros_75 rfl rfl ?_
            refine v_iconst (x := 1) C dJ1_numberOfTrailingZeros_76 (by decide) ?_
            refine v_iushr C dJ1_numberOfTrailingZeros_77 ?_
            refine v_iadd C dJ1_numberOfTrailingZeros_78 ?_
            exact v_iret C E hf dJ1_numberOfTrailingZeros_79
          · clear hf
            have hf := hAh12
            have hl := hlh12
            refine v_icmp_le C hf (tgt := 74) dJ1_numberOfTrailingZeros_64 (by decide) (fun c64 hf => ?_) (fun c64 hf => ?_)
            · obtain ⟨e1, rfl⟩ := mret_inv hf
              simp only [Prod.mk.injEq] at e1
              obtain ⟨rfl, rfl⟩ := e1
              exact v_sub (ls' := _) [0, 1] rfl Jh12
            · refine v_iinc (ls' := [(1, _), (0, _)]) (y := x8 + (2 : Int32)) C 1 dJ1_numberOfTrailingZeros_67 rfl rfl (by decide) rfl ?_
              refine v_iload_n C 1 dJ1_numberOfTrailingZeros_70 rfl rfl ?_
              refine v_iconst (x := 2) C dJ1_numberOfTrailingZeros_71 (by decide) ?_
              refine v_iushr C dJ1_numberOfTrailingZeros_72 ?_
              refine v_istore_n (ls' := [(0, _), (1, _)]) C dJ1_numberOfTrailingZeros_73 rfl (by decide) rfl ?_
              obtain ⟨e1, rfl⟩ := mret_inv hf
              simp only [Prod.mk.injEq] at e1
              obtain ⟨rfl, rfl⟩ := e1
              exact v_sub (ls' := _) [0, 1] rfl Jh12
        · clear hf
          have hf := hAh9
          have hl := hlh9
          refine v_icmp_le C hf (tgt := 62) dJ1_numberOfTrailingZeros_52 (by decide) (fun c52 hf => ?_) (fun c52 hf => ?_)
          · obtain ⟨e1, rfl⟩ := mret_inv hf
            simp only [Prod.mk.injEq] at e1
            obtain ⟨rfl, rfl⟩ := e1
            exact v_sub (ls' := _) [0, 1] rfl Jh9
          · refine v_iinc (ls' := [(1, _), (0, _)]) (y := x5 + (4 : Int32)) C 1 dJ1_numberOfTrailingZeros_55 rfl rfl (by decide) rfl ?_
            refine v_iload_n C 1 dJ1_numberOfTrailingZeros_58 rfl rfl ?_
            refine v_iconst (x := 4) C dJ1_numberOfTrailingZeros_59 (by decide) ?_
            refine v_iushr C dJ1_numberOfTrailingZeros_60 ?_
            refine v_istore_n (ls' := [(0, _), (1, _)]) C dJ1_numberOfTrailingZeros_61 rfl (by decide) rfl ?_
            obtain ⟨e1, rfl⟩ := mret_inv hf
            simp only [Prod.mk.injEq] at e1
            obtain ⟨rfl, rfl⟩ := e1
            exact v_sub (ls' := _) [0, 1] rfl Jh9
      · clear hf
        have hf := hAh6
        have hl := hlh6
        refine v_icmp_le C hf (tgt := 49) dJ1_numberOfTrailingZeros_38 (by decide) (fun c38 hf => ?_) (fun c38 hf => ?_)
        · obtain ⟨e1, rfl⟩ := mret_inv hf
          simp only [Prod.mk.injEq] at e1
          obtain ⟨rfl, rfl⟩ := e1
          exact v_sub (ls' := _) [0, 1] rfl Jh6
        · refine v_iinc (ls' := [(1, _), (0, _)]) (y := x2 + (8 : Int32)) C 1 dJ1_numberOfTrailingZeros_41 rfl rfl (by decide) rfl ?_
          refine v_iload_n C 1 dJ1_numberOfTrailingZeros_44 rfl rfl ?_
          refine v_bipush (x := 8) C dJ1_numberOfTrailingZeros_45 (by decide) ?_
          refine v_iushr C dJ1_numberOfTrailingZeros_47 ?_
          refine v_istore_n (ls' := [(0, _), (1, _)]) C dJ1_numberOfTrailingZeros_48 rfl (by decide) rfl ?_
          obtain ⟨e1, rfl⟩ := mret_inv hf
          simp only [Prod.mk.injEq] at e1
          obtain ⟨rfl, rfl⟩ := e1
          exact v_sub (ls' := _) [0, 1] rfl Jh6
    · clear hf
      have hf := hAh3
      have hl := hlh3
      refine v_icmp_le C hf (tgt := 34) dJ1_numberOfTrailingZeros_23 (by decide) (fun c23 hf => ?_) (fun c23 hf => ?_)
      · obtain ⟨e1, rfl⟩ := mret_inv hf
        simp only [Prod.mk.injEq] at e1
        obtain ⟨rfl, rfl⟩ := e1
        exact v_sub (ls' := _) [1, 0] rfl Jh3
      · refine v_iinc (ls' := [(1, _), (0, _)]) (y := (1 : Int32) + (16 : Int32)) C 0 dJ1_numberOfTrailingZeros_26 rfl rfl (by decide) rfl ?_
        refine v_iload_n C 1 dJ1_numberOfTrailingZeros_29 rfl rfl ?_
        refine v_bipush (x := 16) C dJ1_numberOfTrailingZeros_30 (by decide) ?_
        refine v_iushr C dJ1_numberOfTrailingZeros_32 ?_
        refine v_istore_n (ls' := [(0, _), (1, _)]) C dJ1_numberOfTrailingZeros_33 rfl (by decide) rfl ?_
        obtain ⟨e1, rfl⟩ := mret_inv hf
        simp only [Prod.mk.injEq] at e1
        obtain ⟨rfl, rfl⟩ := e1
        exact v_sub (ls' := _) [0, 1] rfl Jh3
  · refine v_iload_n C 0 dJ1_numberOfTrailingZeros_12 rfl rfl ?_
    refine v_bipush (x := 32) C dJ1_numberOfTrailingZeros_13 (by decide) ?_
    refine v_iand C dJ1_numberOfTrailingZeros_15 ?_
    exact v_iret C E hf dJ1_numberOfTrailingZeros_16
def f_J1_bitCount (i0 : Int32) : hM Int32 :=
  mret ((((((((i0 - ((jushr i0 (1 : Int32)) &&& (1431655765 : Int32))) &&& (858993459 : Int32)) + ((jushr (i0 - ((jushr i0 (1 : Int32)) &&& (1431655765 : Int32))) (2 : Int32)) &&& (858993459 : Int32))) + (jushr (((i0 - ((jushr i0 (1 : Int32)) &&& (1431655765 : Int32))) &&& (858993459 : Int32)) + ((jushr (i0 - ((jushr i0 (1 : Int32)) &&& (1431655765 : Int32))) (2 : Int32)) &&& (858993459 : Int32))) (4 : Int32))) &&& (252645135 : Int32)) + (jushr (((((i0 - ((jushr i0 (1 : Int32)) &&& (1431655765 : Int32))) &&& (858993459 : Int32)) + ((jushr (i0 - ((jushr i0 (1 : Int32)) &&& (1431655765 : Int32))) (2 : Int32)) &&& (858993459 : Int32))) + (jushr (((i0 - ((jushr i0 (1 : Int32)) &&& (1431655765 : Int32))) &&& (858993459 : Int32)) + ((jushr (i0 - ((jushr i0 (1 : Int32)) &&& (1431655765 : Int32))) (2 : Int32)) &&& (858993459 : Int32))) (4 : Int32))) &&& (252645135 : Int32)) (8 : Int32))) + (jushr ((((((i0 - ((jushr i0 (1 : Int32)) &&& (1431655765 : Int32))) &&& (858993459 : Int32)) + ((jushr (i0 - ((jushr i0 (1 : Int32)) &&& (1431655765 : Int32))) (2 : Int32)) &&& (858993459 : Int32))) + (jushr (((i0 - ((jushr i0 (1 : Int32)) &&& (1431655765 : Int32))) &&& (858993459 : Int32)) + ((jushr (i0 - ((jushr i0 (1 : Int32)) &&& (1431655765 : Int32))) (2 : Int32)) &&& (858993459 : Int32))) (4 : Int32))) &&& (252645135 : Int32)) + (jushr (((((i0 - ((jushr i0 (1 : Int32)) &&& (1431655765 : Int32))) &&& (858993459 : Int32)) + ((jushr (i0 - ((jushr i0 (1 : Int32)) &&& (1431655765 : Int32))) (2 : Int32)) &&& (858993459 : Int32))) + (jushr (((i0 - ((jushr i0 (1 : Int32)) &&& (1431655765 : Int32))) &&& (858993459 : Int32)) + ((jushr (i0 - ((jushr i0 (1 : Int32)) &&& (1431655765 : Int32))) (2 : Int32)) &&& (858993459 : Int32))) (4 : Int32))) &&& (252645135 : Int32)) (8 : Int32))) (16 : Int32))) &&& (63 : Int32))
theorem nd_J1_bitCount : yJ1_bitCount.cls ≠ "java/lang/invoke/MethodHandle" ∧ yJ1_bitCount.cls ≠ "java/lang/invoke/VarHandle" ∧ (parseMethodDescriptor yJ1_bitCount.desc).map (fun d => d.parameters.length) = some 1 := by decide +kernel
set_option maxHeartbeats 4000000 in
theorem ct_J1_bitCount (l : Launch) (i0 : Int32) : CT l yJ1_bitCount cJ1_bitCount 1 (some .int) 0 0 rvI [.int i0] (f_J1_bitCount i0) := by
  refine CT_of (ls := [(0, .int i0)]) (by decide) (Nat.le_of_ble_eq_true rfl) rfl ?_
  intro X h he z hX hf C E hnm hh
  have hl := hle.rf he
  subst hX
  unfold f_J1_bitCount at hf
  refine v_iload_n C 0 dJ1_bitCount_0 rfl rfl ?_
  refine v_iload_n C 0 dJ1_bitCount_1 rfl rfl ?_
  refine v_iconst (x := 1) C dJ1_bitCount_2 (by decide) ?_
  refine v_iushr C dJ1_bitCount_3 ?_
  refine v_ldcw (x := 1431655765) C q184 dJ1_bitCount_4 ?_
  refine v_iand C dJ1_bitCount_7 ?_
  refine v_isub C dJ1_bitCount_8 ?_
  refine v_istore_n (ls' := [(0, _)]) C dJ1_bitCount_9 rfl (by decide) rfl ?_
  refine v_iload_n C 0 dJ1_bitCount_10 rfl rfl ?_
  refine v_ldcw (x := 858993459) C q185 dJ1_bitCount_11 ?_
  refine v_iand C dJ1_bitCount_14 ?_
  refine v_iload_n C 0 dJ1_bitCount_15 rfl rfl ?_
  refine v_iconst (x := 2) C dJ1_bitCount_16 (by decide) ?_
  refine v_iushr C dJ1_bitCount_17 ?_
  refine v_ldcw (x := 858993459) C q185 dJ1_bitCount_18 ?_
  refine v_iand C dJ1_bitCount_21 ?_
  refine v_iadd C dJ1_bitCount_22 ?_
  refine v_istore_n (ls' := [(0, _)]) C dJ1_bitCount_23 rfl (by decide) rfl ?_
  refine v_iload_n C 0 dJ1_bitCount_24 rfl rfl ?_
  refine v_iload_n C 0 dJ1_bitCount_25 rfl rfl ?_
  refine v_iconst (x := 4) C dJ1_bitCount_26 (by decide) ?_
  refine v_iushr C dJ1_bitCount_27 ?_
  refine v_iadd C dJ1_bitCount_28 ?_
  refine v_ldcw (x := 252645135) C q186 dJ1_bitCount_29 ?_
  refine v_iand C dJ1_bitCount_32 ?_
  refine v_istore_n (ls' := [(0, _)]) C dJ1_bitCount_33 rfl (by decide) rfl ?_
  refine v_iload_n C 0 dJ1_bitCount_34 rfl rfl ?_
  refine v_iload_n C 0 dJ1_bitCount_35 rfl rfl ?_
  refine v_bipush (x := 8) C dJ1_bitCount_36 (by decide) ?_
  refine v_iushr C dJ1_bitCount_38 ?_
  refine v_iadd C dJ1_bitCount_39 ?_
  refine v_istore_n (ls' := [(0, _)]) C dJ1_bitCount_40 rfl (by decide) rfl ?_
  refine v_iload_n C 0 dJ1_bitCount_41 rfl rfl ?_
  refine v_iload_n C 0 dJ1_bitCount_42 rfl rfl ?_
  refine v_bipush (x := 16) C dJ1_bitCount_43 (by decide) ?_
  refine v_iushr C dJ1_bitCount_45 ?_
  refine v_iadd C dJ1_bitCount_46 ?_
  refine v_istore_n (ls' := [(0, _)]) C dJ1_bitCount_47 rfl (by decide) rfl ?_
  refine v_iload_n C 0 dJ1_bitCount_48 rfl rfl ?_
  refine v_bipush (x := 63) C dJ1_bitCount_49 (by decide) ?_
  refine v_iand C dJ1_bitCount_51 ?_
  exact v_iret C E hf dJ1_bitCount_52
def l_J1_stringSize_16 (i0 : Int32) (i1 : Int32) : Nat → Int32 → Int32 → hM ((Unit) ⊕ (Int32))
  | 0, _, _ => mfail
  | n + 1, i2, i3 => mi ((10 : Int32) ≤ i3) (mret (Sum.inl ())) (mi (i0 ≤ i2) (l_J1_stringSize_16 i0 i1 n ((10 : Int32) * i2) (i3 + (1 : Int32))) (mret (Sum.inr (i3 + i1))))
def f_J1_stringSize (i0 : Int32) : hM Int32 :=
  mb (mi (i0 < 0) (mret (i0, (1 : Int32))) (mret (-i0, (0 : Int32)))) fun ⟨x1, x2⟩ => mbs (l_J1_stringSize_16 x1 x2 FU (-10 : Int32) (1 : Int32)) (fun x4 => mret ((10 : Int32) + x2)) id
theorem nd_J1_stringSize : yJ1_stringSize.cls ≠ "java/lang/invoke/MethodHandle" ∧ yJ1_stringSize.cls ≠ "java/lang/invoke/VarHandle" ∧ (parseMethodDescriptor yJ1_stringSize.desc).map (fun d => d.parameters.length) = some 1 := by decide +kernel
set_option maxHeartbeats 4000000 in
theorem ct_J1_stringSize (l : Launch) (i0 : Int32) : CT l yJ1_stringSize cJ1_stringSize 4 (some .int) 0 0 rvI [.int i0] (f_J1_stringSize i0) := by
  refine CT_of (ls := [(0, .int i0)]) (by decide) (Nat.le_of_ble_eq_true rfl) rfl ?_
  intro X h he z hX hf C E hnm hh
  have hl := hle.rf he
  subst hX
  have L16 : ∀ (i0 : Int32) (i1 : Int32) (n : Nat) (i2 : Int32) (i3 : Int32) (h h1 : Hp) (o : (Unit) ⊕ (Int32)), (l_J1_stringSize_16 i0 i1 n i2 i3).1 h = some (o, h1) → hle h1 he → (∀ b, o = Sum.inl b → V X h1 42 [(1, .int i1)] []) → (∀ c, o = Sum.inr c → (mret c).1 h1 = some (z, he)) → V X h 16 [(0, .int i0), (1, .int i1), (2, .int i2), (3, .int i3)] [] := by
    intro i0 i1 n
    induction n with
    | zero => intro i2 i3 h h1 o hf; exact mfail_inv hf
    | succ n ih =>
      intro i2 i3 h h1 o hf hl J hret
      rw [l_J1_stringSize_16] at hf
      refine v_iload_n C 3 dJ1_stringSize_16 rfl rfl ?_
      refine v_bipush (x := 10) C dJ1_stringSize_17 (by decide) ?_
      refine v_icmp_ge C hf (tgt := 42) dJ1_stringSize_19 (by decide) (fun c19 hf => ?_) (fun c19 hf => ?_)
      · obtain ⟨e1, rfl⟩ := mret_inv hf
        subst e1
        exact v_sub (ls' := _) [1] rfl (J _ rfl)
      · refine v_iload_n C 0 dJ1_stringSize_22 rfl rfl ?_
        refine v_iload_n C 2 dJ1_stringSize_23 rfl rfl ?_
        refine v_icmp_le C hf (tgt := 31) dJ1_stringSize_24 (by decide) (fun c24 hf => ?_) (fun c24 hf => ?_)
        · refine v_bipush (x := 10) C dJ1_stringSize_31 (by decide) ?_
          refine v_iload_n C 2 dJ1_stringSize_33 rfl rfl ?_
          refine v_imul C dJ1_stringSize_34 ?_
          refine v_istore_n (ls' := [(2, _), (0, _), (1, _), (3, _)]) C dJ1_stringSize_35 rfl (by decide) rfl ?_
          refine v_iinc (ls' := [(3, _), (2, _), (0, _), (1, _)]) (y := i3 + (1 : Int32)) C 3 dJ1_stringSize_36 rfl rfl (by decide) rfl ?_
          refine v_goto (tgt := 16) C dJ1_stringSize_39 (by decide) ?_
          refine v_sub (ls' := _) [2, 3, 1, 0] rfl (ih ((10 : Int32) * i2) (i3 + (1 : Int32)) _ _ _ hf hl J hret)
        · refine v_iload_n C 3 dJ1_stringSize_27 rfl rfl ?_
          refine v_iload_n C 1 dJ1_stringSize_28 rfl rfl ?_
          refine v_iadd C dJ1_stringSize_29 ?_
          exact v_iret C E (mret_up hf hret) dJ1_stringSize_30
  unfold f_J1_stringSize at hf
  refine v_iconst (x := 1) C dJ1_stringSize_0 (by decide) ?_
  refine v_istore_n (ls' := [(1, _), (0, _)]) C dJ1_stringSize_1 rfl (by decide) rfl ?_
  refine v_iload_n C 1 dJ1_stringSize_2 rfl rfl ?_
  obtain ⟨⟨x1, x2⟩, h3, hAh3, hf, hlh3⟩ := mb_inv hf hl
  refine v_cut (h1 := h3) (pc1 := 11) (ls1 := [(0, .int x1), (1, .int x2)]) (st1 := []) ?_ (fun Jh3 => ?_)
  · clear hAh3 hlh3
    refine v_bipush (x := (-10)) C dJ1_stringSize_11 (by decide) ?_
    refine v_istore_n (ls' := [(2, _), (0, _), (1, _)]) C dJ1_stringSize_13 rfl (by decide) rfl ?_
    refine v_iconst (x := 1) C dJ1_stringSize_14 (by decide) ?_
    refine v_istore_n (ls' := [(3, _), (2, _), (0, _), (1, _)]) C dJ1_stringSize_15 rfl (by decide) rfl ?_
    obtain ⟨ox4, h5, eh5, hlh5, hkh5, hrh5⟩ := mbs_inv hf hl
    refine v_sub (ls' := _) [2, 3, 1, 0] rfl (L16 x1 x2 FU (-10 : Int32) (1 : Int32) _ _ _ eh5 hlh5 (fun x4 eo => ?_) hrh5)
    have hf := hkh5 x4 eo
    clear hkh5 hrh5
    refine v_bipush (x := 10) C dJ1_stringSize_42 (by decide) ?_
    refine v_iload_n C 0 dJ1_stringSize_44 rfl rfl ?_
    refine v_iadd C dJ1_stringSize_45 ?_
    exact v_iret C E hf dJ1_stringSize_46
  · clear hf
    have hf := hAh3
    have hl := hlh3
    refine v_if_lt C hf (tgt := 11) dJ1_stringSize_3 (by decide) (fun c3 hf => ?_) (fun c3 hf => ?_)
    · obtain ⟨e1, rfl⟩ := mret_inv hf
      simp only [Prod.mk.injEq] at e1
      obtain ⟨rfl, rfl⟩ := e1
      exact v_sub (ls' := _) [1, 0] rfl Jh3
    · refine v_iconst (x := 0) C dJ1_stringSize_6 (by decide) ?_
      refine v_istore_n (ls' := [(1, _), (0, _)]) C dJ1_stringSize_7 rfl (by decide) rfl ?_
      refine v_iload_n C 1 dJ1_stringSize_8 rfl rfl ?_
      refine v_ineg C dJ1_stringSize_9 ?_
      refine v_istore_n (ls' := [(0, _), (1, _)]) C dJ1_stringSize_10 rfl (by decide) rfl ?_
      obtain ⟨e1, rfl⟩ := mret_inv hf
      simp only [Prod.mk.injEq] at e1
      obtain ⟨rfl, rfl⟩ := e1
      exact v_sub (ls' := _) [0, 1] rfl Jh3
def l_J1_getChars_22 (a2 : Nat) (i6 : Int32) : Nat → Int32 → Int32 → hM (Int32 × Int32)
  | 0, _, _ => mfail
  | n + 1, i0, i5 => mi ((-100 : Int32) < i0) (mret (i0, i5)) (mb (mdiv i0 (100 : Int32)) fun x5 => mb (mcn 14) fun x6 => mb (aI 0 x6 ((x5 * (100 : Int32)) - i0)) fun x7 => mb (sI 0 a2 (i5 + (-1 : Int32)) x7) fun _ => mb (mcn 15) fun x9 => mb (aI 0 x9 ((x5 * (100 : Int32)) - i0)) fun x10 => mb (sI 0 a2 ((i5 + (-1 : Int32)) + (-1 : Int32)) x10) fun _ => l_J1_getChars_22 a2 i6 n x5 ((i5 + (-1 : Int32)) + (-1 : Int32)))
def f_J1_getChars (i0 : Int32) (i1 : Int32) (a2 : Nat) : hM Int32 :=
  mb (mi (0 ≤ i0) (mret (0 : Int32)) (mret (1 : Int32))) fun x1 => mb (mi (¬ x1 = 0) (mret i0) (mret (-i0))) fun x3 => mb (l_J1_getChars_22 a2 x1 FU x3 i1) fun x12 => mb (mcn 14) fun x14 => mb (aI 0 x14 (-x12.1)) fun x15 => mb (sI 0 a2 (x12.2 + (-1 : Int32)) x15) fun _ => mb (mi ((-9 : Int32) ≤ x12.1) (mret (x12.2 + (-1 : Int32))) (mb (mcn 15) fun x22 => mb (aI 0 x22 (-x12.1)) fun x23 => mb (sI 0 a2 ((x12.2 + (-1 : Int32)) + (-1 : Int32)) x23) fun _ => mret ((x12.2 + (-1 : Int32)) + (-1 : Int32)))) fun x17 => mb (mi (x1 = 0) (mret x17) (mb (sI 0 a2 (x17 + (-1 : Int32)) (45 : Int32)) fun _ => mret (x17 + (-1 : Int32)))) fun x19 => mret x19
theorem nd_J1_getChars : yJ1_getChars.cls ≠ "java/lang/invoke/MethodHandle" ∧ yJ1_getChars.cls ≠ "java/lang/invoke/VarHandle" ∧ (parseMethodDescriptor yJ1_getChars.desc).map (fun d => d.parameters.length) = some 3 := by decide +kernel
set_option maxHeartbeats 4000000 in
theorem ct_J1_getChars (l : Launch) (i0 : Int32) (i1 : Int32) (a2 : Nat) : CT l yJ1_getChars cJ1_getChars 7 (some .int) 0 0 rvI [.int i0, .int i1, .ref a2] (f_J1_getChars i0 i1 a2) := by
  refine CT_of (ls := [(0, .int i0), (1, .int i1), (2, .ref a2)]) (by decide) (Nat.le_of_ble_eq_true rfl) rfl ?_
  intro X h he z hX hf C E hnm hh
  have hl := hle.rf he
  subst hX
  have L22 : ∀ (a2 : Nat) (i6 : Int32) (n : Nat) (i0 : Int32) (i5 : Int32) (h h1 : Hp) (o : Int32 × Int32), (l_J1_getChars_22 a2 i6 n i0 i5).1 h = some (o, h1) → hle h1 he → V X h1 72 [(0, .int o.1), (2, .ref a2), (5, .int o.2), (6, .int i6)] [] → V X h 22 [(0, .int i0), (2, .ref a2), (5, .int i5), (6, .int i6)] [] := by
    intro a2 i6 n
    induction n with
    | zero => intro i0 i5 h h1 o hf; exact mfail_inv hf
    | succ n ih =>
      intro i0 i5 h h1 o hf hl J
      rw [l_J1_getChars_22] at hf
      refine v_iload_n C 0 dJ1_getChars_22 rfl rfl ?_
      refine v_bipush (x := (-100)) C dJ1_getChars_23 (by decide) ?_
      refine v_icmp_gt C hf (tgt := 72) dJ1_getChars_25 (by decide) (fun c25 hf => ?_) (fun c25 hf => ?_)
      · obtain ⟨e1, rfl⟩ := mret_inv hf
        subst e1
        exact v_sub (ls' := _) [0, 1, 2, 3] rfl J
      · refine v_iload_n C 0 dJ1_getChars_28 rfl rfl ?_
        refine v_bipush (x := 100) C dJ1_getChars_29 (by decide) ?_
        refine v_idiv C hf dJ1_getChars_31 (fun x5 hf => ?_)
        refine v_istore_n (ls' := [(3, _), (0, _), (2, _), (5, _), (6, _)]) C dJ1_getChars_32 rfl (by decide) rfl ?_
        refine v_iload_n C 0 dJ1_getChars_33 rfl rfl ?_
        refine v_bipush (x := 100) C dJ1_getChars_34 (by decide) ?_
        refine v_imul C dJ1_getChars_36 ?_
        refine v_iload_n C 1 dJ1_getChars_37 rfl rfl ?_
        refine v_isub C dJ1_getChars_38 ?_
        refine v_istore (ls' := [(4, _), (3, _), (0, _), (2, _), (5, _), (6, _)]) C dJ1_getChars_39 (by decide) rfl ?_
        refine v_iload_n C 1 dJ1_getChars_41 rfl rfl ?_
        refine v_istore_n (ls' := [(0, _), (4, _), (3, _), (2, _), (5, _), (6, _)]) C dJ1_getChars_42 rfl (by decide) rfl ?_
        refine v_aload_n C 3 dJ1_getChars_43 rfl rfl ?_
        refine v_iinc (ls' := [(5, _), (0, _), (4, _), (3, _), (2, _), (6, _)]) (y := i5 + (-1 : Int32)) C 4 dJ1_getChars_44 rfl rfl (by decide) rfl ?_
        refine v_iload C 0 dJ1_getChars_47 rfl ?_
        refine v_getsR C hf rfl q996 q100 q995 rfl dJ1_getChars_49 (fun x6 hf => ?_)
        refine v_iload C 2 dJ1_getChars_52 rfl ?_
        refine v_baload C hf dJ1_getChars_54 (fun x7 hf => ?_)
        refine v_bastore C hf dJ1_getChars_55 (fun h8 hf => ?_)
        refine v_aload_n C 4 dJ1_getChars_56 rfl rfl ?_
        refine v_iinc (ls' := [(5, _), (0, _), (4, _), (3, _), (2, _), (6, _)]) (y := (i5 + (-1 : Int32)) + (-1 : Int32)) C 0 dJ1_getChars_57 rfl rfl (by decide) rfl ?_
        refine v_iload C 0 dJ1_getChars_60 rfl ?_
        refine v_getsR C hf rfl q998 q100 q997 rfl dJ1_getChars_62 (fun x9 hf => ?_)
        refine v_iload C 2 dJ1_getChars_65 rfl ?_
        refine v_baload C hf dJ1_getChars_67 (fun x10 hf => ?_)
        refine v_bastore C hf dJ1_getChars_68 (fun h11 hf => ?_)
        refine v_goto (tgt := 22) C dJ1_getChars_69 (by decide) ?_
        refine v_sub (ls' := _) [1, 4, 0, 5] rfl (ih x5 ((i5 + (-1 : Int32)) + (-1 : Int32)) _ _ _ hf hl J)
  unfold f_J1_getChars at hf
  refine v_iload_n C 1 dJ1_getChars_0 rfl rfl ?_
  refine v_istore (ls' := [(5, _), (0, _), (1, _), (2, _)]) C dJ1_getChars_1 (by decide) rfl ?_
  refine v_iload_n C 1 dJ1_getChars_3 rfl rfl ?_
  obtain ⟨x1, h2, hAh2, hf, hlh2⟩ := mb_inv hf hl
  refine v_cut (h1 := h2) (pc1 := 12) (ls1 := [(0, .int i0), (2, .ref a2), (5, .int i1)]) (st1 := [.int x1]) ?_ (fun Jh2 => ?_)
  · clear hAh2 hlh2
    refine v_istore (ls' := [(6, _), (0, _), (2, _), (5, _)]) C dJ1_getChars_12 (by decide) rfl ?_
    refine v_iload C 0 dJ1_getChars_14 rfl ?_
    obtain ⟨x3, h4, hAh4, hf, hlh4⟩ := mb_inv hf hl
    refine v_cut (h1 := h4) (pc1 := 22) (ls1 := [(0, .int x3), (2, .ref a2), (5, .int i1), (6, .int x1)]) (st1 := []) ?_ (fun Jh4 => ?_)
    · clear hAh4 hlh4
      obtain ⟨x12, h13, eh13, hf, hlh13⟩ := mb_inv hf hl
      refine v_sub (ls' := _) [0, 1, 2, 3] rfl (L22 a2 x1 FU x3 i1 _ _ _ eh13 hlh13 ?_)
      refine v_aload_n C 1 dJ1_getChars_72 rfl rfl ?_
      refine v_iinc (ls' := [(5, _), (0, _), (2, _), (6, _)]) (y := x12.2 + (-1 : Int32)) C 2 dJ1_getChars_73 rfl rfl (by decide) rfl ?_
      refine v_iload C 0 dJ1_getChars_76 rfl ?_
      refine v_getsR C hf rfl q996 q100 q995 rfl dJ1_getChars_78 (fun x14 hf => ?_)
      refine v_iload_n C 1 dJ1_getChars_81 rfl rfl ?_
      refine v_ineg C dJ1_getChars_82 ?_
      refine v_baload C hf dJ1_getChars_83 (fun x15 hf => ?_)
      refine v_bastore C hf dJ1_getChars_84 (fun h16 hf => ?_)
      refine v_iload_n C 1 dJ1_getChars_85 rfl rfl ?_
      refine v_bipush (x := (-9)) C dJ1_getChars_86 (by decide) ?_
      obtain ⟨x17, h18, hAh18, hf, hlh18⟩ := mb_inv hf hl
      refine v_cut (h1 := h18) (pc1 := 104) (ls1 := [(2, .ref a2), (5, .int x17), (6, .int x1)]) (st1 := []) ?_ (fun Jh18 => ?_)
      · clear hAh18 hlh18
        refine v_iload C 2 dJ1_getChars_104 rfl ?_
        obtain ⟨x19, h20, hAh20, hf, hlh20⟩ := mb_inv hf hl
        refine v_cut (h1 := h20) (pc1 := 118) (ls1 := [(5, .int x19)]) (st1 := []) ?_ (fun Jh20 => ?_)
        · clear hAh20 hlh20
          refine v_iload C 0 dJ1_getChars_118 rfl ?_
          exact v_iret C E hf dJ1_getChars_120
        · clear hf
          have hf := hAh20
          have hl := hlh20
          refine v_if_eq C hf (tgt := 118) dJ1_getChars_106 (by decide) (fun c106 hf => ?_) (fun c106 hf => ?_)
          · obtain ⟨e1, rfl⟩ := mret_inv hf
            subst e1
            exact v_sub (ls' := _) [1] rfl Jh20
          · refine v_aload_n C 0 dJ1_getChars_109 rfl rfl ?_
            refine v_iinc (ls' := [(5, _), (2, _), (6, _)]) (y := x17 + (-1 : Int32)) C 1 dJ1_getChars_110 rfl rfl (by decide) rfl ?_
            refine v_iload C 0 dJ1_getChars_113 rfl ?_
            refine v_bipush (x := 45) C dJ1_getChars_115 (by decide) ?_
            refine v_bastore C hf dJ1_getChars_117 (fun h21 hf => ?_)
            obtain ⟨e1, rfl⟩ := mret_inv hf
            subst e1
            exact v_sub (ls' := _) [0] rfl Jh20
      · clear hf
        have hf := hAh18
        have hl := hlh18
        refine v_icmp_ge C hf (tgt := 104) dJ1_getChars_88 (by decide) (fun c88 hf => ?_) (fun c88 hf => ?_)
        · obtain ⟨e1, rfl⟩ := mret_inv hf
          subst e1
          exact v_sub (ls' := _) [2, 0, 3] rfl Jh18
        · refine v_aload_n C 2 dJ1_getChars_91 rfl rfl ?_
          refine v_iinc (ls' := [(5, _), (0, _), (2, _), (6, _)]) (y := (x12.2 + (-1 : Int32)) + (-1 : Int32)) C 0 dJ1_getChars_92 rfl rfl (by decide) rfl ?_
          refine v_iload C 0 dJ1_getChars_95 rfl ?_
          refine v_getsR C hf rfl q998 q100 q997 rfl dJ1_getChars_97 (fun x22 hf => ?_)
          refine v_iload_n C 1 dJ1_getChars_100 rfl rfl ?_
          refine v_ineg C dJ1_getChars_101 ?_
          refine v_baload C hf dJ1_getChars_102 (fun x23 hf => ?_)
          refine v_bastore C hf dJ1_getChars_103 (fun h24 hf => ?_)
          obtain ⟨e1, rfl⟩ := mret_inv hf
          subst e1
          exact v_sub (ls' := _) [2, 0, 3] rfl Jh18
    · clear hf
      have hf := hAh4
      have hl := hlh4
      refine v_if_ne C hf (tgt := 22) dJ1_getChars_16 (by decide) (fun c16 hf => ?_) (fun c16 hf => ?_)
      · obtain ⟨e1, rfl⟩ := mret_inv hf
        subst e1
        exact v_sub (ls' := _) [1, 2, 3, 0] rfl Jh4
      · refine v_iload_n C 1 dJ1_getChars_19 rfl rfl ?_
        refine v_ineg C dJ1_getChars_20 ?_
        refine v_istore_n (ls' := [(0, _), (6, _), (2, _), (5, _)]) C dJ1_getChars_21 rfl (by decide) rfl ?_
        obtain ⟨e1, rfl⟩ := mret_inv hf
        subst e1
        exact v_sub (ls' := _) [0, 2, 3, 1] rfl Jh4
  · clear hf
    have hf := hAh2
    have hl := hlh2
    refine v_if_ge C hf (tgt := 11) dJ1_getChars_4 (by decide) (fun c4 hf => ?_) (fun c4 hf => ?_)
    · refine v_iconst (x := 0) C dJ1_getChars_11 (by decide) ?_
      obtain ⟨e1, rfl⟩ := mret_inv hf
      subst e1
      exact v_sub (ls' := _) [1, 3, 0] rfl Jh2
    · refine v_iconst (x := 1) C dJ1_getChars_7 (by decide) ?_
      refine v_goto (tgt := 12) C dJ1_getChars_8 (by decide) ?_
      obtain ⟨e1, rfl⟩ := mret_inv hf
      subst e1
      exact v_sub (ls' := _) [1, 3, 0] rfl Jh2
def l_J11_equals_9 (a0 : Nat) (a1 : Nat) : Nat → Int32 → hM ((Unit) ⊕ (Int32))
  | 0, _ => mfail
  | n + 1, i2 => mb (alen 0 a0) fun x3 => mi (x3 ≤ i2) (mret (Sum.inl ())) (mb (aI 0 a0 i2) fun x4 => mb (aI 0 a1 i2) fun x5 => mi (x4 = x5) (l_J11_equals_9 a0 a1 n (i2 + (1 : Int32))) (mb (mrt .boolean (0 : Int32)) fun c => mret (Sum.inr c)))
def f_J11_equals (a0 : Nat) (a1 : Nat) : hM Int32 :=
  mb (alen 0 a0) fun x1 => mb (alen 0 a1) fun x2 => mi (¬ x1 = x2) (mrt .boolean (0 : Int32)) (mbs (l_J11_equals_9 a0 a1 FU (0 : Int32)) (fun x6 => mrt .boolean (1 : Int32)) id)
theorem nd_J11_equals : yJ11_equals.cls ≠ "java/lang/invoke/MethodHandle" ∧ yJ11_equals.cls ≠ "java/lang/invoke/VarHandle" ∧ (parseMethodDescriptor yJ11_equals.desc).map (fun d => d.parameters.length) = some 2 := by decide +kernel
set_option maxHeartbeats 4000000 in
theorem ct_J11_equals (l : Launch) (a0 : Nat) (a1 : Nat) : CT l yJ11_equals cJ11_equals 3 (some .boolean) 0 0 rvI [.ref a0, .ref a1] (f_J11_equals a0 a1) := by
  refine CT_of (ls := [(0, .ref a0), (1, .ref a1)]) (by decide) (Nat.le_of_ble_eq_true rfl) rfl ?_
  intro X h he z hX hf C E hnm hh
  have hl := hle.rf he
  subst hX
  have L9 : ∀ (a0 : Nat) (a1 : Nat) (n : Nat) (i2 : Int32) (h h1 : Hp) (o : (Unit) ⊕ (Int32)), (l_J11_equals_9 a0 a1 n i2).1 h = some (o, h1) → hle h1 he → (∀ b, o = Sum.inl b → V X h1 32 [] []) → (∀ c, o = Sum.inr c → (mret c).1 h1 = some (z, he)) → V X h 9 [(0, .ref a0), (1, .ref a1), (2, .int i2)] [] := by
    intro a0 a1 n
    induction n with
    | zero => intro i2 h h1 o hf; exact mfail_inv hf
    | succ n ih =>
      intro i2 h h1 o hf hl J hret
      rw [l_J11_equals_9] at hf
      refine v_iload_n C 2 dJ11_equals_9 rfl rfl ?_
      refine v_aload_n C 0 dJ11_equals_10 rfl rfl ?_
      refine v_alen C hf (by decide) dJ11_equals_11 (fun x3 hf => ?_)
      refine v_icmp_ge C hf (tgt := 32) dJ11_equals_12 (by decide) (fun c12 hf => ?_) (fun c12 hf => ?_)
      · obtain ⟨e1, rfl⟩ := mret_inv hf
        subst e1
        exact v_sub (ls' := _) [] rfl (J _ rfl)
      · refine v_aload_n C 0 dJ11_equals_15 rfl rfl ?_
        refine v_iload_n C 2 dJ11_equals_16 rfl rfl ?_
        refine v_baload C hf dJ11_equals_17 (fun x4 hf => ?_)
        refine v_aload_n C 1 dJ11_equals_18 rfl rfl ?_
        refine v_iload_n C 2 dJ11_equals_19 rfl rfl ?_
        refine v_baload C hf dJ11_equals_20 (fun x5 hf => ?_)
        refine v_icmp_eq C hf (tgt := 26) dJ11_equals_21 (by decide) (fun c21 hf => ?_) (fun c21 hf => ?_)
        · refine v_iinc (ls' := [(2, _), (0, _), (1, _)]) (y := i2 + (1 : Int32)) C 2 dJ11_equals_26 rfl rfl (by decide) rfl ?_
          refine v_goto (tgt := 9) C dJ11_equals_29 (by decide) ?_
          refine v_sub (ls' := _) [1, 2, 0] rfl (ih (i2 + (1 : Int32)) _ _ _ hf hl J hret)
        · refine v_iconst (x := 0) C dJ11_equals_24 (by decide) ?_
          exact v_zret C E (mrt_ret hf hret) dJ11_equals_25
  unfold f_J11_equals at hf
  refine v_aload_n C 0 dJ11_equals_0 rfl rfl ?_
  refine v_alen C hf (by decide) dJ11_equals_1 (fun x1 hf => ?_)
  refine v_aload_n C 1 dJ11_equals_2 rfl rfl ?_
  refine v_alen C hf (by decide) dJ11_equals_3 (fun x2 hf => ?_)
  refine v_icmp_ne C hf (tgt := 34) dJ11_equals_4 (by decide) (fun c4 hf => ?_) (fun c4 hf => ?_)
  · refine v_iconst (x := 0) C dJ11_equals_34 (by decide) ?_
    exact v_zret C E hf dJ11_equals_35
  · refine v_iconst (x := 0) C dJ11_equals_7 (by decide) ?_
    refine v_istore_n (ls' := [(2, _), (0, _), (1, _)]) C dJ11_equals_8 rfl (by decide) rfl ?_
    obtain ⟨ox6, h7, eh7, hlh7, hkh7, hrh7⟩ := mbs_inv hf hl
    refine v_sub (ls' := _) [1, 2, 0] rfl (L9 a0 a1 FU (0 : Int32) _ _ _ eh7 hlh7 (fun x6 eo => ?_) hrh7)
    have hf := hkh7 x6 eo
    clear hkh7 hrh7
    refine v_iconst (x := 1) C dJ11_equals_32 (by decide) ?_
    exact v_zret C E hf dJ11_equals_33
def f_J11_canEncode (i0 : Int32) : hM Int32 :=
  mb (mi ((255 : Int32) < i0) (mret (0 : Int32)) (mret (1 : Int32))) fun x1 => mrt .boolean x1
theorem nd_J11_canEncode : yJ11_canEncode.cls ≠ "java/lang/invoke/MethodHandle" ∧ yJ11_canEncode.cls ≠ "java/lang/invoke/VarHandle" ∧ (parseMethodDescriptor yJ11_canEncode.desc).map (fun d => d.parameters.length) = some 1 := by decide +kernel
set_option maxHeartbeats 4000000 in
theorem ct_J11_canEncode (l : Launch) (i0 : Int32) : CT l yJ11_canEncode cJ11_canEncode 1 (some .boolean) 0 0 rvI [.int i0] (f_J11_canEncode i0) := by
  refine CT_of (ls := [(0, .int i0)]) (by decide) (Nat.le_of_ble_eq_true rfl) rfl ?_
  intro X h he z hX hf C E hnm hh
  have hl := hle.rf he
  subst hX
  unfold f_J11_canEncode at hf
  refine v_iload_n C 0 dJ11_canEncode_0 rfl rfl ?_
  refine v_sipush (x := 255) C dJ11_canEncode_1 (by decide) ?_
  obtain ⟨x1, h2, hAh2, hf, hlh2⟩ := mb_inv hf hl
  refine v_cut (h1 := h2) (pc1 := 12) (ls1 := []) (st1 := [.int x1]) ?_ (fun Jh2 => ?_)
  · clear hAh2 hlh2
    exact v_zret C E hf dJ11_canEncode_12
  · clear hf
    have hf := hAh2
    have hl := hlh2
    refine v_icmp_gt C hf (tgt := 11) dJ11_canEncode_4 (by decide) (fun c4 hf => ?_) (fun c4 hf => ?_)
    · refine v_iconst (x := 0) C dJ11_canEncode_11 (by decide) ?_
      obtain ⟨e1, rfl⟩ := mret_inv hf
      subst e1
      exact v_sub (ls' := _) [] rfl Jh2
    · refine v_iconst (x := 1) C dJ11_canEncode_7 (by decide) ?_
      refine v_goto (tgt := 12) C dJ11_canEncode_8 (by decide) ?_
      obtain ⟨e1, rfl⟩ := mret_inv hf
      subst e1
      exact v_sub (ls' := _) [] rfl Jh2
def l_J12_signedHashCode_8 (a1 : Nat) (i4 : Int32) : Nat → Int32 → Int32 → hM (Int32)
  | 0, _, _ => mfail
  | n + 1, i0, i5 => mi (i4 ≤ i5) (mret i0) (mb (aI 0 a1 i5) fun x1 => l_J12_signedHashCode_8 a1 i4 n (((31 : Int32) * i0) + (x1 &&& (255 : Int32))) (i5 + (1 : Int32)))
def f_J12_signedHashCode (i0 : Int32) (a1 : Nat) (i2 : Int32) (i3 : Int32) : hM Int32 :=
  mb (l_J12_signedHashCode_8 a1 (i2 + i3) FU i0 i2) fun x2 => mret x2
theorem nd_J12_signedHashCode : yJ12_signedHashCode.cls ≠ "java/lang/invoke/MethodHandle" ∧ yJ12_signedHashCode.cls ≠ "java/lang/invoke/VarHandle" ∧ (parseMethodDescriptor yJ12_signedHashCode.desc).map (fun d => d.parameters.length) = some 4 := by decide +kernel
set_option maxHeartbeats 4000000 in
theorem ct_J12_signedHashCode (l : Launch) (i0 : Int32) (a1 : Nat) (i2 : Int32) (i3 : Int32) : CT l yJ12_signedHashCode cJ12_signedHashCode 6 (some .int) 0 0 rvI [.int i0, .ref a1, .int i2, .int i3] (f_J12_signedHashCode i0 a1 i2 i3) := by
  refine CT_of (ls := [(0, .int i0), (1, .ref a1), (2, .int i2), (3, .int i3)]) (by decide) (Nat.le_of_ble_eq_true rfl) rfl ?_
  intro X h he z hX hf C E hnm hh
  have hl := hle.rf he
  subst hX
  have L8 : ∀ (a1 : Nat) (i4 : Int32) (n : Nat) (i0 : Int32) (i5 : Int32) (h h1 : Hp) (o : Int32), (l_J12_signedHashCode_8 a1 i4 n i0 i5).1 h = some (o, h1) → hle h1 he → V X h1 35 [(0, .int o)] [] → V X h 8 [(0, .int i0), (1, .ref a1), (4, .int i4), (5, .int i5)] [] := by
    intro a1 i4 n
    induction n with
    | zero => intro i0 i5 h h1 o hf; exact mfail_inv hf
    | succ n ih =>
      intro i0 i5 h h1 o hf hl J
      rw [l_J12_signedHashCode_8] at hf
      refine v_iload C 3 dJ12_signedHashCode_8 rfl ?_
      refine v_iload C 2 dJ12_signedHashCode_10 rfl ?_
      refine v_icmp_ge C hf (tgt := 35) dJ12_signedHashCode_12 (by decide) (fun c12 hf => ?_) (fun c12 hf => ?_)
      · obtain ⟨e1, rfl⟩ := mret_inv hf
        subst e1
        exact v_sub (ls' := _) [0] rfl J
      · refine v_bipush (x := 31) C dJ12_signedHashCode_15 (by decide) ?_
        refine v_iload_n C 0 dJ12_signedHashCode_17 rfl rfl ?_
        refine v_imul C dJ12_signedHashCode_18 ?_
        refine v_aload_n C 1 dJ12_signedHashCode_19 rfl rfl ?_
        refine v_iload C 3 dJ12_signedHashCode_20 rfl ?_
        refine v_baload C hf dJ12_signedHashCode_22 (fun x1 hf => ?_)
        refine v_sipush (x := 255) C dJ12_signedHashCode_23 (by decide) ?_
        refine v_iand C dJ12_signedHashCode_26 ?_
        refine v_iadd C dJ12_signedHashCode_27 ?_
        refine v_istore_n (ls' := [(0, _), (1, _), (4, _), (5, _)]) C dJ12_signedHashCode_28 rfl (by decide) rfl ?_
        refine v_iinc (ls' := [(5, _), (0, _), (1, _), (4, _)]) (y := i5 + (1 : Int32)) C 3 dJ12_signedHashCode_29 rfl rfl (by decide) rfl ?_
        refine v_goto (tgt := 8) C dJ12_signedHashCode_32 (by decide) ?_
        refine v_sub (ls' := _) [1, 2, 3, 0] rfl (ih (((31 : Int32) * i0) + (x1 &&& (255 : Int32))) (i5 + (1 : Int32)) _ _ _ hf hl J)
  unfold f_J12_signedHashCode at hf
  refine v_iload_n C 2 dJ12_signedHashCode_0 rfl rfl ?_
  refine v_iload_n C 3 dJ12_signedHashCode_1 rfl rfl ?_
  refine v_iadd C dJ12_signedHashCode_2 ?_
  refine v_istore (ls' := [(4, _), (0, _), (1, _), (2, _), (3, _)]) C dJ12_signedHashCode_3 (by decide) rfl ?_
  refine v_iload_n C 3 dJ12_signedHashCode_5 rfl rfl ?_
  refine v_istore (ls' := [(5, _), (4, _), (0, _), (1, _), (2, _), (3, _)]) C dJ12_signedHashCode_6 (by decide) rfl ?_
  obtain ⟨x2, h3, eh3, hf, hlh3⟩ := mb_inv hf hl
  refine v_sub (ls' := _) [2, 3, 1, 0] rfl (L8 a1 (i2 + i3) FU i0 i2 _ _ _ eh3 hlh3 ?_)
  refine v_iload_n C 0 dJ12_signedHashCode_35 rfl rfl ?_
  exact v_iret C E hf dJ12_signedHashCode_36
def l_J12_utf16hashCode_8 (a1 : Nat) (i4 : Int32) : Nat → Int32 → Int32 → hM (Int32)
  | 0, _, _ => mfail
  | n + 1, i0, i5 => mi (i4 ≤ i5) (mret i0) (mfail)
def f_J12_utf16hashCode (i0 : Int32) (a1 : Nat) (i2 : Int32) (i3 : Int32) : hM Int32 :=
  mb (l_J12_utf16hashCode_8 a1 (i2 + i3) FU i0 i2) fun x1 => mret x1
theorem nd_J12_utf16hashCode : yJ12_utf16hashCode.cls ≠ "java/lang/invoke/MethodHandle" ∧ yJ12_utf16hashCode.cls ≠ "java/lang/invoke/VarHandle" ∧ (parseMethodDescriptor yJ12_utf16hashCode.desc).map (fun d => d.parameters.length) = some 4 := by decide +kernel
set_option maxHeartbeats 4000000 in
theorem ct_J12_utf16hashCode (l : Launch) (i0 : Int32) (a1 : Nat) (i2 : Int32) (i3 : Int32) : CT l yJ12_utf16hashCode cJ12_utf16hashCode 6 (some .int) 0 0 rvI [.int i0, .ref a1, .int i2, .int i3] (f_J12_utf16hashCode i0 a1 i2 i3) := by
  refine CT_of (ls := [(0, .int i0), (1, .ref a1), (2, .int i2), (3, .int i3)]) (by decide) (Nat.le_of_ble_eq_true rfl) rfl ?_
  intro X h he z hX hf C E hnm hh
  have hl := hle.rf he
  subst hX
  have L8 : ∀ (a1 : Nat) (i4 : Int32) (n : Nat) (i0 : Int32) (i5 : Int32) (h h1 : Hp) (o : Int32), (l_J12_utf16hashCode_8 a1 i4 n i0 i5).1 h = some (o, h1) → hle h1 he → V X h1 38 [(0, .int o)] [] → V X h 8 [(0, .int i0), (1, .ref a1), (4, .int i4), (5, .int i5)] [] := by
    intro a1 i4 n
    induction n with
    | zero => intro i0 i5 h h1 o hf; exact mfail_inv hf
    | succ n ih =>
      intro i0 i5 h h1 o hf hl J
      rw [l_J12_utf16hashCode_8] at hf
      refine v_iload C 3 dJ12_utf16hashCode_8 rfl ?_
      refine v_iload C 2 dJ12_utf16hashCode_10 rfl ?_
      refine v_icmp_ge C hf (tgt := 38) dJ12_utf16hashCode_12 (by decide) (fun c12 hf => ?_) (fun c12 hf => ?_)
      · obtain ⟨e1, rfl⟩ := mret_inv hf
        subst e1
        exact v_sub (ls' := _) [0] rfl J
      · refine v_bipush (x := 31) C dJ12_utf16hashCode_15 (by decide) ?_
        refine v_iload_n C 0 dJ12_utf16hashCode_17 rfl rfl ?_
        refine v_imul C dJ12_utf16hashCode_18 ?_
        exact mfail_inv hf
  unfold f_J12_utf16hashCode at hf
  refine v_iload_n C 2 dJ12_utf16hashCode_0 rfl rfl ?_
  refine v_iload_n C 3 dJ12_utf16hashCode_1 rfl rfl ?_
  refine v_iadd C dJ12_utf16hashCode_2 ?_
  refine v_istore (ls' := [(4, _), (0, _), (1, _), (2, _), (3, _)]) C dJ12_utf16hashCode_3 (by decide) rfl ?_
  refine v_iload_n C 3 dJ12_utf16hashCode_5 rfl rfl ?_
  refine v_istore (ls' := [(5, _), (4, _), (0, _), (1, _), (2, _), (3, _)]) C dJ12_utf16hashCode_6 (by decide) rfl ?_
  obtain ⟨x1, h2, eh2, hf, hlh2⟩ := mb_inv hf hl
  refine v_sub (ls' := _) [2, 3, 1, 0] rfl (L8 a1 (i2 + i3) FU i0 i2 _ _ _ eh2 hlh2 ?_)
  refine v_iload_n C 0 dJ12_utf16hashCode_38 rfl rfl ?_
  exact v_iret C E hf dJ12_utf16hashCode_39
def l_J12_hashCode_2_8 (a1 : Nat) (i4 : Int32) : Nat → Int32 → Int32 → hM (Int32)
  | 0, _, _ => mfail
  | n + 1, i0, i5 => mi (i4 ≤ i5) (mret i0) (mb (aI 0 a1 i5) fun x1 => l_J12_hashCode_2_8 a1 i4 n (((31 : Int32) * i0) + x1) (i5 + (1 : Int32)))
def f_J12_hashCode_2 (i0 : Int32) (a1 : Nat) (i2 : Int32) (i3 : Int32) : hM Int32 :=
  mb (l_J12_hashCode_2_8 a1 (i2 + i3) FU i0 i2) fun x2 => mret x2
theorem nd_J12_hashCode_2 : yJ12_hashCode_2.cls ≠ "java/lang/invoke/MethodHandle" ∧ yJ12_hashCode_2.cls ≠ "java/lang/invoke/VarHandle" ∧ (parseMethodDescriptor yJ12_hashCode_2.desc).map (fun d => d.parameters.length) = some 4 := by decide +kernel
set_option maxHeartbeats 4000000 in
theorem ct_J12_hashCode_2 (l : Launch) (i0 : Int32) (a1 : Nat) (i2 : Int32) (i3 : Int32) : CT l yJ12_hashCode_2 cJ12_hashCode_2 6 (some .int) 0 0 rvI [.int i0, .ref a1, .int i2, .int i3] (f_J12_hashCode_2 i0 a1 i2 i3) := by
  refine CT_of (ls := [(0, .int i0), (1, .ref a1), (2, .int i2), (3, .int i3)]) (by decide) (Nat.le_of_ble_eq_true rfl) rfl ?_
  intro X h he z hX hf C E hnm hh
  have hl := hle.rf he
  subst hX
  have L8 : ∀ (a1 : Nat) (i4 : Int32) (n : Nat) (i0 : Int32) (i5 : Int32) (h h1 : Hp) (o : Int32), (l_J12_hashCode_2_8 a1 i4 n i0 i5).1 h = some (o, h1) → hle h1 he → V X h1 31 [(0, .int o)] [] → V X h 8 [(0, .int i0), (1, .ref a1), (4, .int i4), (5, .int i5)] [] := by
    intro a1 i4 n
    induction n with
    | zero => intro i0 i5 h h1 o hf; exact mfail_inv hf
    | succ n ih =>
      intro i0 i5 h h1 o hf hl J
      rw [l_J12_hashCode_2_8] at hf
      refine v_iload C 3 dJ12_hashCode_2_8 rfl ?_
      refine v_iload C 2 dJ12_hashCode_2_10 rfl ?_
      refine v_icmp_ge C hf (tgt := 31) dJ12_hashCode_2_12 (by decide) (fun c12 hf => ?_) (fun c12 hf => ?_)
      · obtain ⟨e1, rfl⟩ := mret_inv hf
        subst e1
        exact v_sub (ls' := _) [0] rfl J
      · refine v_bipush (x := 31) C dJ12_hashCode_2_15 (by decide) ?_
        refine v_iload_n C 0 dJ12_hashCode_2_17 rfl rfl ?_
        refine v_imul C dJ12_hashCode_2_18 ?_
        refine v_aload_n C 1 dJ12_hashCode_2_19 rfl rfl ?_
        refine v_iload C 3 dJ12_hashCode_2_20 rfl ?_
        refine v_baload C hf dJ12_hashCode_2_22 (fun x1 hf => ?_)
        refine v_iadd C dJ12_hashCode_2_23 ?_
        refine v_istore_n (ls' := [(0, _), (1, _), (4, _), (5, _)]) C dJ12_hashCode_2_24 rfl (by decide) rfl ?_
        refine v_iinc (ls' := [(5, _), (0, _), (1, _), (4, _)]) (y := i5 + (1 : Int32)) C 3 dJ12_hashCode_2_25 rfl rfl (by decide) rfl ?_
        refine v_goto (tgt := 8) C dJ12_hashCode_2_28 (by decide) ?_
        refine v_sub (ls' := _) [1, 2, 3, 0] rfl (ih (((31 : Int32) * i0) + x1) (i5 + (1 : Int32)) _ _ _ hf hl J)
  unfold f_J12_hashCode_2 at hf
  refine v_iload_n C 2 dJ12_hashCode_2_0 rfl rfl ?_
  refine v_iload_n C 3 dJ12_hashCode_2_1 rfl rfl ?_
  refine v_iadd C dJ12_hashCode_2_2 ?_
  refine v_istore (ls' := [(4, _), (0, _), (1, _), (2, _), (3, _)]) C dJ12_hashCode_2_3 (by decide) rfl ?_
  refine v_iload_n C 3 dJ12_hashCode_2_5 rfl rfl ?_
  refine v_istore (ls' := [(5, _), (4, _), (0, _), (1, _), (2, _), (3, _)]) C dJ12_hashCode_2_6 (by decide) rfl ?_
  obtain ⟨x2, h3, eh3, hf, hlh3⟩ := mb_inv hf hl
  refine v_sub (ls' := _) [2, 3, 1, 0] rfl (L8 a1 (i2 + i3) FU i0 i2 _ _ _ eh3 hlh3 ?_)
  refine v_iload_n C 0 dJ12_hashCode_2_31 rfl rfl ?_
  exact v_iret C E hf dJ12_hashCode_2_32
def l_J12_hashCode_3_8 (a1 : Nat) (i4 : Int32) : Nat → Int32 → Int32 → hM (Int32)
  | 0, _, _ => mfail
  | n + 1, i0, i5 => mi (i4 ≤ i5) (mret i0) (mb (aI 4 a1 i5) fun x1 => l_J12_hashCode_3_8 a1 i4 n (((31 : Int32) * i0) + x1) (i5 + (1 : Int32)))
def f_J12_hashCode_3 (i0 : Int32) (a1 : Nat) (i2 : Int32) (i3 : Int32) : hM Int32 :=
  mb (l_J12_hashCode_3_8 a1 (i2 + i3) FU i0 i2) fun x2 => mret x2
theorem nd_J12_hashCode_3 : yJ12_hashCode_3.cls ≠ "java/lang/invoke/MethodHandle" ∧ yJ12_hashCode_3.cls ≠ "java/lang/invoke/VarHandle" ∧ (parseMethodDescriptor yJ12_hashCode_3.desc).map (fun d => d.parameters.length) = some 4 := by decide +kernel
set_option maxHeartbeats 4000000 in
theorem ct_J12_hashCode_3 (l : Launch) (i0 : Int32) (a1 : Nat) (i2 : Int32) (i3 : Int32) : CT l yJ12_hashCode_3 cJ12_hashCode_3 6 (some .int) 0 0 rvI [.int i0, .ref a1, .int i2, .int i3] (f_J12_hashCode_3 i0 a1 i2 i3) := by
  refine CT_of (ls := [(0, .int i0), (1, .ref a1), (2, .int i2), (3, .int i3)]) (by decide) (Nat.le_of_ble_eq_true rfl) rfl ?_
  intro X h he z hX hf C E hnm hh
  have hl := hle.rf he
  subst hX
  have L8 : ∀ (a1 : Nat) (i4 : Int32) (n : Nat) (i0 : Int32) (i5 : Int32) (h h1 : Hp) (o : Int32), (l_J12_hashCode_3_8 a1 i4 n i0 i5).1 h = some (o, h1) → hle h1 he → V X h1 31 [(0, .int o)] [] → V X h 8 [(0, .int i0), (1, .ref a1), (4, .int i4), (5, .int i5)] [] := by
    intro a1 i4 n
    induction n with
    | zero => intro i0 i5 h h1 o hf; exact mfail_inv hf
    | succ n ih =>
      intro i0 i5 h h1 o hf hl J
      rw [l_J12_hashCode_3_8] at hf
      refine v_iload C 3 dJ12_hashCode_3_8 rfl ?_
      refine v_iload C 2 dJ12_hashCode_3_10 rfl ?_
      refine v_icmp_ge C hf (tgt := 31) dJ12_hashCode_3_12 (by decide) (fun c12 hf => ?_) (fun c12 hf => ?_)
      · obtain ⟨e1, rfl⟩ := mret_inv hf
        subst e1
        exact v_sub (ls' := _) [0] rfl J
      · refine v_bipush (x := 31) C dJ12_hashCode_3_15 (by decide) ?_
        refine v_iload_n C 0 dJ12_hashCode_3_17 rfl rfl ?_
        refine v_imul C dJ12_hashCode_3_18 ?_
        refine v_aload_n C 1 dJ12_hashCode_3_19 rfl rfl ?_
        refine v_iload C 3 dJ12_hashCode_3_20 rfl ?_
        refine v_saload C hf dJ12_hashCode_3_22 (fun x1 hf => ?_)
        refine v_iadd C dJ12_hashCode_3_23 ?_
        refine v_istore_n (ls' := [(0, _), (1, _), (4, _), (5, _)]) C dJ12_hashCode_3_24 rfl (by decide) rfl ?_
        refine v_iinc (ls' := [(5, _), (0, _), (1, _), (4, _)]) (y := i5 + (1 : Int32)) C 3 dJ12_hashCode_3_25 rfl rfl (by decide) rfl ?_
        refine v_goto (tgt := 8) C dJ12_hashCode_3_28 (by decide) ?_
        refine v_sub (ls' := _) [1, 2, 3, 0] rfl (ih (((31 : Int32) * i0) + x1) (i5 + (1 : Int32)) _ _ _ hf hl J)
  unfold f_J12_hashCode_3 at hf
  refine v_iload_n C 2 dJ12_hashCode_3_0 rfl rfl ?_
  refine v_iload_n C 3 dJ12_hashCode_3_1 rfl rfl ?_
  refine v_iadd C dJ12_hashCode_3_2 ?_
  refine v_istore (ls' := [(4, _), (0, _), (1, _), (2, _), (3, _)]) C dJ12_hashCode_3_3 (by decide) rfl ?_
  refine v_iload_n C 3 dJ12_hashCode_3_5 rfl rfl ?_
  refine v_istore (ls' := [(5, _), (4, _), (0, _), (1, _), (2, _), (3, _)]) C dJ12_hashCode_3_6 (by decide) rfl ?_
  obtain ⟨x2, h3, eh3, hf, hlh3⟩ := mb_inv hf hl
  refine v_sub (ls' := _) [2, 3, 1, 0] rfl (L8 a1 (i2 + i3) FU i0 i2 _ _ _ eh3 hlh3 ?_)
  refine v_iload_n C 0 dJ12_hashCode_3_31 rfl rfl ?_
  exact v_iret C E hf dJ12_hashCode_3_32
def l_J12_hashCode_4_8 (a1 : Nat) (i4 : Int32) : Nat → Int32 → Int32 → hM (Int32)
  | 0, _, _ => mfail
  | n + 1, i0, i5 => mi (i4 ≤ i5) (mret i0) (mb (aI 1 a1 i5) fun x1 => l_J12_hashCode_4_8 a1 i4 n (((31 : Int32) * i0) + x1) (i5 + (1 : Int32)))
def f_J12_hashCode_4 (i0 : Int32) (a1 : Nat) (i2 : Int32) (i3 : Int32) : hM Int32 :=
  mb (l_J12_hashCode_4_8 a1 (i2 + i3) FU i0 i2) fun x2 => mret x2
theorem nd_J12_hashCode_4 : yJ12_hashCode_4.cls ≠ "java/lang/invoke/MethodHandle" ∧ yJ12_hashCode_4.cls ≠ "java/lang/invoke/VarHandle" ∧ (parseMethodDescriptor yJ12_hashCode_4.desc).map (fun d => d.parameters.length) = some 4 := by decide +kernel
set_option maxHeartbeats 4000000 in
theorem ct_J12_hashCode_4 (l : Launch) (i0 : Int32) (a1 : Nat) (i2 : Int32) (i3 : Int32) : CT l yJ12_hashCode_4 cJ12_hashCode_4 6 (some .int) 0 0 rvI [.int i0, .ref a1, .int i2, .int i3] (f_J12_hashCode_4 i0 a1 i2 i3) := by
  refine CT_of (ls := [(0, .int i0), (1, .ref a1), (2, .int i2), (3, .int i3)]) (by decide) (Nat.le_of_ble_eq_true rfl) rfl ?_
  intro X h he z hX hf C E hnm hh
  have hl := hle.rf he
  subst hX
  have L8 : ∀ (a1 : Nat) (i4 : Int32) (n : Nat) (i0 : Int32) (i5 : Int32) (h h1 : Hp) (o : Int32), (l_J12_hashCode_4_8 a1 i4 n i0 i5).1 h = some (o, h1) → hle h1 he → V X h1 31 [(0, .int o)] [] → V X h 8 [(0, .int i0), (1, .ref a1), (4, .int i4), (5, .int i5)] [] := by
    intro a1 i4 n
    induction n with
    | zero => intro i0 i5 h h1 o hf; exact mfail_inv hf
    | succ n ih =>
      intro i0 i5 h h1 o hf hl J
      rw [l_J12_hashCode_4_8] at hf
      refine v_iload C 3 dJ12_hashCode_4_8 rfl ?_
      refine v_iload C 2 dJ12_hashCode_4_10 rfl ?_
      refine v_icmp_ge C hf (tgt := 31) dJ12_hashCode_4_12 (by decide) (fun c12 hf => ?_) (fun c12 hf => ?_)
      · obtain ⟨e1, rfl⟩ := mret_inv hf
        subst e1
        exact v_sub (ls' := _) [0] rfl J
      · refine v_bipush (x := 31) C dJ12_hashCode_4_15 (by decide) ?_
        refine v_iload_n C 0 dJ12_hashCode_4_17 rfl rfl ?_
        refine v_imul C dJ12_hashCode_4_18 ?_
        refine v_aload_n C 1 dJ12_hashCode_4_19 rfl rfl ?_
        refine v_iload C 3 dJ12_hashCode_4_20 rfl ?_
        refine v_iaload C hf dJ12_hashCode_4_22 (fun x1 hf => ?_)
        refine v_iadd C dJ12_hashCode_4_23 ?_
        refine v_istore_n (ls' := [(0, _), (1, _), (4, _), (5, _)]) C dJ12_hashCode_4_24 rfl (by decide) rfl ?_
        refine v_iinc (ls' := [(5, _), (0, _), (1, _), (4, _)]) (y := i5 + (1 : Int32)) C 3 dJ12_hashCode_4_25 rfl rfl (by decide) rfl ?_
        refine v_goto (tgt := 8) C dJ12_hashCode_4_28 (by decide) ?_
        refine v_sub (ls' := _) [1, 2, 3, 0] rfl (ih (((31 : Int32) * i0) + x1) (i5 + (1 : Int32)) _ _ _ hf hl J)
  unfold f_J12_hashCode_4 at hf
  refine v_iload_n C 2 dJ12_hashCode_4_0 rfl rfl ?_
  refine v_iload_n C 3 dJ12_hashCode_4_1 rfl rfl ?_
  refine v_iadd C dJ12_hashCode_4_2 ?_
  refine v_istore (ls' := [(4, _), (0, _), (1, _), (2, _), (3, _)]) C dJ12_hashCode_4_3 (by decide) rfl ?_
  refine v_iload_n C 3 dJ12_hashCode_4_5 rfl rfl ?_
  refine v_istore (ls' := [(5, _), (4, _), (0, _), (1, _), (2, _), (3, _)]) C dJ12_hashCode_4_6 (by decide) rfl ?_
  obtain ⟨x2, h3, eh3, hf, hlh3⟩ := mb_inv hf hl
  refine v_sub (ls' := _) [2, 3, 1, 0] rfl (L8 a1 (i2 + i3) FU i0 i2 _ _ _ eh3 hlh3 ?_)
  refine v_iload_n C 0 dJ12_hashCode_4_31 rfl rfl ?_
  exact v_iret C E hf dJ12_hashCode_4_32
def f_J12_hugeLength (i0 : Int32) (i1 : Int32) : hM Int32 :=
  mi (0 ≤ (i0 + i1)) (mi ((2147483639 : Int32) < (i0 + i1)) (mret (i0 + i1)) (mret (2147483639 : Int32))) (mfail)
theorem nd_J12_hugeLength : yJ12_hugeLength.cls ≠ "java/lang/invoke/MethodHandle" ∧ yJ12_hugeLength.cls ≠ "java/lang/invoke/VarHandle" ∧ (parseMethodDescriptor yJ12_hugeLength.desc).map (fun d => d.parameters.length) = some 2 := by decide +kernel
set_option maxHeartbeats 4000000 in
theorem ct_J12_hugeLength (l : Launch) (i0 : Int32) (i1 : Int32) : CT l yJ12_hugeLength cJ12_hugeLength 3 (some .int) 0 0 rvI [.int i0, .int i1] (f_J12_hugeLength i0 i1) := by
  refine CT_of (ls := [(0, .int i0), (1, .int i1)]) (by decide) (Nat.le_of_ble_eq_true rfl) rfl ?_
  intro X h he z hX hf C E hnm hh
  have hl := hle.rf he
  subst hX
  unfold f_J12_hugeLength at hf
  refine v_iload_n C 0 dJ12_hugeLength_0 rfl rfl ?_
  refine v_iload_n C 1 dJ12_hugeLength_1 rfl rfl ?_
  refine v_iadd C dJ12_hugeLength_2 ?_
  refine v_istore_n (ls' := [(2, _), (0, _), (1, _)]) C dJ12_hugeLength_3 rfl (by decide) rfl ?_
  refine v_iload_n C 0 dJ12_hugeLength_4 rfl rfl ?_
  refine v_if_ge C hf (tgt := 49) dJ12_hugeLength_5 (by decide) (fun c5 hf => ?_) (fun c5 hf => ?_)
  · refine v_iload_n C 0 dJ12_hugeLength_49 rfl rfl ?_
    refine v_ldc (x := 2147483639) C q899 dJ12_hugeLength_50 ?_
    refine v_icmp_gt C hf (tgt := 58) dJ12_hugeLength_52 (by decide) (fun c52 hf => ?_) (fun c52 hf => ?_)
    · refine v_iload_n C 0 dJ12_hugeLength_58 rfl rfl ?_
      exact v_iret C E hf dJ12_hugeLength_59
    · refine v_ldc (x := 2147483639) C q899 dJ12_hugeLength_55 ?_
      exact v_iret C E hf dJ12_hugeLength_57
  · exact mfail_inv hf
def l_J2_fill_5 (a0 : Nat) (i1 : Int32) (i3 : Int32) : Nat → Int32 → hM (Unit)
  | 0, _ => mfail
  | n + 1, i2 => mi (i3 ≤ i2) (mret ()) (mb (sI 1 a0 i2 i1) fun _ => l_J2_fill_5 a0 i1 i3 n (i2 + (1 : Int32)))
def f_J2_fill (a0 : Nat) (i1 : Int32) : hM Unit :=
  mb (alen 1 a0) fun x1 => mb (l_J2_fill_5 a0 i1 x1 FU (0 : Int32)) fun x3 => mret ()
theorem nd_J2_fill : yJ2_fill.cls ≠ "java/lang/invoke/MethodHandle" ∧ yJ2_fill.cls ≠ "java/lang/invoke/VarHandle" ∧ (parseMethodDescriptor yJ2_fill.desc).map (fun d => d.parameters.length) = some 2 := by decide +kernel
set_option maxHeartbeats 4000000 in
theorem ct_J2_fill (l : Launch) (a0 : Nat) (i1 : Int32) : CT l yJ2_fill cJ2_fill 4 none 0 0 rv0 [.ref a0, .int i1] (f_J2_fill a0 i1) := by
  refine CT_of (ls := [(0, .ref a0), (1, .int i1)]) (by decide) (Nat.le_of_ble_eq_true rfl) rfl ?_
  intro X h he z hX hf C E hnm hh
  have hl := hle.rf he
  subst hX
  have L5 : ∀ (a0 : Nat) (i1 : Int32) (i3 : Int32) (n : Nat) (i2 : Int32) (h h1 : Hp) (o : Unit), (l_J2_fill_5 a0 i1 i3 n i2).1 h = some (o, h1) → hle h1 he → V X h1 20 [] [] → V X h 5 [(0, .ref a0), (1, .int i1), (2, .int i2), (3, .int i3)] [] := by
    intro a0 i1 i3 n
    induction n with
    | zero => intro i2 h h1 o hf; exact mfail_inv hf
    | succ n ih =>
      intro i2 h h1 o hf hl J
      rw [l_J2_fill_5] at hf
      refine v_iload_n C 2 dJ2_fill_5 rfl rfl ?_
      refine v_iload_n C 3 dJ2_fill_6 rfl rfl ?_
      refine v_icmp_ge C hf (tgt := 20) dJ2_fill_7 (by decide) (fun c7 hf => ?_) (fun c7 hf => ?_)
      · obtain ⟨e1, rfl⟩ := mret_inv hf
        subst e1
        exact v_sub (ls' := _) [] rfl J
      · refine v_aload_n C 0 dJ2_fill_10 rfl rfl ?_
        refine v_iload_n C 2 dJ2_fill_11 rfl rfl ?_
        refine v_iload_n C 1 dJ2_fill_12 rfl rfl ?_
        refine v_iastore C hf dJ2_fill_13 (fun h2 hf => ?_)
        refine v_iinc (ls' := [(2, _), (0, _), (1, _), (3, _)]) (y := i2 + (1 : Int32)) C 2 dJ2_fill_14 rfl rfl (by decide) rfl ?_
        refine v_goto (tgt := 5) C dJ2_fill_17 (by decide) ?_
        refine v_sub (ls' := _) [1, 2, 0, 3] rfl (ih (i2 + (1 : Int32)) _ _ _ hf hl J)
  unfold f_J2_fill at hf
  refine v_iconst (x := 0) C dJ2_fill_0 (by decide) ?_
  refine v_istore_n (ls' := [(2, _), (0, _), (1, _)]) C dJ2_fill_1 rfl (by decide) rfl ?_
  refine v_aload_n C 1 dJ2_fill_2 rfl rfl ?_
  refine v_alen C hf (by decide) dJ2_fill_3 (fun x1 hf => ?_)
  refine v_istore_n (ls' := [(3, _), (2, _), (0, _), (1, _)]) C dJ2_fill_4 rfl (by decide) rfl ?_
  obtain ⟨x3, h4, eh4, hf, hlh4⟩ := mb_inv hf hl
  refine v_sub (ls' := _) [2, 3, 1, 0] rfl (L5 a0 i1 x1 FU (0 : Int32) _ _ _ eh4 hlh4 ?_)
  exact v_vret C E hf dJ2_fill_20
def f_J2_copyOf (a0 : Nat) (i1 : Int32) : hM Nat :=
  mb (alen 0 a0) fun x1 => mi (¬ i1 = x1) (mb (newA 0 i1) fun x2 => mb (alen 0 a0) fun x4 => mb (f_J0_min x4 i1) fun x5 => mb (cpI 0 a0 (0 : Int32) x2 (0 : Int32) x5) fun _ => mret x2) (mb (clB a0) fun x8 => mb (mca 0 x8) fun _ => mret x8)
theorem nd_J2_copyOf : yJ2_copyOf.cls ≠ "java/lang/invoke/MethodHandle" ∧ yJ2_copyOf.cls ≠ "java/lang/invoke/VarHandle" ∧ (parseMethodDescriptor yJ2_copyOf.desc).map (fun d => d.parameters.length) = some 2 := by decide +kernel
set_option maxHeartbeats 4000000 in
theorem ct_J2_copyOf (l : Launch) (a0 : Nat) (i1 : Int32) : CT l yJ2_copyOf cJ2_copyOf 3 (some (.array .byte)) 1 21 rvR [.ref a0, .int i1] (f_J2_copyOf a0 i1) := by
  refine CT_of (ls := [(0, .ref a0), (1, .int i1)]) (by decide) (Nat.le_of_ble_eq_true rfl) rfl ?_
  intro X h he z hX hf C E hnm hh
  have hl := hle.rf he
  subst hX
  unfold f_J2_copyOf at hf
  refine v_iload_n C 1 dJ2_copyOf_0 rfl rfl ?_
  refine v_aload_n C 0 dJ2_copyOf_1 rfl rfl ?_
  refine v_alen C hf (by decide) dJ2_copyOf_2 (fun x1 hf => ?_)
  refine v_icmp_ne C hf (tgt := 14) dJ2_copyOf_3 (by decide) (fun c3 hf => ?_) (fun c3 hf => ?_)
  · refine v_iload_n C 1 dJ2_copyOf_14 rfl rfl ?_
    refine v_newarraybyte C hf hl q256 dJ2_copyOf_15 (fun x2 h3 hf => ?_)
    refine v_astore_n (ls' := [(2, _), (0, _), (1, _)]) C dJ2_copyOf_17 rfl (by decide) rfl ?_
    refine v_aload_n C 1 dJ2_copyOf_18 rfl rfl ?_
    refine v_iconst (x := 0) C dJ2_copyOf_19 (by decide) ?_
    refine v_aload_n C 0 dJ2_copyOf_20 rfl rfl ?_
    refine v_iconst (x := 0) C dJ2_copyOf_21 (by decide) ?_
    refine v_aload_n C 1 dJ2_copyOf_22 rfl rfl ?_
    refine v_alen C hf (by decide) dJ2_copyOf_23 (fun x4 hf => ?_)
    refine v_iload_n C 2 dJ2_copyOf_24 rfl rfl ?_
    refine v_callS (stk := fun b => .int b :: [.int (0 : Int32), .ref x2, .int (0 : Int32), .ref a0]) C (ct_J0_min _ x4 i1) nd_J0_min rfl (Nat.le_of_ble_eq_true rfl) (Nat.le_of_ble_eq_true rfl) [.int (0 : Int32), .ref x2, .int (0 : Int32), .ref a0] (Nat.le_of_ble_eq_true rfl) (fun _ => rfl) rfl q914 q771 q98 q772 hf hl dJ2_copyOf_25 (fun x5 h6 hf => ?_)
    refine v_cpI C hf (by decide) (Nat.le_of_ble_eq_true rfl) (Nat.le_of_ble_eq_true rfl) q915 q917 q916 q128 dJ2_copyOf_28 (fun h7 hf => ?_)
    refine v_aload_n C 0 dJ2_copyOf_31 rfl rfl ?_
    exact v_aret C E hf (Or.inr ⟨_, rfl⟩) dJ2_copyOf_32
  · refine v_aload_n C 0 dJ2_copyOf_6 rfl rfl ?_
    refine v_clB C hf hl (Nat.le_of_ble_eq_true rfl) (Nat.le_of_ble_eq_true rfl) q907 q908 q909 q910 q911 q912 dJ2_copyOf_7 (fun x8 h9 hf => ?_)
    refine v_casta (kd := 0) C hf (by simp [kd4]) q913 dJ2_copyOf_10 (fun hf => ?_)
    exact v_aret C E hf (Or.inr ⟨_, rfl⟩) dJ2_copyOf_13
def f_J2_checkLength (i0 : Int32) (i1 : Int32) : hM Unit :=
  mi (i0 ≤ i1) (mret ()) (mfail)
theorem nd_J2_checkLength : yJ2_checkLength.cls ≠ "java/lang/invoke/MethodHandle" ∧ yJ2_checkLength.cls ≠ "java/lang/invoke/VarHandle" ∧ (parseMethodDescriptor yJ2_checkLength.desc).map (fun d => d.parameters.length) = some 2 := by decide +kernel
set_option maxHeartbeats 4000000 in
theorem ct_J2_checkLength (l : Launch) (i0 : Int32) (i1 : Int32) : CT l yJ2_checkLength cJ2_checkLength 2 none 0 0 rv0 [.int i0, .int i1] (f_J2_checkLength i0 i1) := by
  refine CT_of (ls := [(0, .int i0), (1, .int i1)]) (by decide) (Nat.le_of_ble_eq_true rfl) rfl ?_
  intro X h he z hX hf C E hnm hh
  have hl := hle.rf he
  subst hX
  unfold f_J2_checkLength at hf
  refine v_iload_n C 1 dJ2_checkLength_0 rfl rfl ?_
  refine v_iload_n C 0 dJ2_checkLength_1 rfl rfl ?_
  refine v_icmp_ge C hf (tgt := 37) dJ2_checkLength_2 (by decide) (fun c2 hf => ?_) (fun c2 hf => ?_)
  · exact v_vret C E hf dJ2_checkLength_37
  · exact mfail_inv hf
def f_J2_rangeCheck (i0 : Int32) (i1 : Int32) (i2 : Int32) : hM Unit :=
  mi (i1 ≤ i2) (mi (0 ≤ i1) (mi (i2 ≤ i0) (mret ()) (mfail)) (mfail)) (mfail)
theorem nd_J2_rangeCheck : yJ2_rangeCheck.cls ≠ "java/lang/invoke/MethodHandle" ∧ yJ2_rangeCheck.cls ≠ "java/lang/invoke/VarHandle" ∧ (parseMethodDescriptor yJ2_rangeCheck.desc).map (fun d => d.parameters.length) = some 3 := by decide +kernel
set_option maxHeartbeats 4000000 in
theorem ct_J2_rangeCheck (l : Launch) (i0 : Int32) (i1 : Int32) (i2 : Int32) : CT l yJ2_rangeCheck cJ2_rangeCheck 3 none 0 0 rv0 [.int i0, .int i1, .int i2] (f_J2_rangeCheck i0 i1 i2) := by
  refine CT_of (ls := [(0, .int i0), (1, .int i1), (2, .int i2)]) (by decide) (Nat.le_of_ble_eq_true rfl) rfl ?_
  intro X h he z hX hf C E hnm hh
  have hl := hle.rf he
  subst hX
  unfold f_J2_rangeCheck at hf
  refine v_iload_n C 1 dJ2_rangeCheck_0 rfl rfl ?_
  refine v_iload_n C 2 dJ2_rangeCheck_1 rfl rfl ?_
  refine v_icmp_le C hf (tgt := 46) dJ2_rangeCheck_2 (by decide) (fun c2 hf => ?_) (fun c2 hf => ?_)
  · refine v_iload_n C 1 dJ2_rangeCheck_46 rfl rfl ?_
    refine v_if_ge C hf (tgt := 59) dJ2_rangeCheck_47 (by decide) (fun c47 hf => ?_) (fun c47 hf => ?_)
    · refine v_iload_n C 2 dJ2_rangeCheck_59 rfl rfl ?_
      refine v_iload_n C 0 dJ2_rangeCheck_60 rfl rfl ?_
      refine v_icmp_le C hf (tgt := 73) dJ2_rangeCheck_61 (by decide) (fun c61 hf => ?_) (fun c61 hf => ?_)
      · exact v_vret C E hf dJ2_rangeCheck_73
      · exact mfail_inv hf
    · exact mfail_inv hf
  · exact mfail_inv hf
def l_J2_fill_3_5 (a0 : Nat) (i1 : Int32) (i3 : Int32) : Nat → Int32 → hM (Unit)
  | 0, _ => mfail
  | n + 1, i2 => mi (i3 ≤ i2) (mret ()) (mb (sI 2 a0 i2 i1) fun _ => l_J2_fill_3_5 a0 i1 i3 n (i2 + (1 : Int32)))
def f_J2_fill_3 (a0 : Nat) (i1 : Int32) : hM Unit :=
  mb (alen 2 a0) fun x1 => mb (l_J2_fill_3_5 a0 i1 x1 FU (0 : Int32)) fun x3 => mret ()
theorem nd_J2_fill_3 : yJ2_fill_3.cls ≠ "java/lang/invoke/MethodHandle" ∧ yJ2_fill_3.cls ≠ "java/lang/invoke/VarHandle" ∧ (parseMethodDescriptor yJ2_fill_3.desc).map (fun d => d.parameters.length) = some 2 := by decide +kernel
set_option maxHeartbeats 4000000 in
theorem ct_J2_fill_3 (l : Launch) (a0 : Nat) (i1 : Int32) : CT l yJ2_fill_3 cJ2_fill_3 4 none 0 0 rv0 [.ref a0, .int i1] (f_J2_fill_3 a0 i1) := by
  refine CT_of (ls := [(0, .ref a0), (1, .int i1)]) (by decide) (Nat.le_of_ble_eq_true rfl) rfl ?_
  intro X h he z hX hf C E hnm hh
  have hl := hle.rf he
  subst hX
  have L5 : ∀ (a0 : Nat) (i1 : Int32) (i3 : Int32) (n : Nat) (i2 : Int32) (h h1 : Hp) (o : Unit), (l_J2_fill_3_5 a0 i1 i3 n i2).1 h = some (o, h1) → hle h1 he → V X h1 20 [] [] → V X h 5 [(0, .ref a0), (1, .int i1), (2, .int i2), (3, .int i3)] [] := by
    intro a0 i1 i3 n
    induction n with
    | zero => intro i2 h h1 o hf; exact mfail_inv hf
    | succ n ih =>
      intro i2 h h1 o hf hl J
      rw [l_J2_fill_3_5] at hf
      refine v_iload_n C 2 dJ2_fill_3_5 rfl rfl ?_
      refine v_iload_n C 3 dJ2_fill_3_6 rfl rfl ?_
      refine v_icmp_ge C hf (tgt := 20) dJ2_fill_3_7 (by decide) (fun c7 hf => ?_) (fun c7 hf => ?_)
      · obtain ⟨e1, rfl⟩ := mret_inv hf
        subst e1
        exact v_sub (ls' := _) [] rfl J
      · refine v_aload_n C 0 dJ2_fill_3_10 rfl rfl ?_
        refine v_iload_n C 2 dJ2_fill_3_11 rfl rfl ?_
        refine v_iload_n C 1 dJ2_fill_3_12 rfl rfl ?_
        refine v_zastore C hf dJ2_fill_3_13 (fun h2 hf => ?_)
        refine v_iinc (ls' := [(2, _), (0, _), (1, _), (3, _)]) (y := i2 + (1 : Int32)) C 2 dJ2_fill_3_14 rfl rfl (by decide) rfl ?_
        refine v_goto (tgt := 5) C dJ2_fill_3_17 (by decide) ?_
        refine v_sub (ls' := _) [1, 2, 0, 3] rfl (ih (i2 + (1 : Int32)) _ _ _ hf hl J)
  unfold f_J2_fill_3 at hf
  refine v_iconst (x := 0) C dJ2_fill_3_0 (by decide) ?_
  refine v_istore_n (ls' := [(2, _), (0, _), (1, _)]) C dJ2_fill_3_1 rfl (by decide) rfl ?_
  refine v_aload_n C 1 dJ2_fill_3_2 rfl rfl ?_
  refine v_alen C hf (by decide) dJ2_fill_3_3 (fun x1 hf => ?_)
  refine v_istore_n (ls' := [(3, _), (2, _), (0, _), (1, _)]) C dJ2_fill_3_4 rfl (by decide) rfl ?_
  obtain ⟨x3, h4, eh4, hf, hlh4⟩ := mb_inv hf hl
  refine v_sub (ls' := _) [2, 3, 1, 0] rfl (L5 a0 i1 x1 FU (0 : Int32) _ _ _ eh4 hlh4 ?_)
  exact v_vret C E hf dJ2_fill_3_20
def f_J3_isLatin1 (a0 : Nat) : hM Int32 :=
  mb (mi ((1 : Int32) = 0) (mret (0 : Int32)) (mb (gI a0 19 1) fun x3 => mi (¬ x3 = 0) (mret (0 : Int32)) (mret (1 : Int32)))) fun x1 => mrt .boolean x1
theorem nd_J3_isLatin1 : yJ3_isLatin1.cls ≠ "java/lang/invoke/MethodHandle" ∧ yJ3_isLatin1.cls ≠ "java/lang/invoke/VarHandle" ∧ (parseMethodDescriptor yJ3_isLatin1.desc).map (fun d => d.parameters.length) = some 0 := by decide +kernel
set_option maxHeartbeats 4000000 in
theorem ct_J3_isLatin1 (l : Launch) (a0 : Nat) : CT l yJ3_isLatin1 cJ3_isLatin1 1 (some .boolean) 0 0 rvI [.ref a0] (f_J3_isLatin1 a0) := by
  refine CT_of (ls := [(0, .ref a0)]) (by decide) (Nat.le_of_ble_eq_true rfl) rfl ?_
  intro X h he z hX hf C E hnm hh
  have hl := hle.rf he
  subst hX
  unfold f_J3_isLatin1 at hf
  refine v_getsI (z := 1) C q287 q107 nw_0 q286 rfl dJ3_isLatin1_0 ?_
  obtain ⟨x1, h2, hAh2, hf, hlh2⟩ := mb_inv hf hl
  refine v_cut (h1 := h2) (pc1 := 18) (ls1 := []) (st1 := [.int x1]) ?_ (fun Jh2 => ?_)
  · clear hAh2 hlh2
    exact v_zret C E hf dJ3_isLatin1_18
  · clear hf
    have hf := hAh2
    have hl := hlh2
    refine v_if_eq C hf (tgt := 17) dJ3_isLatin1_3 (by decide) (fun c3 hf => ?_) (fun c3 hf => ?_)
    · refine v_iconst (x := 0) C dJ3_isLatin1_17 (by decide) ?_
      obtain ⟨e1, rfl⟩ := mret_inv hf
      subst e1
      exact v_sub (ls' := _) [] rfl Jh2
    · refine v_aload_n C 0 dJ3_isLatin1_6 rfl rfl ?_
      refine v_gI (Cn := RJ4) (T := TJ4) (N := 4) C hf in_J4 rfl (by decide) q377 rfl dJ3_isLatin1_7 (fun x3 hf => ?_)
      refine v_if_ne C hf (tgt := 17) dJ3_isLatin1_10 (by decide) (fun c10 hf => ?_) (fun c10 hf => ?_)
      · refine v_iconst (x := 0) C dJ3_isLatin1_17 (by decide) ?_
        obtain ⟨e1, rfl⟩ := mret_inv hf
        subst e1
        exact v_sub (ls' := _) [] rfl Jh2
      · refine v_iconst (x := 1) C dJ3_isLatin1_13 (by decide) ?_
        refine v_goto (tgt := 18) C dJ3_isLatin1_14 (by decide) ?_
        obtain ⟨e1, rfl⟩ := mret_inv hf
        subst e1
        exact v_sub (ls' := _) [] rfl Jh2
def f_J3_getValue (a0 : Nat) : hM Nat :=
  mb (gR a0 19 0) fun x1 => mret x1
theorem nd_J3_getValue : yJ3_getValue.cls ≠ "java/lang/invoke/MethodHandle" ∧ yJ3_getValue.cls ≠ "java/lang/invoke/VarHandle" ∧ (parseMethodDescriptor yJ3_getValue.desc).map (fun d => d.parameters.length) = some 0 := by decide +kernel
set_option maxHeartbeats 4000000 in
theorem ct_J3_getValue (l : Launch) (a0 : Nat) : CT l yJ3_getValue cJ3_getValue 1 (some (.array .byte)) 0 0 rvR [.ref a0] (f_J3_getValue a0) := by
  refine CT_of (ls := [(0, .ref a0)]) (by decide) (Nat.le_of_ble_eq_true rfl) rfl ?_
  intro X h he z hX hf C E hnm hh
  have hl := hle.rf he
  subst hX
  unfold f_J3_getValue at hf
  refine v_aload_n C 0 dJ3_getValue_0 rfl rfl ?_
  refine v_gR (Cn := RJ4) (T := TJ4) (N := 4) C hf in_J4 rfl (by decide) q376 rfl dJ3_getValue_1 (fun x1 hf => ?_)
  exact v_aret C E hf (Or.inr ⟨_, rfl⟩) dJ3_getValue_4
def f_J3_length (a0 : Nat) : hM Int32 :=
  mb (gI a0 19 3) fun x1 => mret x1
theorem nd_J3_length : yJ3_length.cls ≠ "java/lang/invoke/MethodHandle" ∧ yJ3_length.cls ≠ "java/lang/invoke/VarHandle" ∧ (parseMethodDescriptor yJ3_length.desc).map (fun d => d.parameters.length) = some 0 := by decide +kernel
set_option maxHeartbeats 4000000 in
theorem ct_J3_length (l : Launch) (a0 : Nat) : CT l yJ3_length cJ3_length 1 (some .int) 0 0 rvI [.ref a0] (f_J3_length a0) := by
  refine CT_of (ls := [(0, .ref a0)]) (by decide) (Nat.le_of_ble_eq_true rfl) rfl ?_
  intro X h he z hX hf C E hnm hh
  have hl := hle.rf he
  subst hX
  unfold f_J3_length at hf
  refine v_aload_n C 0 dJ3_length_0 rfl rfl ?_
  refine v_gI (Cn := RJ4) (T := TJ4) (N := 4) C hf in_J4 rfl (by decide) q380 rfl dJ3_length_1 (fun x1 hf => ?_)
  exact v_iret C E hf dJ3_length_4
def f_J4_length (a0 : Nat) : hM Int32 :=
  mb (mat a0 19 (f_J3_length a0)) fun x1 => mret x1
theorem nd_J4_length : yJ4_length.cls ≠ "java/lang/invoke/MethodHandle" ∧ yJ4_length.cls ≠ "java/lang/invoke/VarHandle" ∧ (parseMethodDescriptor yJ4_length.desc).map (fun d => d.parameters.length) = some 0 := by decide +kernel
set_option maxHeartbeats 4000000 in
theorem ct_J4_length (l : Launch) (a0 : Nat) : CT l yJ4_length cJ4_length 1 (some .int) 1 20 rvI [.ref a0] (f_J4_length a0) := by
  refine CT_of (ls := [(0, .ref a0)]) (by decide) (Nat.le_of_ble_eq_true rfl) rfl ?_
  intro X h he z hX hf C E hnm hh
  have hl := hle.rf he
  subst hX
  unfold f_J4_length at hf
  refine v_aload_n C 0 dJ4_length_0 rfl rfl ?_
  refine v_callSU (stk := fun b => .int b :: []) C (ct_J3_length _ a0) rfl ⟨by decide, nd_J3_length.2.2⟩ rfl (Nat.le_of_ble_eq_true rfl) (Nat.le_of_ble_eq_true rfl) [] (Nat.le_of_ble_eq_true rfl) (fun _ => rfl) rfl q1031 q1027 q389 q1026 q105 q1032 hf hl dJ4_length_1 (fun x1 h2 hf => ?_)
  exact v_iret C E hf dJ4_length_4
def f_J5_isLatin1 (a0 : Nat) : hM Int32 :=
  mb (mi ((1 : Int32) = 0) (mret (0 : Int32)) (mb (gI a0 20 1) fun x3 => mi (¬ x3 = 0) (mret (0 : Int32)) (mret (1 : Int32)))) fun x1 => mrt .boolean x1
theorem nd_J5_isLatin1 : yJ5_isLatin1.cls ≠ "java/lang/invoke/MethodHandle" ∧ yJ5_isLatin1.cls ≠ "java/lang/invoke/VarHandle" ∧ (parseMethodDescriptor yJ5_isLatin1.desc).map (fun d => d.parameters.length) = some 0 := by decide +kernel
set_option maxHeartbeats 4000000 in
theorem ct_J5_isLatin1 (l : Launch) (a0 : Nat) : CT l yJ5_isLatin1 cJ5_isLatin1 1 (some .boolean) 0 0 rvI [.ref a0] (f_J5_isLatin1 a0) := by
  refine CT_of (ls := [(0, .ref a0)]) (by decide) (Nat.le_of_ble_eq_true rfl) rfl ?_
  intro X h he z hX hf C E hnm hh
  have hl := hle.rf he
  subst hX
  unfold f_J5_isLatin1 at hf
  refine v_getsI (z := 1) C q287 q107 nw_0 q531 rfl dJ5_isLatin1_0 ?_
  obtain ⟨x1, h2, hAh2, hf, hlh2⟩ := mb_inv hf hl
  refine v_cut (h1 := h2) (pc1 := 18) (ls1 := []) (st1 := [.int x1]) ?_ (fun Jh2 => ?_)
  · clear hAh2 hlh2
    exact v_zret C E hf dJ5_isLatin1_18
  · clear hf
    have hf := hAh2
    have hl := hlh2
    refine v_if_eq C hf (tgt := 17) dJ5_isLatin1_3 (by decide) (fun c3 hf => ?_) (fun c3 hf => ?_)
    · refine v_iconst (x := 0) C dJ5_isLatin1_17 (by decide) ?_
      obtain ⟨e1, rfl⟩ := mret_inv hf
      subst e1
      exact v_sub (ls' := _) [] rfl Jh2
    · refine v_aload_n C 0 dJ5_isLatin1_6 rfl rfl ?_
      refine v_gI (Cn := RJ5) (T := TJ5) (N := 4) C hf in_J5 rfl (by decide) q1054 rfl dJ5_isLatin1_7 (fun x3 hf => ?_)
      refine v_if_ne C hf (tgt := 17) dJ5_isLatin1_10 (by decide) (fun c10 hf => ?_) (fun c10 hf => ?_)
      · refine v_iconst (x := 0) C dJ5_isLatin1_17 (by decide) ?_
        obtain ⟨e1, rfl⟩ := mret_inv hf
        subst e1
        exact v_sub (ls' := _) [] rfl Jh2
      · refine v_iconst (x := 1) C dJ5_isLatin1_13 (by decide) ?_
        refine v_goto (tgt := 18) C dJ5_isLatin1_14 (by decide) ?_
        obtain ⟨e1, rfl⟩ := mret_inv hf
        subst e1
        exact v_sub (ls' := _) [] rfl Jh2
def f_J5_equals (a0 : Nat) (a1 : Nat) : hM Int32 :=
  mi (¬ a0 = a1) (mb (mic 20 a1) fun _ => mb (mi ((1 : Int32) = 0) (mret (0 : Int32)) (mb (mcc 20 a1) fun _ => mi ((1 : Int32) = 0) (mb (gR a0 20 0) fun x3 => mb (gR a1 20 0) fun x4 => mb (f_J11_equals x3 x4) fun x5 => mi (x5 = 0) (mret (0 : Int32)) (mret (1 : Int32))) (mb (gI a0 20 1) fun x7 => mb (gI a1 20 1) fun x8 => mi (¬ x7 = x8) (mret (0 : Int32)) (mb (gR a0 20 0) fun x9 => mb (gR a1 20 0) fun x10 => mb (f_J11_equals x9 x10) fun x11 => mi (x11 = 0) (mret (0 : Int32)) (mret (1 : Int32)))))) fun x1 => mrt .boolean x1) (mrt .boolean (1 : Int32))
theorem nd_J5_equals : yJ5_equals.cls ≠ "java/lang/invoke/MethodHandle" ∧ yJ5_equals.cls ≠ "java/lang/invoke/VarHandle" ∧ (parseMethodDescriptor yJ5_equals.desc).map (fun d => d.parameters.length) = some 1 := by decide +kernel
set_option maxHeartbeats 4000000 in
theorem ct_J5_equals (l : Launch) (a0 : Nat) (a1 : Nat) : CT l yJ5_equals cJ5_equals 3 (some .boolean) 1 22 rvI [.ref a0, .ref a1] (f_J5_equals a0 a1) := by
  refine CT_of (ls := [(0, .ref a0), (1, .ref a1)]) (by decide) (Nat.le_of_ble_eq_true rfl) rfl ?_
  intro X h he z hX hf C E hnm hh
  have hl := hle.rf he
  subst hX
  unfold f_J5_equals at hf
  refine v_aload_n C 0 dJ5_equals_0 rfl rfl ?_
  refine v_aload_n C 1 dJ5_equals_1 rfl rfl ?_
  refine v_acmp_ne C hf (tgt := 7) dJ5_equals_2 (by decide) (fun c2 hf => ?_) (fun c2 hf => ?_)
  · refine v_aload_n C 1 dJ5_equals_7 rfl rfl ?_
    refine v_insto (ci := 20) C hf rfl q594 dJ5_equals_8 (fun hf => ?_)
    obtain ⟨x1, h2, hAh2, hf, hlh2⟩ := mb_inv hf hl
    refine v_cut (h1 := h2) (pc1 := 55) (ls1 := []) (st1 := [.int x1]) ?_ (fun Jh2 => ?_)
    · clear hAh2 hlh2
      exact v_zret C E hf dJ5_equals_55
    · clear hf
      have hf := hAh2
      have hl := hlh2
      refine v_if_eq C hf (tgt := 54) dJ5_equals_11 (by decide) (fun c11 hf => ?_) (fun c11 hf => ?_)
      · refine v_iconst (x := 0) C dJ5_equals_54 (by decide) ?_
        obtain ⟨e1, rfl⟩ := mret_inv hf
        subst e1
        exact v_sub (ls' := _) [] rfl Jh2
      · refine v_aload_n C 1 dJ5_equals_14 rfl rfl ?_
        refine v_casto (ci := 20) C hf rfl q594 dJ5_equals_15 (fun hf => ?_)
        refine v_astore_n (ls' := [(2, _), (0, _), (1, _)]) C dJ5_equals_18 rfl (by decide) rfl ?_
        refine v_getsI (z := 1) C q287 q107 nw_0 q531 rfl dJ5_equals_19 ?_
        refine v_if_eq C hf (tgt := 36) dJ5_equals_22 (by decide) (fun c22 hf => ?_) (fun c22 hf => ?_)
        · refine v_aload_n C 1 dJ5_equals_36 rfl rfl ?_
          refine v_gR (Cn := RJ5) (T := TJ5) (N := 4) C hf in_J5 rfl (by decide) q1053 rfl dJ5_equals_37 (fun x3 hf => ?_)
          refine v_aload_n C 0 dJ5_equals_40 rfl rfl ?_
          refine v_gR (Cn := RJ5) (T := TJ5) (N := 4) C hf in_J5 rfl (by decide) q1053 rfl dJ5_equals_41 (fun x4 hf => ?_)
          refine v_callS (stk := fun b => .int b :: []) C (ct_J11_equals _ x3 x4) nd_J11_equals rfl (Nat.le_of_ble_eq_true rfl) (Nat.le_of_ble_eq_true rfl) [] (Nat.le_of_ble_eq_true rfl) (fun _ => rfl) rfl q595 q596 q120 q597 hf hl dJ5_equals_44 (fun x5 h6 hf => ?_)
          refine v_if_eq C hf (tgt := 54) dJ5_equals_47 (by decide) (fun c47 hf => ?_) (fun c47 hf => ?_)
          · refine v_iconst (x := 0) C dJ5_equals_54 (by decide) ?_
            obtain ⟨e1, rfl⟩ := mret_inv hf
            subst e1
            exact v_sub (ls' := _) [] rfl Jh2
          · refine v_iconst (x := 1) C dJ5_equals_50 (by decide) ?_
            refine v_goto (tgt := 55) C dJ5_equals_51 (by decide) ?_
            obtain ⟨e1, rfl⟩ := mret_inv hf
            subst e1
            exact v_sub (ls' := _) [] rfl Jh2
        · refine v_aload_n C 1 dJ5_equals_25 rfl rfl ?_
          refine v_gI (Cn := RJ5) (T := TJ5) (N := 4) C hf in_J5 rfl (by decide) q1054 rfl dJ5_equals_26 (fun x7 hf => ?_)
          refine v_aload_n C 0 dJ5_equals_29 rfl rfl ?_
          refine v_gI (Cn := RJ5) (T := TJ5) (N := 4) C hf in_J5 rfl (by decide) q1054 rfl dJ5_equals_30 (fun x8 hf => ?_)
          refine v_icmp_ne C hf (tgt := 54) dJ5_equals_33 (by decide) (fun c33 hf => ?_) (fun c33 hf => ?_)
          · refine v_iconst (x := 0) C dJ5_equals_54 (by decide) ?_
            obtain ⟨e1, rfl⟩ := mret_inv hf
            subst e1
            exact v_sub (ls' := _) [] rfl Jh2
          · refine v_aload_n C 1 dJ5_equals_36 rfl rfl ?_
            refine v_gR (Cn := RJ5) (T := TJ5) (N := 4) C hf in_J5 rfl (by decide) q1053 rfl dJ5_equals_37 (fun x9 hf => ?_)
            refine v_aload_n C 0 dJ5_equals_40 rfl rfl ?_
            refine v_gR (Cn := RJ5) (T := TJ5) (N := 4) C hf in_J5 rfl (by decide) q1053 rfl dJ5_equals_41 (fun x10 hf => ?_)
            refine v_callS (stk := fun b => .int b :: []) C (ct_J11_equals _ x9 x10) nd_J11_equals rfl (Nat.le_of_ble_eq_true rfl) (Nat.le_of_ble_eq_true rfl) [] (Nat.le_of_ble_eq_true rfl) (fun _ => rfl) rfl q595 q596 q120 q597 hf hl dJ5_equals_44 (fun x11 h12 hf => ?_)
            refine v_if_eq C hf (tgt := 54) dJ5_equals_47 (by decide) (fun c47 hf => ?_) (fun c47 hf => ?_)
            · refine v_iconst (x := 0) C dJ5_equals_54 (by decide) ?_
              obtain ⟨e1, rfl⟩ := mret_inv hf
              subst e1
              exact v_sub (ls' := _) [] rfl Jh2
            · refine v_iconst (x := 1) C dJ5_equals_50 (by decide) ?_
              refine v_goto (tgt := 55) C dJ5_equals_51 (by decide) ?_
              obtain ⟨e1, rfl⟩ := mret_inv hf
              subst e1
              exact v_sub (ls' := _) [] rfl Jh2
  · refine v_iconst (x := 1) C dJ5_equals_5 (by decide) ?_
    exact v_zret C E hf dJ5_equals_6
def f_J5_checkBoundsBeginEnd (i0 : Int32) (i1 : Int32) (i2 : Int32) : hM Unit :=
  mfail
theorem nd_J5_checkBoundsBeginEnd : yJ5_checkBoundsBeginEnd.cls ≠ "java/lang/invoke/MethodHandle" ∧ yJ5_checkBoundsBeginEnd.cls ≠ "java/lang/invoke/VarHandle" ∧ (parseMethodDescriptor yJ5_checkBoundsBeginEnd.desc).map (fun d => d.parameters.length) = some 3 := by decide +kernel
set_option maxHeartbeats 4000000 in
theorem ct_J5_checkBoundsBeginEnd (l : Launch) (i0 : Int32) (i1 : Int32) (i2 : Int32) : CT l yJ5_checkBoundsBeginEnd cJ5_checkBoundsBeginEnd 3 none 0 0 rv0 [.int i0, .int i1, .int i2] (f_J5_checkBoundsBeginEnd i0 i1 i2) := by
  refine CT_of (ls := [(0, .int i0), (1, .int i1), (2, .int i2)]) (by decide) (Nat.le_of_ble_eq_true rfl) rfl ?_
  intro X h he z hX hf C E hnm hh
  have hl := hle.rf he
  subst hX
  unfold f_J5_checkBoundsBeginEnd at hf
  refine v_iload_n C 0 dJ5_checkBoundsBeginEnd_0 rfl rfl ?_
  refine v_iload_n C 1 dJ5_checkBoundsBeginEnd_1 rfl rfl ?_
  refine v_iload_n C 2 dJ5_checkBoundsBeginEnd_2 rfl rfl ?_
  exact mfail_inv hf
def f_J5_coder (a0 : Nat) : hM Int32 :=
  mb (mi ((1 : Int32) = 0) (mret (1 : Int32)) (mb (gI a0 20 1) fun x3 => mret x3)) fun x1 => mrt .byte x1
theorem nd_J5_coder : yJ5_coder.cls ≠ "java/lang/invoke/MethodHandle" ∧ yJ5_coder.cls ≠ "java/lang/invoke/VarHandle" ∧ (parseMethodDescriptor yJ5_coder.desc).map (fun d => d.parameters.length) = some 0 := by decide +kernel
set_option maxHeartbeats 4000000 in
theorem ct_J5_coder (l : Launch) (a0 : Nat) : CT l yJ5_coder cJ5_coder 1 (some .byte) 0 0 rvI [.ref a0] (f_J5_coder a0) := by
  refine CT_of (ls := [(0, .ref a0)]) (by decide) (Nat.le_of_ble_eq_true rfl) rfl ?_
  intro X h he z hX hf C E hnm hh
  have hl := hle.rf he
  subst hX
  unfold f_J5_coder at hf
  refine v_getsI (z := 1) C q287 q107 nw_0 q531 rfl dJ5_coder_0 ?_
  obtain ⟨x1, h2, hAh2, hf, hlh2⟩ := mb_inv hf hl
  refine v_cut (h1 := h2) (pc1 := 14) (ls1 := []) (st1 := [.int x1]) ?_ (fun Jh2 => ?_)
  · clear hAh2 hlh2
    exact v_zret C E hf dJ5_coder_14
  · clear hf
    have hf := hAh2
    have hl := hlh2
    refine v_if_eq C hf (tgt := 13) dJ5_coder_3 (by decide) (fun c3 hf => ?_) (fun c3 hf => ?_)
    · refine v_iconst (x := 1) C dJ5_coder_13 (by decide) ?_
      obtain ⟨e1, rfl⟩ := mret_inv hf
      subst e1
      exact v_sub (ls' := _) [] rfl Jh2
    · refine v_aload_n C 0 dJ5_coder_6 rfl rfl ?_
      refine v_gI (Cn := RJ5) (T := TJ5) (N := 4) C hf in_J5 rfl (by decide) q1054 rfl dJ5_coder_7 (fun x3 hf => ?_)
      refine v_goto (tgt := 14) C dJ5_coder_10 (by decide) ?_
      obtain ⟨e1, rfl⟩ := mret_inv hf
      subst e1
      exact v_sub (ls' := _) [] rfl Jh2
def f_J5_checkBoundsOffCount (i0 : Int32) (i1 : Int32) (i2 : Int32) : hM Int32 :=
  mfail
theorem nd_J5_checkBoundsOffCount : yJ5_checkBoundsOffCount.cls ≠ "java/lang/invoke/MethodHandle" ∧ yJ5_checkBoundsOffCount.cls ≠ "java/lang/invoke/VarHandle" ∧ (parseMethodDescriptor yJ5_checkBoundsOffCount.desc).map (fun d => d.parameters.length) = some 3 := by decide +kernel
set_option maxHeartbeats 4000000 in
theorem ct_J5_checkBoundsOffCount (l : Launch) (i0 : Int32) (i1 : Int32) (i2 : Int32) : CT l yJ5_checkBoundsOffCount cJ5_checkBoundsOffCount 3 (some .int) 0 0 rvI [.int i0, .int i1, .int i2] (f_J5_checkBoundsOffCount i0 i1 i2) := by
  refine CT_of (ls := [(0, .int i0), (1, .int i1), (2, .int i2)]) (by decide) (Nat.le_of_ble_eq_true rfl) rfl ?_
  intro X h he z hX hf C E hnm hh
  have hl := hle.rf he
  subst hX
  unfold f_J5_checkBoundsOffCount at hf
  refine v_iload_n C 0 dJ5_checkBoundsOffCount_0 rfl rfl ?_
  refine v_iload_n C 1 dJ5_checkBoundsOffCount_1 rfl rfl ?_
  refine v_iload_n C 2 dJ5_checkBoundsOffCount_2 rfl rfl ?_
  exact mfail_inv hf
def f_J5_checkIndex (i0 : Int32) (i1 : Int32) : hM Unit :=
  mfail
theorem nd_J5_checkIndex : yJ5_checkIndex.cls ≠ "java/lang/invoke/MethodHandle" ∧ yJ5_checkIndex.cls ≠ "java/lang/invoke/VarHandle" ∧ (parseMethodDescriptor yJ5_checkIndex.desc).map (fun d => d.parameters.length) = some 2 := by decide +kernel
set_option maxHeartbeats 4000000 in
theorem ct_J5_checkIndex (l : Launch) (i0 : Int32) (i1 : Int32) : CT l yJ5_checkIndex cJ5_checkIndex 2 none 0 0 rv0 [.int i0, .int i1] (f_J5_checkIndex i0 i1) := by
  refine CT_of (ls := [(0, .int i0), (1, .int i1)]) (by decide) (Nat.le_of_ble_eq_true rfl) rfl ?_
  intro X h he z hX hf C E hnm hh
  have hl := hle.rf he
  subst hX
  unfold f_J5_checkIndex at hf
  refine v_iload_n C 0 dJ5_checkIndex_0 rfl rfl ?_
  refine v_iload_n C 1 dJ5_checkIndex_1 rfl rfl ?_
  exact mfail_inv hf
def f_J6_newBytesLength (i0 : Int32) : hM Int32 :=
  mi (0 ≤ i0) (mi (i0 < (1073741823 : Int32)) (mret (i0 <<< ((1 : Int32) &&& 31))) (mfail)) (mfail)
theorem nd_J6_newBytesLength : yJ6_newBytesLength.cls ≠ "java/lang/invoke/MethodHandle" ∧ yJ6_newBytesLength.cls ≠ "java/lang/invoke/VarHandle" ∧ (parseMethodDescriptor yJ6_newBytesLength.desc).map (fun d => d.parameters.length) = some 1 := by decide +kernel
set_option maxHeartbeats 4000000 in
theorem ct_J6_newBytesLength (l : Launch) (i0 : Int32) : CT l yJ6_newBytesLength cJ6_newBytesLength 1 (some .int) 0 0 rvI [.int i0] (f_J6_newBytesLength i0) := by
  refine CT_of (ls := [(0, .int i0)]) (by decide) (Nat.le_of_ble_eq_true rfl) rfl ?_
  intro X h he z hX hf C E hnm hh
  have hl := hle.rf he
  subst hX
  unfold f_J6_newBytesLength at hf
  refine v_iload_n C 0 dJ6_newBytesLength_0 rfl rfl ?_
  refine v_if_ge C hf (tgt := 12) dJ6_newBytesLength_1 (by decide) (fun c1 hf => ?_) (fun c1 hf => ?_)
  · refine v_iload_n C 0 dJ6_newBytesLength_12 rfl rfl ?_
    refine v_ldc (x := 1073741823) C q375 dJ6_newBytesLength_13 ?_
    refine v_icmp_lt C hf (tgt := 55) dJ6_newBytesLength_15 (by decide) (fun c15 hf => ?_) (fun c15 hf => ?_)
    · refine v_iload_n C 0 dJ6_newBytesLength_55 rfl rfl ?_
      refine v_iconst (x := 1) C dJ6_newBytesLength_56 (by decide) ?_
      refine v_ishl C dJ6_newBytesLength_57 ?_
      exact v_iret C E hf dJ6_newBytesLength_58
    · exact mfail_inv hf
  · exact mfail_inv hf
def f_J6_length (a0 : Nat) : hM Int32 :=
  mb (alen 0 a0) fun x1 => mret (x1 >>> ((1 : Int32) &&& 31))
theorem nd_J6_length : yJ6_length.cls ≠ "java/lang/invoke/MethodHandle" ∧ yJ6_length.cls ≠ "java/lang/invoke/VarHandle" ∧ (parseMethodDescriptor yJ6_length.desc).map (fun d => d.parameters.length) = some 1 := by decide +kernel
set_option maxHeartbeats 4000000 in
theorem ct_J6_length (l : Launch) (a0 : Nat) : CT l yJ6_length cJ6_length 1 (some .int) 0 0 rvI [.ref a0] (f_J6_length a0) := by
  refine CT_of (ls := [(0, .ref a0)]) (by decide) (Nat.le_of_ble_eq_true rfl) rfl ?_
  intro X h he z hX hf C E hnm hh
  have hl := hle.rf he
  subst hX
  unfold f_J6_length at hf
  refine v_aload_n C 0 dJ6_length_0 rfl rfl ?_
  refine v_alen C hf (by decide) dJ6_length_1 (fun x1 hf => ?_)
  refine v_iconst (x := 1) C dJ6_length_2 (by decide) ?_
  refine v_ishr C dJ6_length_3 ?_
  exact v_iret C E hf dJ6_length_4
def f_J6_checkBoundsBeginEnd (i0 : Int32) (i1 : Int32) (a2 : Nat) : hM Unit :=
  mb (f_J6_length a2) fun x1 => mb (f_J5_checkBoundsBeginEnd i0 i1 x1) fun _ => mret ()
theorem nd_J6_checkBoundsBeginEnd : yJ6_checkBoundsBeginEnd.cls ≠ "java/lang/invoke/MethodHandle" ∧ yJ6_checkBoundsBeginEnd.cls ≠ "java/lang/invoke/VarHandle" ∧ (parseMethodDescriptor yJ6_checkBoundsBeginEnd.desc).map (fun d => d.parameters.length) = some 3 := by decide +kernel
set_option maxHeartbeats 4000000 in
theorem ct_J6_checkBoundsBeginEnd (l : Launch) (i0 : Int32) (i1 : Int32) (a2 : Nat) : CT l yJ6_checkBoundsBeginEnd cJ6_checkBoundsBeginEnd 3 none 1 22 rv0 [.int i0, .int i1, .ref a2] (f_J6_checkBoundsBeginEnd i0 i1 a2) := by
  refine CT_of (ls := [(0, .int i0), (1, .int i1), (2, .ref a2)]) (by decide) (Nat.le_of_ble_eq_true rfl) rfl ?_
  intro X h he z hX hf C E hnm hh
  have hl := hle.rf he
  subst hX
  unfold f_J6_checkBoundsBeginEnd at hf
  refine v_iload_n C 0 dJ6_checkBoundsBeginEnd_0 rfl rfl ?_
  refine v_iload_n C 1 dJ6_checkBoundsBeginEnd_1 rfl rfl ?_
  refine v_aload_n C 2 dJ6_checkBoundsBeginEnd_2 rfl rfl ?_
  refine v_callS (stk := fun b => .int b :: [.int i1, .int i0]) C (ct_J6_length _ a2) nd_J6_length rfl (Nat.le_of_ble_eq_true rfl) (Nat.le_of_ble_eq_true rfl) [.int i1, .int i0] (Nat.le_of_ble_eq_true rfl) (fun _ => rfl) rfl q562 q563 q108 q564 hf hl dJ6_checkBoundsBeginEnd_3 (fun x1 h2 hf => ?_)
  refine v_callS (stk := fun _ => []) C (ct_J5_checkBoundsBeginEnd _ i0 i1 x1) nd_J5_checkBoundsBeginEnd rfl (Nat.le_of_ble_eq_true rfl) (Nat.le_of_ble_eq_true rfl) [] (Nat.le_of_ble_eq_true rfl) (fun _ => rfl) rfl q929 q930 q107 q931 hf hl dJ6_checkBoundsBeginEnd_6 (fun x3 h4 hf => ?_)
  exact v_vret C E hf dJ6_checkBoundsBeginEnd_9
def f_J6_putChar (a0 : Nat) (i1 : Int32) (i2 : Int32) : hM Unit :=
  mi (¬ (1 : Int32) = 0) (mb (sI 0 a0 (i1 <<< ((1 : Int32) &&& 31)) ((i2 >>> ((0 : Int32) &&& 31)).toInt8.toInt32)) fun _ => mb (sI 0 a0 ((i1 <<< ((1 : Int32) &&& 31)) + (1 : Int32)) ((i2 >>> ((8 : Int32) &&& 31)).toInt8.toInt32)) fun _ => mret ()) (mi (i1 < 0) (mfail) (mb (f_J6_length a0) fun x3 => mi (i1 < x3) (mb (sI 0 a0 (i1 <<< ((1 : Int32) &&& 31)) ((i2 >>> ((0 : Int32) &&& 31)).toInt8.toInt32)) fun _ => mb (sI 0 a0 ((i1 <<< ((1 : Int32) &&& 31)) + (1 : Int32)) ((i2 >>> ((8 : Int32) &&& 31)).toInt8.toInt32)) fun _ => mret ()) (mfail)))
theorem nd_J6_putChar : yJ6_putChar.cls ≠ "java/lang/invoke/MethodHandle" ∧ yJ6_putChar.cls ≠ "java/lang/invoke/VarHandle" ∧ (parseMethodDescriptor yJ6_putChar.desc).map (fun d => d.parameters.length) = some 3 := by decide +kernel
set_option maxHeartbeats 4000000 in
theorem ct_J6_putChar (l : Launch) (a0 : Nat) (i1 : Int32) (i2 : Int32) : CT l yJ6_putChar cJ6_putChar 3 none 1 20 rv0 [.ref a0, .int i1, .int i2] (f_J6_putChar a0 i1 i2) := by
  refine CT_of (ls := [(0, .ref a0), (1, .int i1), (2, .int i2)]) (by decide) (Nat.le_of_ble_eq_true rfl) rfl ?_
  intro X h he z hX hf C E hnm hh
  have hl := hle.rf he
  subst hX
  unfold f_J6_putChar at hf
  refine v_getsI (z := 1) C q561 q108 nw_1 q560 rfl dJ6_putChar_0 ?_
  refine v_if_ne C hf (tgt := 28) dJ6_putChar_3 (by decide) (fun c3 hf => ?_) (fun c3 hf => ?_)
  · refine v_iload_n C 1 dJ6_putChar_28 rfl rfl ?_
    refine v_iconst (x := 1) C dJ6_putChar_29 (by decide) ?_
    refine v_ishl C dJ6_putChar_30 ?_
    refine v_istore_n (ls' := [(1, _), (0, _), (2, _)]) C dJ6_putChar_31 rfl (by decide) rfl ?_
    refine v_aload_n C 1 dJ6_putChar_32 rfl rfl ?_
    refine v_iload_n C 0 dJ6_putChar_33 rfl rfl ?_
    refine v_iinc (ls' := [(1, _), (0, _), (2, _)]) (y := (i1 <<< ((1 : Int32) &&& 31)) + (1 : Int32)) C 0 dJ6_putChar_34 rfl rfl (by decide) rfl ?_
    refine v_iload_n C 2 dJ6_putChar_37 rfl rfl ?_
    refine v_getsI (z := 0) C q566 q108 nw_2 q565 rfl dJ6_putChar_38 ?_
    refine v_ishr C dJ6_putChar_41 ?_
    refine v_i2b C dJ6_putChar_42 ?_
    refine v_bastore C hf dJ6_putChar_43 (fun h1 hf => ?_)
    refine v_aload_n C 1 dJ6_putChar_44 rfl rfl ?_
    refine v_iload_n C 0 dJ6_putChar_45 rfl rfl ?_
    refine v_iload_n C 2 dJ6_putChar_46 rfl rfl ?_
    refine v_getsI (z := 8) C q568 q108 nw_3 q567 rfl dJ6_putChar_47 ?_
    refine v_ishr C dJ6_putChar_50 ?_
    refine v_i2b C dJ6_putChar_51 ?_
    refine v_bastore C hf dJ6_putChar_52 (fun h2 hf => ?_)
    exact v_vret C E hf dJ6_putChar_53
  · refine v_iload_n C 1 dJ6_putChar_6 rfl rfl ?_
    refine v_if_lt C hf (tgt := 18) dJ6_putChar_7 (by decide) (fun c7 hf => ?_) (fun c7 hf => ?_)
    · exact mfail_inv hf
    · refine v_iload_n C 1 dJ6_putChar_10 rfl rfl ?_
      refine v_aload_n C 0 dJ6_putChar_11 rfl rfl ?_
      refine v_callS (stk := fun b => .int b :: [.int i1]) C (ct_J6_length _ a0) nd_J6_length rfl (Nat.le_of_ble_eq_true rfl) (Nat.le_of_ble_eq_true rfl) [.int i1] (Nat.le_of_ble_eq_true rfl) (fun _ => rfl) rfl q562 q563 q108 q564 hf hl dJ6_putChar_12 (fun x3 h4 hf => ?_)
      refine v_icmp_lt C hf (tgt := 28) dJ6_putChar_15 (by decide) (fun c15 hf => ?_) (fun c15 hf => ?_)
      · refine v_iload_n C 1 dJ6_putChar_28 rfl rfl ?_
        refine v_iconst (x := 1) C dJ6_putChar_29 (by decide) ?_
        refine v_ishl C dJ6_putChar_30 ?_
        refine v_istore_n (ls' := [(1, _), (0, _), (2, _)]) C dJ6_putChar_31 rfl (by decide) rfl ?_
        refine v_aload_n C 1 dJ6_putChar_32 rfl rfl ?_
        refine v_iload_n C 0 dJ6_putChar_33 rfl rfl ?_
        refine v_iinc (ls' := [(1, _), (0, _), (2, _)]) (y := (i1 <<< ((1 : Int32) &&& 31)) + (1 : Int32)) C 0 dJ6_putChar_34 rfl rfl (by decide) rfl ?_
        refine v_iload_n C 2 dJ6_putChar_37 rfl rfl ?_
        refine v_getsI (z := 0) C q566 q108 nw_2 q565 rfl dJ6_putChar_38 ?_
        refine v_ishr C dJ6_putChar_41 ?_
        refine v_i2b C dJ6_putChar_42 ?_
        refine v_bastore C hf dJ6_putChar_43 (fun h5 hf => ?_)
        refine v_aload_n C 1 dJ6_putChar_44 rfl rfl ?_
        refine v_iload_n C 0 dJ6_putChar_45 rfl rfl ?_
        refine v_iload_n C 2 dJ6_putChar_46 rfl rfl ?_
        refine v_getsI (z := 8) C q568 q108 nw_3 q567 rfl dJ6_putChar_47 ?_
        refine v_ishr C dJ6_putChar_50 ?_
        refine v_i2b C dJ6_putChar_51 ?_
        refine v_bastore C hf dJ6_putChar_52 (fun h6 hf => ?_)
        exact v_vret C E hf dJ6_putChar_53
      · exact mfail_inv hf
def f_J6_checkBoundsOffCount (i0 : Int32) (i1 : Int32) (a2 : Nat) : hM Unit :=
  mb (f_J6_length a2) fun x1 => mb (f_J5_checkBoundsOffCount i0 i1 x1) fun x3 => mret ()
theorem nd_J6_checkBoundsOffCount : yJ6_checkBoundsOffCount.cls ≠ "java/lang/invoke/MethodHandle" ∧ yJ6_checkBoundsOffCount.cls ≠ "java/lang/invoke/VarHandle" ∧ (parseMethodDescriptor yJ6_checkBoundsOffCount.desc).map (fun d => d.parameters.length) = some 3 := by decide +kernel
set_option maxHeartbeats 4000000 in
theorem ct_J6_checkBoundsOffCount (l : Launch) (i0 : Int32) (i1 : Int32) (a2 : Nat) : CT l yJ6_checkBoundsOffCount cJ6_checkBoundsOffCount 3 none 1 22 rv0 [.int i0, .int i1, .ref a2] (f_J6_checkBoundsOffCount i0 i1 a2) := by
  refine CT_of (ls := [(0, .int i0), (1, .int i1), (2, .ref a2)]) (by decide) (Nat.le_of_ble_eq_true rfl) rfl ?_
  intro X h he z hX hf C E hnm hh
  have hl := hle.rf he
  subst hX
  unfold f_J6_checkBoundsOffCount at hf
  refine v_iload_n C 0 dJ6_checkBoundsOffCount_0 rfl rfl ?_
  refine v_iload_n C 1 dJ6_checkBoundsOffCount_1 rfl rfl ?_
  refine v_aload_n C 2 dJ6_checkBoundsOffCount_2 rfl rfl ?_
  refine v_callS (stk := fun b => .int b :: [.int i1, .int i0]) C (ct_J6_length _ a2) nd_J6_length rfl (Nat.le_of_ble_eq_true rfl) (Nat.le_of_ble_eq_true rfl) [.int i1, .int i0] (Nat.le_of_ble_eq_true rfl) (fun _ => rfl) rfl q562 q563 q108 q564 hf hl dJ6_checkBoundsOffCount_3 (fun x1 h2 hf => ?_)
  refine v_callS (stk := fun b => .int b :: []) C (ct_J5_checkBoundsOffCount _ i0 i1 x1) nd_J5_checkBoundsOffCount rfl (Nat.le_of_ble_eq_true rfl) (Nat.le_of_ble_eq_true rfl) [] (Nat.le_of_ble_eq_true rfl) (fun _ => rfl) rfl q970 q971 q107 q972 hf hl dJ6_checkBoundsOffCount_6 (fun x3 h4 hf => ?_)
  refine v_pop C dJ6_checkBoundsOffCount_9 rfl ?_
  exact v_vret C E hf dJ6_checkBoundsOffCount_10
def l_J6_getChars_2_22 (a2 : Nat) (i6 : Int32) : Nat → Int32 → Int32 → hM (Int32 × Int32)
  | 0, _, _ => mfail
  | n + 1, i0, i5 => mi ((-100 : Int32) < i0) (mret (i0, i5)) (mb (mdiv i0 (100 : Int32)) fun x5 => mb (mcn 14) fun x6 => mb (aI 0 x6 ((x5 * (100 : Int32)) - i0)) fun x7 => mb (f_J6_putChar a2 (i5 + (-1 : Int32)) x7) fun _ => mb (mcn 15) fun x10 => mb (aI 0 x10 ((x5 * (100 : Int32)) - i0)) fun x11 => mb (f_J6_putChar a2 ((i5 + (-1 : Int32)) + (-1 : Int32)) x11) fun _ => l_J6_getChars_2_22 a2 i6 n x5 ((i5 + (-1 : Int32)) + (-1 : Int32)))
def f_J6_getChars_2 (i0 : Int32) (i1 : Int32) (a2 : Nat) : hM Int32 :=
  mb (mi (0 ≤ i0) (mret (0 : Int32)) (mret (1 : Int32))) fun x1 => mb (mi (¬ x1 = 0) (mret i0) (mret (-i0))) fun x3 => mb (l_J6_getChars_2_22 a2 x1 FU x3 i1) fun x14 => mb (mcn 14) fun x16 => mb (aI 0 x16 (-x14.1)) fun x17 => mb (f_J6_putChar a2 (x14.2 + (-1 : Int32)) x17) fun _ => mb (mi ((-9 : Int32) ≤ x14.1) (mret (x14.2 + (-1 : Int32))) (mb (mcn 15) fun x26 => mb (aI 0 x26 (-x14.1)) fun x27 => mb (f_J6_putChar a2 ((x14.2 + (-1 : Int32)) + (-1 : Int32)) x27) fun _ => mret ((x14.2 + (-1 : Int32)) + (-1 : Int32)))) fun x20 => mb (mi (x1 = 0) (mret x20) (mb (f_J6_putChar a2 (x20 + (-1 : Int32)) (45 : Int32)) fun _ => mret (x20 + (-1 : Int32)))) fun x22 => mret x22
theorem nd_J6_getChars_2 : yJ6_getChars_2.cls ≠ "java/lang/invoke/MethodHandle" ∧ yJ6_getChars_2.cls ≠ "java/lang/invoke/VarHandle" ∧ (parseMethodDescriptor yJ6_getChars_2.desc).map (fun d => d.parameters.length) = some 3 := by decide +kernel
set_option maxHeartbeats 4000000 in
theorem ct_J6_getChars_2 (l : Launch) (i0 : Int32) (i1 : Int32) (a2 : Nat) : CT l yJ6_getChars_2 cJ6_getChars_2 7 (some .int) 2 42 rvI [.int i0, .int i1, .ref a2] (f_J6_getChars_2 i0 i1 a2) := by
  refine CT_of (ls := [(0, .int i0), (1, .int i1), (2, .ref a2)]) (by decide) (Nat.le_of_ble_eq_true rfl) rfl ?_
  intro X h he z hX hf C E hnm hh
  have hl := hle.rf he
  subst hX
  have L22 : ∀ (a2 : Nat) (i6 : Int32) (n : Nat) (i0 : Int32) (i5 : Int32) (h h1 : Hp) (o : Int32 × Int32), (l_J6_getChars_2_22 a2 i6 n i0 i5).1 h = some (o, h1) → hle h1 he → V X h1 76 [(0, .int o.1), (2, .ref a2), (5, .int o.2), (6, .int i6)] [] → V X h 22 [(0, .int i0), (2, .ref a2), (5, .int i5), (6, .int i6)] [] := by
    intro a2 i6 n
    induction n with
    | zero => intro i0 i5 h h1 o hf; exact mfail_inv hf
    | succ n ih =>
      intro i0 i5 h h1 o hf hl J
      rw [l_J6_getChars_2_22] at hf
      refine v_iload_n C 0 dJ6_getChars_2_22 rfl rfl ?_
      refine v_bipush (x := (-100)) C dJ6_getChars_2_23 (by decide) ?_
      refine v_icmp_gt C hf (tgt := 76) dJ6_getChars_2_25 (by decide) (fun c25 hf => ?_) (fun c25 hf => ?_)
      · obtain ⟨e1, rfl⟩ := mret_inv hf
        subst e1
        exact v_sub (ls' := _) [0, 1, 2, 3] rfl J
      · refine v_iload_n C 0 dJ6_getChars_2_28 rfl rfl ?_
        refine v_bipush (x := 100) C dJ6_getChars_2_29 (by decide) ?_
        refine v_idiv C hf dJ6_getChars_2_31 (fun x5 hf => ?_)
        refine v_istore_n (ls' := [(3, _), (0, _), (2, _), (5, _), (6, _)]) C dJ6_getChars_2_32 rfl (by decide) rfl ?_
        refine v_iload_n C 0 dJ6_getChars_2_33 rfl rfl ?_
        refine v_bipush (x := 100) C dJ6_getChars_2_34 (by decide) ?_
        refine v_imul C dJ6_getChars_2_36 ?_
        refine v_iload_n C 1 dJ6_getChars_2_37 rfl rfl ?_
        refine v_isub C dJ6_getChars_2_38 ?_
        refine v_istore (ls' := [(4, _), (3, _), (0, _), (2, _), (5, _), (6, _)]) C dJ6_getChars_2_39 (by decide) rfl ?_
        refine v_iload_n C 1 dJ6_getChars_2_41 rfl rfl ?_
        refine v_istore_n (ls' := [(0, _), (4, _), (3, _), (2, _), (5, _), (6, _)]) C dJ6_getChars_2_42 rfl (by decide) rfl ?_
        refine v_aload_n C 3 dJ6_getChars_2_43 rfl rfl ?_
        refine v_iinc (ls' := [(5, _), (0, _), (4, _), (3, _), (2, _), (6, _)]) (y := i5 + (-1 : Int32)) C 4 dJ6_getChars_2_44 rfl rfl (by decide) rfl ?_
        refine v_iload C 0 dJ6_getChars_2_47 rfl ?_
        refine v_getsR C hf rfl q996 q100 q1005 rfl dJ6_getChars_2_49 (fun x6 hf => ?_)
        refine v_iload C 2 dJ6_getChars_2_52 rfl ?_
        refine v_baload C hf dJ6_getChars_2_54 (fun x7 hf => ?_)
        refine v_callS (stk := fun _ => []) C (ct_J6_putChar _ a2 (i5 + (-1 : Int32)) x7) nd_J6_putChar rfl (Nat.le_of_ble_eq_true rfl) (Nat.le_of_ble_eq_true rfl) [] (Nat.le_of_ble_eq_true rfl) (fun _ => rfl) rfl q937 q938 q108 q939 hf hl dJ6_getChars_2_55 (fun x8 h9 hf => ?_)
        refine v_aload_n C 4 dJ6_getChars_2_58 rfl rfl ?_
        refine v_iinc (ls' := [(5, _), (0, _), (4, _), (3, _), (2, _), (6, _)]) (y := (i5 + (-1 : Int32)) + (-1 : Int32)) C 0 dJ6_getChars_2_59 rfl rfl (by decide) rfl ?_
        refine v_iload C 0 dJ6_getChars_2_62 rfl ?_
        refine v_getsR C hf rfl q998 q100 q1006 rfl dJ6_getChars_2_64 (fun x10 hf => ?_)
        refine v_iload C 2 dJ6_getChars_2_67 rfl ?_
        refine v_baload C hf dJ6_getChars_2_69 (fun x11 hf => ?_)
        refine v_callS (stk := fun _ => []) C (ct_J6_putChar _ a2 ((i5 + (-1 : Int32)) + (-1 : Int32)) x11) nd_J6_putChar rfl (Nat.le_of_ble_eq_true rfl) (Nat.le_of_ble_eq_true rfl) [] (Nat.le_of_ble_eq_true rfl) (fun _ => rfl) rfl q937 q938 q108 q939 hf hl dJ6_getChars_2_70 (fun x12 h13 hf => ?_)
        refine v_goto (tgt := 22) C dJ6_getChars_2_73 (by decide) ?_
        refine v_sub (ls' := _) [1, 4, 0, 5] rfl (ih x5 ((i5 + (-1 : Int32)) + (-1 : Int32)) _ _ _ hf hl J)
  unfold f_J6_getChars_2 at hf
  refine v_iload_n C 1 dJ6_getChars_2_0 rfl rfl ?_
  refine v_istore (ls' := [(5, _), (0, _), (1, _), (2, _)]) C dJ6_getChars_2_1 (by decide) rfl ?_
  refine v_iload_n C 1 dJ6_getChars_2_3 rfl rfl ?_
  obtain ⟨x1, h2, hAh2, hf, hlh2⟩ := mb_inv hf hl
  refine v_cut (h1 := h2) (pc1 := 12) (ls1 := [(0, .int i0), (2, .ref a2), (5, .int i1)]) (st1 := [.int x1]) ?_ (fun Jh2 => ?_)
  · clear hAh2 hlh2
    refine v_istore (ls' := [(6, _), (0, _), (2, _), (5, _)]) C dJ6_getChars_2_12 (by decide) rfl ?_
    refine v_iload C 0 dJ6_getChars_2_14 rfl ?_
    obtain ⟨x3, h4, hAh4, hf, hlh4⟩ := mb_inv hf hl
    refine v_cut (h1 := h4) (pc1 := 22) (ls1 := [(0, .int x3), (2, .ref a2), (5, .int i1), (6, .int x1)]) (st1 := []) ?_ (fun Jh4 => ?_)
    · clear hAh4 hlh4
      obtain ⟨x14, h15, eh15, hf, hlh15⟩ := mb_inv hf hl
      refine v_sub (ls' := _) [0, 1, 2, 3] rfl (L22 a2 x1 FU x3 i1 _ _ _ eh15 hlh15 ?_)
      refine v_aload_n C 1 dJ6_getChars_2_76 rfl rfl ?_
      refine v_iinc (ls' := [(5, _), (0, _), (2, _), (6, _)]) (y := x14.2 + (-1 : Int32)) C 2 dJ6_getChars_2_77 rfl rfl (by decide) rfl ?_
      refine v_iload C 0 dJ6_getChars_2_80 rfl ?_
      refine v_getsR C hf rfl q996 q100 q1005 rfl dJ6_getChars_2_82 (fun x16 hf => ?_)
      refine v_iload_n C 1 dJ6_getChars_2_85 rfl rfl ?_
      refine v_ineg C dJ6_getChars_2_86 ?_
      refine v_baload C hf dJ6_getChars_2_87 (fun x17 hf => ?_)
      refine v_callS (stk := fun _ => []) C (ct_J6_putChar _ a2 (x14.2 + (-1 : Int32)) x17) nd_J6_putChar rfl (Nat.le_of_ble_eq_true rfl) (Nat.le_of_ble_eq_true rfl) [] (Nat.le_of_ble_eq_true rfl) (fun _ => rfl) rfl q937 q938 q108 q939 hf hl dJ6_getChars_2_88 (fun x18 h19 hf => ?_)
      refine v_iload_n C 1 dJ6_getChars_2_91 rfl rfl ?_
      refine v_bipush (x := (-9)) C dJ6_getChars_2_92 (by decide) ?_
      obtain ⟨x20, h21, hAh21, hf, hlh21⟩ := mb_inv hf hl
      refine v_cut (h1 := h21) (pc1 := 112) (ls1 := [(2, .ref a2), (5, .int x20), (6, .int x1)]) (st1 := []) ?_ (fun Jh21 => ?_)
      · clear hAh21 hlh21
        refine v_iload C 2 dJ6_getChars_2_112 rfl ?_
        obtain ⟨x22, h23, hAh23, hf, hlh23⟩ := mb_inv hf hl
        refine v_cut (h1 := h23) (pc1 := 128) (ls1 := [(5, .int x22)]) (st1 := []) ?_ (fun Jh23 => ?_)
        · clear hAh23 hlh23
          refine v_iload C 0 dJ6_getChars_2_128 rfl ?_
          exact v_iret C E hf dJ6_getChars_2_130
        · clear hf
          have hf := hAh23
          have hl := hlh23
          refine v_if_eq C hf (tgt := 128) dJ6_getChars_2_114 (by decide) (fun c114 hf => ?_) (fun c114 hf => ?_)
          · obtain ⟨e1, rfl⟩ := mret_inv hf
            subst e1
            exact v_sub (ls' := _) [1] rfl Jh23
          · refine v_aload_n C 0 dJ6_getChars_2_117 rfl rfl ?_
            refine v_iinc (ls' := [(5, _), (2, _), (6, _)]) (y := x20 + (-1 : Int32)) C 1 dJ6_getChars_2_118 rfl rfl (by decide) rfl ?_
            refine v_iload C 0 dJ6_getChars_2_121 rfl ?_
            refine v_bipush (x := 45) C dJ6_getChars_2_123 (by decide) ?_
            refine v_callS (stk := fun _ => []) C (ct_J6_putChar _ a2 (x20 + (-1 : Int32)) (45 : Int32)) nd_J6_putChar rfl (Nat.le_of_ble_eq_true rfl) (Nat.le_of_ble_eq_true rfl) [] (Nat.le_of_ble_eq_true rfl) (fun _ => rfl) rfl q937 q938 q108 q939 hf hl dJ6_getChars_2_125 (fun x24 h25 hf => ?_)
            obtain ⟨e1, rfl⟩ := mret_inv hf
            subst e1
            exact v_sub (ls' := _) [0] rfl Jh23
      · clear hf
        have hf := hAh21
        have hl := hlh21
        refine v_icmp_ge C hf (tgt := 112) dJ6_getChars_2_94 (by decide) (fun c94 hf => ?_) (fun c94 hf => ?_)
        · obtain ⟨e1, rfl⟩ := mret_inv hf
          subst e1
          exact v_sub (ls' := _) [2, 0, 3] rfl Jh21
        · refine v_aload_n C 2 dJ6_getChars_2_97 rfl rfl ?_
          refine v_iinc (ls' := [(5, _), (0, _), (2, _), (6, _)]) (y := (x14.2 + (-1 : Int32)) + (-1 : Int32)) C 0 dJ6_getChars_2_98 rfl rfl (by decide) rfl ?_
          refine v_iload C 0 dJ6_getChars_2_101 rfl ?_
          refine v_getsR C hf rfl q998 q100 q1006 rfl dJ6_getChars_2_103 (fun x26 hf => ?_)
          refine v_iload_n C 1 dJ6_getChars_2_106 rfl rfl ?_
          refine v_ineg C dJ6_getChars_2_107 ?_
          refine v_baload C hf dJ6_getChars_2_108 (fun x27 hf => ?_)
          refine v_callS (stk := fun _ => []) C (ct_J6_putChar _ a2 ((x14.2 + (-1 : Int32)) + (-1 : Int32)) x27) nd_J6_putChar rfl (Nat.le_of_ble_eq_true rfl) (Nat.le_of_ble_eq_true rfl) [] (Nat.le_of_ble_eq_true rfl) (fun _ => rfl) rfl q937 q938 q108 q939 hf hl dJ6_getChars_2_109 (fun x28 h29 hf => ?_)
          obtain ⟨e1, rfl⟩ := mret_inv hf
          subst e1
          exact v_sub (ls' := _) [2, 0, 3] rfl Jh21
    · clear hf
      have hf := hAh4
      have hl := hlh4
      refine v_if_ne C hf (tgt := 22) dJ6_getChars_2_16 (by decide) (fun c16 hf => ?_) (fun c16 hf => ?_)
      · obtain ⟨e1, rfl⟩ := mret_inv hf
        subst e1
        exact v_sub (ls' := _) [1, 2, 3, 0] rfl Jh4
      · refine v_iload_n C 1 dJ6_getChars_2_19 rfl rfl ?_
        refine v_ineg C dJ6_getChars_2_20 ?_
        refine v_istore_n (ls' := [(0, _), (6, _), (2, _), (5, _)]) C dJ6_getChars_2_21 rfl (by decide) rfl ?_
        obtain ⟨e1, rfl⟩ := mret_inv hf
        subst e1
        exact v_sub (ls' := _) [0, 2, 3, 1] rfl Jh4
  · clear hf
    have hf := hAh2
    have hl := hlh2
    refine v_if_ge C hf (tgt := 11) dJ6_getChars_2_4 (by decide) (fun c4 hf => ?_) (fun c4 hf => ?_)
    · refine v_iconst (x := 0) C dJ6_getChars_2_11 (by decide) ?_
      obtain ⟨e1, rfl⟩ := mret_inv hf
      subst e1
      exact v_sub (ls' := _) [1, 3, 0] rfl Jh2
    · refine v_iconst (x := 1) C dJ6_getChars_2_7 (by decide) ?_
      refine v_goto (tgt := 12) C dJ6_getChars_2_8 (by decide) ?_
      obtain ⟨e1, rfl⟩ := mret_inv hf
      subst e1
      exact v_sub (ls' := _) [1, 3, 0] rfl Jh2
def f_J6_coderFromArrayLen (a0 : Nat) (i1 : Int32) : hM Int32 :=
  mb (alen 0 a0) fun x1 => mrt .byte ((jushr (i1 - x1) (31 : Int32)).toInt8.toInt32)
theorem nd_J6_coderFromArrayLen : yJ6_coderFromArrayLen.cls ≠ "java/lang/invoke/MethodHandle" ∧ yJ6_coderFromArrayLen.cls ≠ "java/lang/invoke/VarHandle" ∧ (parseMethodDescriptor yJ6_coderFromArrayLen.desc).map (fun d => d.parameters.length) = some 2 := by decide +kernel
set_option maxHeartbeats 4000000 in
theorem ct_J6_coderFromArrayLen (l : Launch) (a0 : Nat) (i1 : Int32) : CT l yJ6_coderFromArrayLen cJ6_coderFromArrayLen 2 (some .byte) 0 0 rvI [.ref a0, .int i1] (f_J6_coderFromArrayLen a0 i1) := by
  refine CT_of (ls := [(0, .ref a0), (1, .int i1)]) (by decide) (Nat.le_of_ble_eq_true rfl) rfl ?_
  intro X h he z hX hf C E hnm hh
  have hl := hle.rf he
  subst hX
  unfold f_J6_coderFromArrayLen at hf
  refine v_iload_n C 1 dJ6_coderFromArrayLen_0 rfl rfl ?_
  refine v_aload_n C 0 dJ6_coderFromArrayLen_1 rfl rfl ?_
  refine v_alen C hf (by decide) dJ6_coderFromArrayLen_2 (fun x1 hf => ?_)
  refine v_isub C dJ6_coderFromArrayLen_3 ?_
  refine v_bipush (x := 31) C dJ6_coderFromArrayLen_4 (by decide) ?_
  refine v_iushr C dJ6_coderFromArrayLen_6 ?_
  refine v_i2b C dJ6_coderFromArrayLen_7 ?_
  exact v_zret C E hf dJ6_coderFromArrayLen_8
def f_J6_checkIndex (i0 : Int32) (a1 : Nat) : hM Unit :=
  mb (f_J6_length a1) fun x1 => mb (f_J5_checkIndex i0 x1) fun _ => mret ()
theorem nd_J6_checkIndex : yJ6_checkIndex.cls ≠ "java/lang/invoke/MethodHandle" ∧ yJ6_checkIndex.cls ≠ "java/lang/invoke/VarHandle" ∧ (parseMethodDescriptor yJ6_checkIndex.desc).map (fun d => d.parameters.length) = some 2 := by decide +kernel
set_option maxHeartbeats 4000000 in
theorem ct_J6_checkIndex (l : Launch) (i0 : Int32) (a1 : Nat) : CT l yJ6_checkIndex cJ6_checkIndex 2 none 1 21 rv0 [.int i0, .ref a1] (f_J6_checkIndex i0 a1) := by
  refine CT_of (ls := [(0, .int i0), (1, .ref a1)]) (by decide) (Nat.le_of_ble_eq_true rfl) rfl ?_
  intro X h he z hX hf C E hnm hh
  have hl := hle.rf he
  subst hX
  unfold f_J6_checkIndex at hf
  refine v_iload_n C 0 dJ6_checkIndex_0 rfl rfl ?_
  refine v_aload_n C 1 dJ6_checkIndex_1 rfl rfl ?_
  refine v_callS (stk := fun b => .int b :: [.int i0]) C (ct_J6_length _ a1) nd_J6_length rfl (Nat.le_of_ble_eq_true rfl) (Nat.le_of_ble_eq_true rfl) [.int i0] (Nat.le_of_ble_eq_true rfl) (fun _ => rfl) rfl q562 q563 q108 q564 hf hl dJ6_checkIndex_2 (fun x1 h2 hf => ?_)
  refine v_callS (stk := fun _ => []) C (ct_J5_checkIndex _ i0 x1) nd_J5_checkIndex rfl (Nat.le_of_ble_eq_true rfl) (Nat.le_of_ble_eq_true rfl) [] (Nat.le_of_ble_eq_true rfl) (fun _ => rfl) rfl q1109 q1098 q107 q1099 hf hl dJ6_checkIndex_5 (fun x3 h4 hf => ?_)
  exact v_vret C E hf dJ6_checkIndex_8
def f_J6_putCharSB (a0 : Nat) (i1 : Int32) (i2 : Int32) : hM Unit :=
  mb (f_J6_checkIndex i1 a0) fun _ => mb (f_J6_putChar a0 i1 i2) fun _ => mret ()
theorem nd_J6_putCharSB : yJ6_putCharSB.cls ≠ "java/lang/invoke/MethodHandle" ∧ yJ6_putCharSB.cls ≠ "java/lang/invoke/VarHandle" ∧ (parseMethodDescriptor yJ6_putCharSB.desc).map (fun d => d.parameters.length) = some 3 := by decide +kernel
set_option maxHeartbeats 4000000 in
theorem ct_J6_putCharSB (l : Launch) (a0 : Nat) (i1 : Int32) (i2 : Int32) : CT l yJ6_putCharSB cJ6_putCharSB 3 none 2 42 rv0 [.ref a0, .int i1, .int i2] (f_J6_putCharSB a0 i1 i2) := by
  refine CT_of (ls := [(0, .ref a0), (1, .int i1), (2, .int i2)]) (by decide) (Nat.le_of_ble_eq_true rfl) rfl ?_
  intro X h he z hX hf C E hnm hh
  have hl := hle.rf he
  subst hX
  unfold f_J6_putCharSB at hf
  refine v_iload_n C 1 dJ6_putCharSB_0 rfl rfl ?_
  refine v_aload_n C 0 dJ6_putCharSB_1 rfl rfl ?_
  refine v_callS (stk := fun _ => []) C (ct_J6_checkIndex _ i1 a0) nd_J6_checkIndex rfl (Nat.le_of_ble_eq_true rfl) (Nat.le_of_ble_eq_true rfl) [] (Nat.le_of_ble_eq_true rfl) (fun _ => rfl) rfl q1106 q1107 q108 q1108 hf hl dJ6_putCharSB_2 (fun x1 h2 hf => ?_)
  refine v_aload_n C 0 dJ6_putCharSB_5 rfl rfl ?_
  refine v_iload_n C 1 dJ6_putCharSB_6 rfl rfl ?_
  refine v_iload_n C 2 dJ6_putCharSB_7 rfl rfl ?_
  refine v_callS (stk := fun _ => []) C (ct_J6_putChar _ a0 i1 i2) nd_J6_putChar rfl (Nat.le_of_ble_eq_true rfl) (Nat.le_of_ble_eq_true rfl) [] (Nat.le_of_ble_eq_true rfl) (fun _ => rfl) rfl q937 q938 q108 q939 hf hl dJ6_putCharSB_8 (fun x3 h4 hf => ?_)
  exact v_vret C E hf dJ6_putCharSB_11
def f_J7_init_2 (a0 : Nat) (q1 : Option Nat) (q2 : Option Nat) (i3 : Int32) (i4 : Int32) : hM Unit :=
  mb (pF a0 5 0 (.ref a0)) fun _ => mb (mcq 0) fun x2 => mb (pF a0 5 1 (va_rf x2)) fun _ => mb (mcq 1) fun x4 => mb (pF a0 5 2 (va_rf x4)) fun _ => mb (mi (i4 = 0) (mb (pF a0 5 1 (va_rf none)) fun _ => mret ()) (mfail)) fun _ => mb (pF a0 5 3 (va_rf q1)) fun _ => mb (pF a0 5 0 (va_rf q2)) fun _ => mb (mi (¬ i3 = 0) (mret ()) (mb (pF a0 5 2 (va_rf none)) fun _ => mret ())) fun _ => mret ()
theorem nd_J7_init_2 : yJ7_init_2.cls ≠ "java/lang/invoke/MethodHandle" ∧ yJ7_init_2.cls ≠ "java/lang/invoke/VarHandle" ∧ (parseMethodDescriptor yJ7_init_2.desc).map (fun d => d.parameters.length) = some 4 := by decide +kernel
set_option maxHeartbeats 4000000 in
theorem ct_J7_init_2 (l : Launch) (a0 : Nat) (q1 : Option Nat) (q2 : Option Nat) (i3 : Int32) (i4 : Int32) : CT l yJ7_init_2 cJ7_init_2 5 none 1 12 rv0 [.ref a0, va_rf q1, va_rf q2, .int i3, .int i4] (f_J7_init_2 a0 q1 q2 i3 i4) := by
  refine CT_of (ls := [(0, .ref a0), (1, va_rf q1), (2, va_rf q2), (3, .int i3), (4, .int i4)]) (by decide) (by cases q1 <;> cases q2 <;> exact Nat.le_of_ble_eq_true rfl) (by cases q1 <;> cases q2 <;> rfl) ?_
  intro X h he z hX hf C E hnm hh
  have hl := hle.rf he
  subst hX
  unfold f_J7_init_2 at hf
  refine v_aload_n C 0 dJ7_init_2_0 rfl rfl ?_
  refine v_objInit C q319 q147 q148 (Nat.le_of_ble_eq_true rfl) (Nat.le_of_ble_eq_true rfl) dJ7_init_2_1 ?_
  refine v_aload_n C 0 dJ7_init_2_4 rfl rfl ?_
  refine v_aload_n C 0 dJ7_init_2_5 rfl rfl ?_
  refine v_putv (Cn := RX5) (T := TX5) (N := 7) (ty0 := tyX5) C hf in_X5 tyX5_ok nmX5 rfl (by decide) q364 rfl rfl rfl rfl dJ7_init_2_6 (fun h1 hf => ?_)
  refine v_aload_n C 0 dJ7_init_2_9 rfl rfl ?_
  refine v_getsQ C hf rfl q321 q109 q320 rfl dJ7_init_2_10 (fun x2 hf => ?_)
  refine v_putv (Cn := RX5) (T := TX5) (N := 7) (ty0 := tyX5) C hf in_X5 tyX5_ok nmX5 rfl (by decide) q365 rfl rfl (by cases (x2) <;> rfl) (by cases (x2) <;> rfl) dJ7_init_2_13 (fun h3 hf => ?_)
  refine v_aload_n C 0 dJ7_init_2_16 rfl rfl ?_
  refine v_getsQ C hf rfl q323 q109 q322 rfl dJ7_init_2_17 (fun x4 hf => ?_)
  refine v_putv (Cn := RX5) (T := TX5) (N := 7) (ty0 := tyX5) C hf in_X5 tyX5_ok nmX5 rfl (by decide) q366 rfl rfl (by cases (x4) <;> rfl) (by cases (x4) <;> rfl) dJ7_init_2_20 (fun h5 hf => ?_)
  refine v_iload C 4 dJ7_init_2_23 rfl ?_
  obtain ⟨_u, h6, hAh6, hf, hlh6⟩ := mb_inv hf hl
  refine v_cut (h1 := h6) (pc1 := 41) (ls1 := [(0, .ref a0), (1, va_rf q1), (2, va_rf q2), (3, .int i3)]) (st1 := []) ?_ (fun Jh6 => ?_)
  · clear hAh6 hlh6
    refine v_aload_n C 0 dJ7_init_2_41 rfl rfl ?_
    refine v_aload_nQ C 1 dJ7_init_2_42 rfl rfl ?_
    refine v_putv (Cn := RX5) (T := TX5) (N := 7) (ty0 := tyX5) C hf in_X5 tyX5_ok nmX5 rfl (by decide) q363 rfl rfl (by cases (q1) <;> rfl) (by cases (q1) <;> rfl) dJ7_init_2_43 (fun h7 hf => ?_)
    refine v_aload_n C 0 dJ7_init_2_46 rfl rfl ?_
    refine v_aload_nQ C 2 dJ7_init_2_47 rfl rfl ?_
    refine v_putv (Cn := RX5) (T := TX5) (N := 7) (ty0 := tyX5) C hf in_X5 tyX5_ok nmX5 rfl (by decide) q364 rfl rfl (by cases (q2) <;> rfl) (by cases (q2) <;> rfl) dJ7_init_2_48 (fun h8 hf => ?_)
    refine v_iload_n C 3 dJ7_init_2_51 rfl rfl ?_
    obtain ⟨_u, h9, hAh9, hf, hlh9⟩ := mb_inv hf hl
    refine v_cut (h1 := h9) (pc1 := 60) (ls1 := []) (st1 := []) ?_ (fun Jh9 => ?_)
    · clear hAh9 hlh9
      exact v_vret C E hf dJ7_init_2_60
    · clear hf
      have hf := hAh9
      have hl := hlh9
      refine v_if_ne C hf (tgt := 60) dJ7_init_2_52 (by decide) (fun c52 hf => ?_) (fun c52 hf => ?_)
      · obtain ⟨e1, rfl⟩ := mret_inv hf
        exact v_sub (ls' := _) [] rfl Jh9
      · refine v_aload_n C 0 dJ7_init_2_55 rfl rfl ?_
        refine v_null C dJ7_init_2_56 ?_
        refine v_putv (Cn := RX5) (T := TX5) (N := 7) (ty0 := tyX5) C hf in_X5 tyX5_ok nmX5 rfl (by decide) q366 rfl rfl (by cases (none) <;> rfl) (by cases (none) <;> rfl) dJ7_init_2_57 (fun h10 hf => ?_)
        obtain ⟨e1, rfl⟩ := mret_inv hf
        exact v_sub (ls' := _) [] rfl Jh9
  · clear hf
    have hf := hAh6
    have hl := hlh6
    refine v_if_eq C hf (tgt := 36) dJ7_init_2_25 (by decide) (fun c25 hf => ?_) (fun c25 hf => ?_)
    · refine v_aload_n C 0 dJ7_init_2_36 rfl rfl ?_
      refine v_null C dJ7_init_2_37 ?_
      refine v_putv (Cn := RX5) (T := TX5) (N := 7) (ty0 := tyX5) C hf in_X5 tyX5_ok nmX5 rfl (by decide) q365 rfl rfl (by cases (none) <;> rfl) (by cases (none) <;> rfl) dJ7_init_2_38 (fun h11 hf => ?_)
      obtain ⟨e1, rfl⟩ := mret_inv hf
      exact v_sub (ls' := _) [0, 1, 2, 3] rfl Jh6
    · refine v_aload_n C 0 dJ7_init_2_28 rfl rfl ?_
      exact mfail_inv hf
def f_J8_init_2 (a0 : Nat) (q1 : Option Nat) (q2 : Option Nat) (i3 : Int32) (i4 : Int32) : hM Unit :=
  mb (f_J7_init_2 a0 q1 q2 i3 i4) fun _ => mret ()
theorem nd_J8_init_2 : yJ8_init_2.cls ≠ "java/lang/invoke/MethodHandle" ∧ yJ8_init_2.cls ≠ "java/lang/invoke/VarHandle" ∧ (parseMethodDescriptor yJ8_init_2.desc).map (fun d => d.parameters.length) = some 4 := by decide +kernel
set_option maxHeartbeats 4000000 in
theorem ct_J8_init_2 (l : Launch) (a0 : Nat) (q1 : Option Nat) (q2 : Option Nat) (i3 : Int32) (i4 : Int32) : CT l yJ8_init_2 cJ8_init_2 5 none 2 36 rv0 [.ref a0, va_rf q1, va_rf q2, .int i3, .int i4] (f_J8_init_2 a0 q1 q2 i3 i4) := by
  refine CT_of (ls := [(0, .ref a0), (1, va_rf q1), (2, va_rf q2), (3, .int i3), (4, .int i4)]) (by decide) (by cases q1 <;> cases q2 <;> exact Nat.le_of_ble_eq_true rfl) (by cases q1 <;> cases q2 <;> rfl) ?_
  intro X h he z hX hf C E hnm hh
  have hl := hle.rf he
  subst hX
  unfold f_J8_init_2 at hf
  refine v_aload_n C 0 dJ8_init_2_0 rfl rfl ?_
  refine v_aload_nQ C 1 dJ8_init_2_1 rfl rfl ?_
  refine v_aload_nQ C 2 dJ8_init_2_2 rfl rfl ?_
  refine v_iload_n C 3 dJ8_init_2_3 rfl rfl ?_
  refine v_iload C 4 dJ8_init_2_4 rfl ?_
  refine v_callI (stk := fun _ => []) C (ct_J7_init_2 _ a0 q1 q2 i3 i4) nd_J7_init_2 rfl (Nat.le_of_ble_eq_true rfl) (Nat.le_of_ble_eq_true rfl) [] (Nat.le_of_ble_eq_true rfl) (fun _ => rfl) rfl rfl q414 q415 q109 q416 hf hl dJ8_init_2_6 (fun x1 h2 hf => ?_)
  exact v_vret C E hf dJ8_init_2_9
def f_X0_size (i0 : Int32) : hM Int32 :=
  mb (f_J1_bitCount i0) fun x1 => mret x1
theorem nd_X0_size : yX0_size.cls ≠ "java/lang/invoke/MethodHandle" ∧ yX0_size.cls ≠ "java/lang/invoke/VarHandle" ∧ (parseMethodDescriptor yX0_size.desc).map (fun d => d.parameters.length) = some 1 := by decide +kernel
set_option maxHeartbeats 4000000 in
theorem ct_X0_size (l : Launch) (i0 : Int32) : CT l yX0_size cX0_size 1 (some .int) 1 20 rvI [.int i0] (f_X0_size i0) := by
  refine CT_of (ls := [(0, .int i0)]) (by decide) (Nat.le_of_ble_eq_true rfl) rfl ?_
  intro X h he z hX hf C E hnm hh
  have hl := hle.rf he
  subst hX
  unfold f_X0_size at hf
  refine v_iload_n C 0 dX0_size_0 rfl rfl ?_
  refine v_callS (stk := fun b => .int b :: []) C (ct_J1_bitCount _ i0) nd_J1_bitCount rfl (Nat.le_of_ble_eq_true rfl) (Nat.le_of_ble_eq_true rfl) [] (Nat.le_of_ble_eq_true rfl) (fun _ => rfl) rfl q181 q182 q100 q183 hf hl dX0_size_1 (fun x1 h2 hf => ?_)
  exact v_iret C E hf dX0_size_4
def f_X0_isSet (i0 : Int32) : hM Int32 :=
  mb (f_X0_isIn i0.toInt64 (0 : Int64) (16777215 : Int64)) fun x1 => mrt .boolean x1
theorem nd_X0_isSet : yX0_isSet.cls ≠ "java/lang/invoke/MethodHandle" ∧ yX0_isSet.cls ≠ "java/lang/invoke/VarHandle" ∧ (parseMethodDescriptor yX0_isSet.desc).map (fun d => d.parameters.length) = some 1 := by decide +kernel
set_option maxHeartbeats 4000000 in
theorem ct_X0_isSet (l : Launch) (i0 : Int32) : CT l yX0_isSet cX0_isSet 1 (some .boolean) 1 25 rvI [.int i0] (f_X0_isSet i0) := by
  refine CT_of (ls := [(0, .int i0)]) (by decide) (Nat.le_of_ble_eq_true rfl) rfl ?_
  intro X h he z hX hf C E hnm hh
  have hl := hle.rf he
  subst hX
  unfold f_X0_isSet at hf
  refine v_iload_n C 0 dX0_isSet_0 rfl rfl ?_
  refine v_i2l C dX0_isSet_1 ?_
  refine v_lconst (x := 0) C dX0_isSet_2 (by decide) ?_
  refine v_ldc2 (x := 16777215) C q748 dX0_isSet_3 ?_
  refine v_callS (stk := fun b => .int b :: []) C (ct_X0_isIn _ i0.toInt64 (0 : Int64) (16777215 : Int64)) nd_X0_isIn rfl (Nat.le_of_ble_eq_true rfl) (Nat.le_of_ble_eq_true rfl) [] (Nat.le_of_ble_eq_true rfl) (fun _ => rfl) rfl q749 q750 q96 q751 hf hl dX0_isSet_6 (fun x1 h2 hf => ?_)
  exact v_zret C E hf dX0_isSet_9
def f_X0_complete (a0 : Nat) (i1 : Int32) : hM Int32 :=
  mb (f_X0_isSet i1) fun x1 => mi (¬ x1 = 0) (mb (f_X0_size i1) fun x3 => mb (mi (¬ x3 = (5 : Int32)) (mret (-2 : Int32)) (mb (gR a0 0 0) fun x7 => mb (mat x7 1 (f_X1_complete x7 i1)) fun x8 => mret x8)) fun x5 => mret x5) (mret (-1 : Int32))
theorem nd_X0_complete : yX0_complete.cls ≠ "java/lang/invoke/MethodHandle" ∧ yX0_complete.cls ≠ "java/lang/invoke/VarHandle" ∧ (parseMethodDescriptor yX0_complete.desc).map (fun d => d.parameters.length) = some 1 := by decide +kernel
set_option maxHeartbeats 4000000 in
theorem ct_X0_complete (l : Launch) (a0 : Nat) (i1 : Int32) : CT l yX0_complete cX0_complete 2 (some .int) 3 65 rvI [.ref a0, .int i1] (f_X0_complete a0 i1) := by
  refine CT_of (ls := [(0, .ref a0), (1, .int i1)]) (by decide) (Nat.le_of_ble_eq_true rfl) rfl ?_
  intro X h he z hX hf C E hnm hh
  have hl := hle.rf he
  subst hX
  unfold f_X0_complete at hf
  refine v_iload_n C 1 dX0_complete_0 rfl rfl ?_
  refine v_callS (stk := fun b => .int b :: []) C (ct_X0_isSet _ i1) nd_X0_isSet rfl (Nat.le_of_ble_eq_true rfl) (Nat.le_of_ble_eq_true rfl) [] (Nat.le_of_ble_eq_true rfl) (fun _ => rfl) rfl q745 q746 q96 q747 hf hl dX0_complete_1 (fun x1 h2 hf => ?_)
  refine v_if_ne C hf (tgt := 9) dX0_complete_4 (by decide) (fun c4 hf => ?_) (fun c4 hf => ?_)
  · refine v_iload_n C 1 dX0_complete_9 rfl rfl ?_
    refine v_callS (stk := fun b => .int b :: []) C (ct_X0_size _ i1) nd_X0_size rfl (Nat.le_of_ble_eq_true rfl) (Nat.le_of_ble_eq_true rfl) [] (Nat.le_of_ble_eq_true rfl) (fun _ => rfl) rfl q756 q179 q96 q180 hf hl dX0_complete_10 (fun x3 h4 hf => ?_)
    refine v_iconst (x := 5) C dX0_complete_13 (by decide) ?_
    obtain ⟨x5, h6, hAh6, hf, hlh6⟩ := mb_inv hf hl
    refine v_cut (h1 := h6) (pc1 := 30) (ls1 := []) (st1 := [.int x5]) ?_ (fun Jh6 => ?_)
    · clear hAh6 hlh6
      exact v_iret C E hf dX0_complete_30
    · clear hf
      have hf := hAh6
      have hl := hlh6
      refine v_icmp_ne C hf (tgt := 28) dX0_complete_14 (by decide) (fun c14 hf => ?_) (fun c14 hf => ?_)
      · refine v_bipush (x := (-2)) C dX0_complete_28 (by decide) ?_
        obtain ⟨e1, rfl⟩ := mret_inv hf
        subst e1
        exact v_sub (ls' := _) [] rfl Jh6
      · refine v_aload_n C 0 dX0_complete_17 rfl rfl ?_
        refine v_gR (Cn := RX0) (T := TX0) (N := 16) C hf in_X0 rfl (by decide) q692 rfl dX0_complete_18 (fun x7 hf => ?_)
        refine v_iload_n C 1 dX0_complete_21 rfl rfl ?_
        refine v_callV (stk := fun b => .int b :: []) C (ct_X1_complete _ x7 i1) rfl ⟨rfl, nd_X1_complete⟩ rfl (Nat.le_of_ble_eq_true rfl) (Nat.le_of_ble_eq_true rfl) [] (Nat.le_of_ble_eq_true rfl) (fun _ => rfl) rfl q786 q787 q788 q97 q789 hf hl dX0_complete_22 (fun x8 h9 hf => ?_)
        refine v_goto (tgt := 30) C dX0_complete_25 (by decide) ?_
        obtain ⟨e1, rfl⟩ := mret_inv hf
        subst e1
        exact v_sub (ls' := _) [] rfl Jh6
  · refine v_iconst (x := (-1)) C dX0_complete_7 (by decide) ?_
    exact v_iret C E hf dX0_complete_8
def l_X0_isWhole_11 (i0 : Int32) (a3 : Nat) (i4 : Int32) : Nat → Int32 → Int32 → hM (Int32)
  | 0, _, _ => mfail
  | n + 1, i2, i5 => mi (i4 ≤ i5) (mret i2) (mb (aI 1 a3 i5) fun x2 => mb (mi (¬ (x2 &&& (i0 ^^^ (-1 : Int32))) = 0) (mret (0 : Int32)) (mb (f_X0_size x2) fun x5 => mret x5)) fun x3 => l_X0_isWhole_11 i0 a3 i4 n (i2 + x3) (i5 + (1 : Int32)))
def f_X0_isWhole (i0 : Int32) (a1 : Nat) : hM Int32 :=
  mb (alen 1 a1) fun x1 => mb (l_X0_isWhole_11 i0 a1 x1 FU (0 : Int32) (0 : Int32)) fun x7 => mb (f_X0_size i0) fun x9 => mb (mi (¬ x7 = x9) (mret (0 : Int32)) (mret (1 : Int32))) fun x11 => mrt .boolean x11
theorem nd_X0_isWhole : yX0_isWhole.cls ≠ "java/lang/invoke/MethodHandle" ∧ yX0_isWhole.cls ≠ "java/lang/invoke/VarHandle" ∧ (parseMethodDescriptor yX0_isWhole.desc).map (fun d => d.parameters.length) = some 2 := by decide +kernel
set_option maxHeartbeats 4000000 in
theorem ct_X0_isWhole (l : Launch) (i0 : Int32) (a1 : Nat) : CT l yX0_isWhole cX0_isWhole 7 (some .boolean) 2 40 rvI [.int i0, .ref a1] (f_X0_isWhole i0 a1) := by
  refine CT_of (ls := [(0, .int i0), (1, .ref a1)]) (by decide) (Nat.le_of_ble_eq_true rfl) rfl ?_
  intro X h he z hX hf C E hnm hh
  have hl := hle.rf he
  subst hX
  have L11 : ∀ (i0 : Int32) (a3 : Nat) (i4 : Int32) (n : Nat) (i2 : Int32) (i5 : Int32) (h h1 : Hp) (o : Int32), (l_X0_isWhole_11 i0 a3 i4 n i2 i5).1 h = some (o, h1) → hle h1 he → V X h1 51 [(0, .int i0), (2, .int o)] [] → V X h 11 [(0, .int i0), (2, .int i2), (3, .ref a3), (4, .int i4), (5, .int i5)] [] := by
    intro i0 a3 i4 n
    induction n with
    | zero => intro i2 i5 h h1 o hf; exact mfail_inv hf
    | succ n ih =>
      intro i2 i5 h h1 o hf hl J
      rw [l_X0_isWhole_11] at hf
      refine v_iload C 4 dX0_isWhole_11 rfl ?_
      refine v_iload C 3 dX0_isWhole_13 rfl ?_
      refine v_icmp_ge C hf (tgt := 51) dX0_isWhole_15 (by decide) (fun c15 hf => ?_) (fun c15 hf => ?_)
      · obtain ⟨e1, rfl⟩ := mret_inv hf
        subst e1
        exact v_sub (ls' := _) [0, 1] rfl J
      · refine v_aload_n C 2 dX0_isWhole_18 rfl rfl ?_
        refine v_iload C 4 dX0_isWhole_19 rfl ?_
        refine v_iaload C hf dX0_isWhole_21 (fun x2 hf => ?_)
        refine v_istore (ls' := [(6, _), (0, _), (2, _), (3, _), (4, _), (5, _)]) C dX0_isWhole_22 (by decide) rfl ?_
        refine v_iload_n C 2 dX0_isWhole_24 rfl rfl ?_
        refine v_iload C 0 dX0_isWhole_25 rfl ?_
        refine v_iload_n C 1 dX0_isWhole_27 rfl rfl ?_
        refine v_iconst (x := (-1)) C dX0_isWhole_28 (by decide) ?_
        refine v_ixor C dX0_isWhole_29 ?_
        refine v_iand C dX0_isWhole_30 ?_
        obtain ⟨x3, h4, hAh4, hf, hlh4⟩ := mb_inv hf hl
        refine v_cut (h1 := h4) (pc1 := 43) (ls1 := [(0, .int i0), (3, .ref a3), (4, .int i4), (5, .int i5)]) (st1 := [.int x3, .int i2]) ?_ (fun Jh4 => ?_)
        · clear hAh4 hlh4
          refine v_iadd C dX0_isWhole_43 ?_
          refine v_istore_n (ls' := [(2, _), (0, _), (3, _), (4, _), (5, _)]) C dX0_isWhole_44 rfl (by decide) rfl ?_
          refine v_iinc (ls' := [(5, _), (2, _), (0, _), (3, _), (4, _)]) (y := i5 + (1 : Int32)) C 4 dX0_isWhole_45 rfl rfl (by decide) rfl ?_
          refine v_goto (tgt := 11) C dX0_isWhole_48 (by decide) ?_
          refine v_sub (ls' := _) [2, 1, 3, 4, 0] rfl (ih (i2 + x3) (i5 + (1 : Int32)) _ _ _ hf hl J)
        · clear hf
          have hf := hAh4
          have hl := hlh4
          refine v_if_ne C hf (tgt := 42) dX0_isWhole_31 (by decide) (fun c31 hf => ?_) (fun c31 hf => ?_)
          · refine v_iconst (x := 0) C dX0_isWhole_42 (by decide) ?_
            obtain ⟨e1, rfl⟩ := mret_inv hf
            subst e1
            exact v_sub (ls' := _) [1, 3, 4, 5] rfl Jh4
          · refine v_iload C 0 dX0_isWhole_34 rfl ?_
            refine v_callS (stk := fun b => .int b :: [.int i2]) C (ct_X0_size _ x2) nd_X0_size rfl (Nat.le_of_ble_eq_true rfl) (Nat.le_of_ble_eq_true rfl) [.int i2] (Nat.le_of_ble_eq_true rfl) (fun _ => rfl) rfl q756 q179 q96 q180 hf hl dX0_isWhole_36 (fun x5 h6 hf => ?_)
            refine v_goto (tgt := 43) C dX0_isWhole_39 (by decide) ?_
            obtain ⟨e1, rfl⟩ := mret_inv hf
            subst e1
            exact v_sub (ls' := _) [1, 3, 4, 5] rfl Jh4
  unfold f_X0_isWhole at hf
  refine v_iconst (x := 0) C dX0_isWhole_0 (by decide) ?_
  refine v_istore_n (ls' := [(2, _), (0, _), (1, _)]) C dX0_isWhole_1 rfl (by decide) rfl ?_
  refine v_aload_n C 2 dX0_isWhole_2 rfl rfl ?_
  refine v_astore_n (ls' := [(3, _), (2, _), (0, _), (1, _)]) C dX0_isWhole_3 rfl (by decide) rfl ?_
  refine v_aload_n C 0 dX0_isWhole_4 rfl rfl ?_
  refine v_alen C hf (by decide) dX0_isWhole_5 (fun x1 hf => ?_)
  refine v_istore (ls' := [(4, _), (3, _), (2, _), (0, _), (1, _)]) C dX0_isWhole_6 (by decide) rfl ?_
  refine v_iconst (x := 0) C dX0_isWhole_8 (by decide) ?_
  refine v_istore (ls' := [(5, _), (4, _), (3, _), (2, _), (0, _), (1, _)]) C dX0_isWhole_9 (by decide) rfl ?_
  obtain ⟨x7, h8, eh8, hf, hlh8⟩ := mb_inv hf hl
  refine v_sub (ls' := _) [4, 3, 2, 1, 0] rfl (L11 i0 a1 x1 FU (0 : Int32) (0 : Int32) _ _ _ eh8 hlh8 ?_)
  refine v_iload_n C 1 dX0_isWhole_51 rfl rfl ?_
  refine v_iload_n C 0 dX0_isWhole_52 rfl rfl ?_
  refine v_callS (stk := fun b => .int b :: [.int x7]) C (ct_X0_size _ i0) nd_X0_size rfl (Nat.le_of_ble_eq_true rfl) (Nat.le_of_ble_eq_true rfl) [.int x7] (Nat.le_of_ble_eq_true rfl) (fun _ => rfl) rfl q756 q179 q96 q180 hf hl dX0_isWhole_53 (fun x9 h10 hf => ?_)
  obtain ⟨x11, h12, hAh12, hf, hlh12⟩ := mb_inv hf hl
  refine v_cut (h1 := h12) (pc1 := 64) (ls1 := []) (st1 := [.int x11]) ?_ (fun Jh12 => ?_)
  · clear hAh12 hlh12
    exact v_zret C E hf dX0_isWhole_64
  · clear hf
    have hf := hAh12
    have hl := hlh12
    refine v_icmp_ne C hf (tgt := 63) dX0_isWhole_56 (by decide) (fun c56 hf => ?_) (fun c56 hf => ?_)
    · refine v_iconst (x := 0) C dX0_isWhole_63 (by decide) ?_
      obtain ⟨e1, rfl⟩ := mret_inv hf
      subst e1
      exact v_sub (ls' := _) [] rfl Jh12
    · refine v_iconst (x := 1) C dX0_isWhole_59 (by decide) ?_
      refine v_goto (tgt := 64) C dX0_isWhole_60 (by decide) ?_
      obtain ⟨e1, rfl⟩ := mret_inv hf
      subst e1
      exact v_sub (ls' := _) [] rfl Jh12
def l_X0_met_40 (i1 : Int32) (i2 : Int32) (a4 : Nat) (i5 : Int32) : Nat → Int32 → Int32 → hM (Int32)
  | 0, _, _ => mfail
  | n + 1, i3, i6 => mi (i5 ≤ i6) (mret i3) (mb (aI 1 a4 i6) fun x8 => mb (f_X0_size (x8 &&& i1)) fun x9 => mb (mi (¬ x9 = i2) (mret (0 : Int32)) (mret (1 : Int32))) fun x11 => l_X0_met_40 i1 i2 a4 i5 n (i3 + x11) (i6 + (1 : Int32)))
def f_X0_met (a0 : Nat) (i1 : Int32) (i2 : Int32) : hM Int32 :=
  mb (f_X0_isSet i1) fun x1 => mi (x1 = 0) (mret (-1 : Int32)) (mb (f_X0_isIn i2.toInt64 (0 : Int64) (8 : Int64)) fun x3 => mi (¬ x3 = 0) (mb (gR a0 0 0) fun x5 => mb (gR x5 1 3) fun x6 => mb (alen 1 x6) fun x7 => mb (l_X0_met_40 i1 i2 x6 x7 FU (0 : Int32) (0 : Int32)) fun x13 => mret x13) (mret (-1 : Int32)))
theorem nd_X0_met : yX0_met.cls ≠ "java/lang/invoke/MethodHandle" ∧ yX0_met.cls ≠ "java/lang/invoke/VarHandle" ∧ (parseMethodDescriptor yX0_met.desc).map (fun d => d.parameters.length) = some 2 := by decide +kernel
set_option maxHeartbeats 4000000 in
theorem ct_X0_met (l : Launch) (a0 : Nat) (i1 : Int32) (i2 : Int32) : CT l yX0_met cX0_met 8 (some .int) 2 45 rvI [.ref a0, .int i1, .int i2] (f_X0_met a0 i1 i2) := by
  refine CT_of (ls := [(0, .ref a0), (1, .int i1), (2, .int i2)]) (by decide) (Nat.le_of_ble_eq_true rfl) rfl ?_
  intro X h he z hX hf C E hnm hh
  have hl := hle.rf he
  subst hX
  have L40 : ∀ (i1 : Int32) (i2 : Int32) (a4 : Nat) (i5 : Int32) (n : Nat) (i3 : Int32) (i6 : Int32) (h h1 : Hp) (o : Int32), (l_X0_met_40 i1 i2 a4 i5 n i3 i6).1 h = some (o, h1) → hle h1 he → V X h1 79 [(3, .int o)] [] → V X h 40 [(1, .int i1), (2, .int i2), (3, .int i3), (4, .ref a4), (5, .int i5), (6, .int i6)] [] := by
    intro i1 i2 a4 i5 n
    induction n with
    | zero => intro i3 i6 h h1 o hf; exact mfail_inv hf
    | succ n ih =>
      intro i3 i6 h h1 o hf hl J
      rw [l_X0_met_40] at hf
      refine v_iload C 5 dX0_met_40 rfl ?_
      refine v_iload C 4 dX0_met_42 rfl ?_
      refine v_icmp_ge C hf (tgt := 79) dX0_met_44 (by decide) (fun c44 hf => ?_) (fun c44 hf => ?_)
      · obtain ⟨e1, rfl⟩ := mret_inv hf
        subst e1
        exact v_sub (ls' := _) [2] rfl J
      · refine v_aload C 3 dX0_met_47 rfl ?_
        refine v_iload C 5 dX0_met_49 rfl ?_
        refine v_iaload C hf dX0_met_51 (fun x8 hf => ?_)
        refine v_istore (ls' := [(7, _), (1, _), (2, _), (3, _), (4, _), (5, _), (6, _)]) C dX0_met_52 (by decide) rfl ?_
        refine v_iload_n C 3 dX0_met_54 rfl rfl ?_
        refine v_iload C 0 dX0_met_55 rfl ?_
        refine v_iload_n C 1 dX0_met_57 rfl rfl ?_
        refine v_iand C dX0_met_58 ?_
        refine v_callS (stk := fun b => .int b :: [.int i3]) C (ct_X0_size _ (x8 &&& i1)) nd_X0_size rfl (Nat.le_of_ble_eq_true rfl) (Nat.le_of_ble_eq_true rfl) [.int i3] (Nat.le_of_ble_eq_true rfl) (fun _ => rfl) rfl q756 q179 q96 q180 hf hl dX0_met_59 (fun x9 h10 hf => ?_)
        refine v_iload_n C 2 dX0_met_62 rfl rfl ?_
        obtain ⟨x11, h12, hAh12, hf, hlh12⟩ := mb_inv hf hl
        refine v_cut (h1 := h12) (pc1 := 71) (ls1 := [(1, .int i1), (2, .int i2), (4, .ref a4), (5, .int i5), (6, .int i6)]) (st1 := [.int x11, .int i3]) ?_ (fun Jh12 => ?_)
        · clear hAh12 hlh12
          refine v_iadd C dX0_met_71 ?_
          refine v_istore_n (ls' := [(3, _), (1, _), (2, _), (4, _), (5, _), (6, _)]) C dX0_met_72 rfl (by decide) rfl ?_
          refine v_iinc (ls' := [(6, _), (3, _), (1, _), (2, _), (4, _), (5, _)]) (y := i6 + (1 : Int32)) C 5 dX0_met_73 rfl rfl (by decide) rfl ?_
          refine v_goto (tgt := 40) C dX0_met_76 (by decide) ?_
          refine v_sub (ls' := _) [2, 3, 1, 4, 5, 0] rfl (ih (i3 + x11) (i6 + (1 : Int32)) _ _ _ hf hl J)
        · clear hf
          have hf := hAh12
          have hl := hlh12
          refine v_icmp_ne C hf (tgt := 70) dX0_met_63 (by decide) (fun c63 hf => ?_) (fun c63 hf => ?_)
          · refine v_iconst (x := 0) C dX0_met_70 (by decide) ?_
            obtain ⟨e1, rfl⟩ := mret_inv hf
            subst e1
            exact v_sub (ls' := _) [1, 2, 4, 5, 6] rfl Jh12
          · refine v_iconst (x := 1) C dX0_met_66 (by decide) ?_
            refine v_goto (tgt := 71) C dX0_met_67 (by decide) ?_
            obtain ⟨e1, rfl⟩ := mret_inv hf
            subst e1
            exact v_sub (ls' := _) [1, 2, 4, 5, 6] rfl Jh12
  unfold f_X0_met at hf
  refine v_iload_n C 1 dX0_met_0 rfl rfl ?_
  refine v_callS (stk := fun b => .int b :: []) C (ct_X0_isSet _ i1) nd_X0_isSet rfl (Nat.le_of_ble_eq_true rfl) (Nat.le_of_ble_eq_true rfl) [] (Nat.le_of_ble_eq_true rfl) (fun _ => rfl) rfl q745 q746 q96 q747 hf hl dX0_met_1 (fun x1 h2 hf => ?_)
  refine v_if_eq C hf (tgt := 19) dX0_met_4 (by decide) (fun c4 hf => ?_) (fun c4 hf => ?_)
  · refine v_iconst (x := (-1)) C dX0_met_19 (by decide) ?_
    exact v_iret C E hf dX0_met_20
  · refine v_iload_n C 2 dX0_met_7 rfl rfl ?_
    refine v_i2l C dX0_met_8 ?_
    refine v_lconst (x := 0) C dX0_met_9 (by decide) ?_
    refine v_ldc2 (x := 8) C q807 dX0_met_10 ?_
    refine v_callS (stk := fun b => .int b :: []) C (ct_X0_isIn _ i2.toInt64 (0 : Int64) (8 : Int64)) nd_X0_isIn rfl (Nat.le_of_ble_eq_true rfl) (Nat.le_of_ble_eq_true rfl) [] (Nat.le_of_ble_eq_true rfl) (fun _ => rfl) rfl q749 q750 q96 q751 hf hl dX0_met_13 (fun x3 h4 hf => ?_)
    refine v_if_ne C hf (tgt := 21) dX0_met_16 (by decide) (fun c16 hf => ?_) (fun c16 hf => ?_)
    · refine v_iconst (x := 0) C dX0_met_21 (by decide) ?_
      refine v_istore_n (ls' := [(3, _), (0, _), (1, _), (2, _)]) C dX0_met_22 rfl (by decide) rfl ?_
      refine v_aload_n C 1 dX0_met_23 rfl rfl ?_
      refine v_gR (Cn := RX0) (T := TX0) (N := 16) C hf in_X0 rfl (by decide) q692 rfl dX0_met_24 (fun x5 hf => ?_)
      refine v_gRN (Cn := RX1) (T := TX1) (N := 10) C hf in_X1 rfl (by decide) q202 rfl dX0_met_27 (fun x6 hf => ?_)
      refine v_astore (ls' := [(4, _), (3, _), (0, _), (1, _), (2, _)]) C dX0_met_30 (by decide) rfl ?_
      refine v_aload C 0 dX0_met_32 rfl ?_
      refine v_alen C hf (by decide) dX0_met_34 (fun x7 hf => ?_)
      refine v_istore (ls' := [(5, _), (4, _), (3, _), (0, _), (1, _), (2, _)]) C dX0_met_35 (by decide) rfl ?_
      refine v_iconst (x := 0) C dX0_met_37 (by decide) ?_
      refine v_istore (ls' := [(6, _), (5, _), (4, _), (3, _), (0, _), (1, _), (2, _)]) C dX0_met_38 (by decide) rfl ?_
      obtain ⟨x13, h14, eh14, hf, hlh14⟩ := mb_inv hf hl
      refine v_sub (ls' := _) [5, 6, 3, 2, 1, 0] rfl (L40 i1 i2 x6 x7 FU (0 : Int32) (0 : Int32) _ _ _ eh14 hlh14 ?_)
      refine v_iload_n C 0 dX0_met_79 rfl rfl ?_
      exact v_iret C E hf dX0_met_80
    · refine v_iconst (x := (-1)) C dX0_met_19 (by decide) ?_
      exact v_iret C E hf dX0_met_20
def f_X0_move (a0 : Nat) (i1 : Int32) (i2 : Int32) : hM Int32 :=
  mb (f_X0_isMove i1) fun x1 => mb (mi (x1 = 0) (mret (-1 : Int32)) (mb (f_X0_isPlace i2.toInt64) fun x5 => mi (x5 = 0) (mret (-1 : Int32)) (mb (gR a0 0 3) fun x7 => mb (gR x7 2 0) fun x8 => mb (aR 6 x8 i1) fun x9 => mb (mat x9 3 (f_X3_to x9 i2)) fun x10 => mret x10))) fun x3 => mret x3
theorem nd_X0_move : yX0_move.cls ≠ "java/lang/invoke/MethodHandle" ∧ yX0_move.cls ≠ "java/lang/invoke/VarHandle" ∧ (parseMethodDescriptor yX0_move.desc).map (fun d => d.parameters.length) = some 2 := by decide +kernel
set_option maxHeartbeats 4000000 in
theorem ct_X0_move (l : Launch) (a0 : Nat) (i1 : Int32) (i2 : Int32) : CT l yX0_move cX0_move 3 (some .int) 2 46 rvI [.ref a0, .int i1, .int i2] (f_X0_move a0 i1 i2) := by
  refine CT_of (ls := [(0, .ref a0), (1, .int i1), (2, .int i2)]) (by decide) (Nat.le_of_ble_eq_true rfl) rfl ?_
  intro X h he z hX hf C E hnm hh
  have hl := hle.rf he
  subst hX
  unfold f_X0_move at hf
  refine v_iload_n C 1 dX0_move_0 rfl rfl ?_
  refine v_callS (stk := fun b => .int b :: []) C (ct_X0_isMove _ i1) nd_X0_isMove rfl (Nat.le_of_ble_eq_true rfl) (Nat.le_of_ble_eq_true rfl) [] (Nat.le_of_ble_eq_true rfl) (fun _ => rfl) rfl q812 q813 q96 q814 hf hl dX0_move_1 (fun x1 h2 hf => ?_)
  obtain ⟨x3, h4, hAh4, hf, hlh4⟩ := mb_inv hf hl
  refine v_cut (h1 := h4) (pc1 := 32) (ls1 := []) (st1 := [.int x3]) ?_ (fun Jh4 => ?_)
  · clear hAh4 hlh4
    exact v_iret C E hf dX0_move_32
  · clear hf
    have hf := hAh4
    have hl := hlh4
    refine v_if_eq C hf (tgt := 31) dX0_move_4 (by decide) (fun c4 hf => ?_) (fun c4 hf => ?_)
    · refine v_iconst (x := (-1)) C dX0_move_31 (by decide) ?_
      obtain ⟨e1, rfl⟩ := mret_inv hf
      subst e1
      exact v_sub (ls' := _) [] rfl Jh4
    · refine v_iload_n C 2 dX0_move_7 rfl rfl ?_
      refine v_i2l C dX0_move_8 ?_
      refine v_callS (stk := fun b => .int b :: []) C (ct_X0_isPlace _ i2.toInt64) nd_X0_isPlace rfl (Nat.le_of_ble_eq_true rfl) (Nat.le_of_ble_eq_true rfl) [] (Nat.le_of_ble_eq_true rfl) (fun _ => rfl) rfl q816 q817 q96 q818 hf hl dX0_move_9 (fun x5 h6 hf => ?_)
      refine v_if_eq C hf (tgt := 31) dX0_move_12 (by decide) (fun c12 hf => ?_) (fun c12 hf => ?_)
      · refine v_iconst (x := (-1)) C dX0_move_31 (by decide) ?_
        obtain ⟨e1, rfl⟩ := mret_inv hf
        subst e1
        exact v_sub (ls' := _) [] rfl Jh4
      · refine v_aload_n C 0 dX0_move_15 rfl rfl ?_
        refine v_gR (Cn := RX0) (T := TX0) (N := 16) C hf in_X0 rfl (by decide) q695 rfl dX0_move_16 (fun x7 hf => ?_)
        refine v_gRN (Cn := RX2) (T := TX2) (N := 3) C hf in_X2 rfl (by decide) q259 rfl dX0_move_19 (fun x8 hf => ?_)
        refine v_iload_n C 1 dX0_move_22 rfl rfl ?_
        refine v_aaload C hf (by decide) rfl dX0_move_23 (fun x9 hf => ?_)
        refine v_iload_n C 2 dX0_move_24 rfl rfl ?_
        refine v_callV (stk := fun b => .int b :: []) C (ct_X3_to _ x9 i2) rfl ⟨rfl, nd_X3_to⟩ rfl (Nat.le_of_ble_eq_true rfl) (Nat.le_of_ble_eq_true rfl) [] (Nat.le_of_ble_eq_true rfl) (fun _ => rfl) rfl q820 q646 q2328 q103 q648 hf hl dX0_move_25 (fun x10 h11 hf => ?_)
        refine v_goto (tgt := 32) C dX0_move_28 (by decide) ?_
        obtain ⟨e1, rfl⟩ := mret_inv hf
        subst e1
        exact v_sub (ls' := _) [] rfl Jh4
def f_X0_hexad (a0 : Nat) (i1 : Int32) : hM Int32 :=
  mb (f_X0_isSet i1) fun x1 => mi (¬ x1 = 0) (mb (f_X0_size i1) fun x3 => mi (¬ x3 = (5 : Int32)) (mret (-2 : Int32)) (mb (gR a0 0 3) fun x5 => mb (gI x5 2 1) fun x6 => mi ((i1 &&& (x6 ^^^ (-1 : Int32))) = 0) (mb (gR a0 0 0) fun x7 => mb (mat x7 1 (f_X1_complete x7 i1)) fun x8 => mb (gR a0 0 3) fun x10 => mb (gI x10 2 1) fun x11 => mret (x8 &&& x11)) (mret (-2 : Int32)))) (mret (-1 : Int32))
theorem nd_X0_hexad : yX0_hexad.cls ≠ "java/lang/invoke/MethodHandle" ∧ yX0_hexad.cls ≠ "java/lang/invoke/VarHandle" ∧ (parseMethodDescriptor yX0_hexad.desc).map (fun d => d.parameters.length) = some 1 := by decide +kernel
set_option maxHeartbeats 4000000 in
theorem ct_X0_hexad (l : Launch) (a0 : Nat) (i1 : Int32) : CT l yX0_hexad cX0_hexad 2 (some .int) 3 65 rvI [.ref a0, .int i1] (f_X0_hexad a0 i1) := by
  refine CT_of (ls := [(0, .ref a0), (1, .int i1)]) (by decide) (Nat.le_of_ble_eq_true rfl) rfl ?_
  intro X h he z hX hf C E hnm hh
  have hl := hle.rf he
  subst hX
  unfold f_X0_hexad at hf
  refine v_iload_n C 1 dX0_hexad_0 rfl rfl ?_
  refine v_callS (stk := fun b => .int b :: []) C (ct_X0_isSet _ i1) nd_X0_isSet rfl (Nat.le_of_ble_eq_true rfl) (Nat.le_of_ble_eq_true rfl) [] (Nat.le_of_ble_eq_true rfl) (fun _ => rfl) rfl q745 q746 q96 q747 hf hl dX0_hexad_1 (fun x1 h2 hf => ?_)
  refine v_if_ne C hf (tgt := 9) dX0_hexad_4 (by decide) (fun c4 hf => ?_) (fun c4 hf => ?_)
  · refine v_iload_n C 1 dX0_hexad_9 rfl rfl ?_
    refine v_callS (stk := fun b => .int b :: []) C (ct_X0_size _ i1) nd_X0_size rfl (Nat.le_of_ble_eq_true rfl) (Nat.le_of_ble_eq_true rfl) [] (Nat.le_of_ble_eq_true rfl) (fun _ => rfl) rfl q756 q179 q96 q180 hf hl dX0_hexad_10 (fun x3 h4 hf => ?_)
    refine v_iconst (x := 5) C dX0_hexad_13 (by decide) ?_
    refine v_icmp_ne C hf (tgt := 31) dX0_hexad_14 (by decide) (fun c14 hf => ?_) (fun c14 hf => ?_)
    · refine v_bipush (x := (-2)) C dX0_hexad_31 (by decide) ?_
      exact v_iret C E hf dX0_hexad_33
    · refine v_iload_n C 1 dX0_hexad_17 rfl rfl ?_
      refine v_aload_n C 0 dX0_hexad_18 rfl rfl ?_
      refine v_gR (Cn := RX0) (T := TX0) (N := 16) C hf in_X0 rfl (by decide) q695 rfl dX0_hexad_19 (fun x5 hf => ?_)
      refine v_gIN (Cn := RX2) (T := TX2) (N := 3) C hf in_X2 rfl (by decide) q261 rfl dX0_hexad_22 (fun x6 hf => ?_)
      refine v_iconst (x := (-1)) C dX0_hexad_25 (by decide) ?_
      refine v_ixor C dX0_hexad_26 ?_
      refine v_iand C dX0_hexad_27 ?_
      refine v_if_eq C hf (tgt := 34) dX0_hexad_28 (by decide) (fun c28 hf => ?_) (fun c28 hf => ?_)
      · refine v_aload_n C 0 dX0_hexad_34 rfl rfl ?_
        refine v_gR (Cn := RX0) (T := TX0) (N := 16) C hf in_X0 rfl (by decide) q692 rfl dX0_hexad_35 (fun x7 hf => ?_)
        refine v_iload_n C 1 dX0_hexad_38 rfl rfl ?_
        refine v_callV (stk := fun b => .int b :: []) C (ct_X1_complete _ x7 i1) rfl ⟨rfl, nd_X1_complete⟩ rfl (Nat.le_of_ble_eq_true rfl) (Nat.le_of_ble_eq_true rfl) [] (Nat.le_of_ble_eq_true rfl) (fun _ => rfl) rfl q786 q787 q788 q97 q789 hf hl dX0_hexad_39 (fun x8 h9 hf => ?_)
        refine v_aload_n C 0 dX0_hexad_42 rfl rfl ?_
        refine v_gR (Cn := RX0) (T := TX0) (N := 16) C hf in_X0 rfl (by decide) q695 rfl dX0_hexad_43 (fun x10 hf => ?_)
        refine v_gIN (Cn := RX2) (T := TX2) (N := 3) C hf in_X2 rfl (by decide) q261 rfl dX0_hexad_46 (fun x11 hf => ?_)
        refine v_iand C dX0_hexad_49 ?_
        exact v_iret C E hf dX0_hexad_50
      · refine v_bipush (x := (-2)) C dX0_hexad_31 (by decide) ?_
        exact v_iret C E hf dX0_hexad_33
  · refine v_iconst (x := (-1)) C dX0_hexad_7 (by decide) ?_
    exact v_iret C E hf dX0_hexad_8
def f_X0_pair (a0 : Nat) (i1 : Int32) : hM Int32 :=
  mb (f_X0_isSet i1) fun x1 => mi (¬ x1 = 0) (mb (f_X0_size i1) fun x3 => mi (¬ x3 = (6 : Int32)) (mret (-2 : Int32)) (mb (gR a0 0 3) fun x5 => mb (gI x5 2 1) fun x6 => mi ((i1 &&& (x6 ^^^ (-1 : Int32))) = 0) (mb (gR a0 0 0) fun x7 => mb (mat x7 1 (f_X1_complete x7 (i1 &&& (i1 - (1 : Int32))))) fun x8 => mb (gR a0 0 3) fun x10 => mb (gI x10 2 1) fun x11 => mb (mi (¬ (x8 &&& x11) = i1) (mret (-2 : Int32)) (mb (gR a0 0 3) fun x14 => mb (gI x14 2 1) fun x15 => mret (x8 &&& (x15 ^^^ (-1 : Int32))))) fun x12 => mret x12) (mret (-2 : Int32)))) (mret (-1 : Int32))
theorem nd_X0_pair : yX0_pair.cls ≠ "java/lang/invoke/MethodHandle" ∧ yX0_pair.cls ≠ "java/lang/invoke/VarHandle" ∧ (parseMethodDescriptor yX0_pair.desc).map (fun d => d.parameters.length) = some 1 := by decide +kernel
set_option maxHeartbeats 4000000 in
theorem ct_X0_pair (l : Launch) (a0 : Nat) (i1 : Int32) : CT l yX0_pair cX0_pair 3 (some .int) 3 65 rvI [.ref a0, .int i1] (f_X0_pair a0 i1) := by
  refine CT_of (ls := [(0, .ref a0), (1, .int i1)]) (by decide) (Nat.le_of_ble_eq_true rfl) rfl ?_
  intro X h he z hX hf C E hnm hh
  have hl := hle.rf he
  subst hX
  unfold f_X0_pair at hf
  refine v_iload_n C 1 dX0_pair_0 rfl rfl ?_
  refine v_callS (stk := fun b => .int b :: []) C (ct_X0_isSet _ i1) nd_X0_isSet rfl (Nat.le_of_ble_eq_true rfl) (Nat.le_of_ble_eq_true rfl) [] (Nat.le_of_ble_eq_true rfl) (fun _ => rfl) rfl q745 q746 q96 q747 hf hl dX0_pair_1 (fun x1 h2 hf => ?_)
  refine v_if_ne C hf (tgt := 9) dX0_pair_4 (by decide) (fun c4 hf => ?_) (fun c4 hf => ?_)
  · refine v_iload_n C 1 dX0_pair_9 rfl rfl ?_
    refine v_callS (stk := fun b => .int b :: []) C (ct_X0_size _ i1) nd_X0_size rfl (Nat.le_of_ble_eq_true rfl) (Nat.le_of_ble_eq_true rfl) [] (Nat.le_of_ble_eq_true rfl) (fun _ => rfl) rfl q756 q179 q96 q180 hf hl dX0_pair_10 (fun x3 h4 hf => ?_)
    refine v_bipush (x := 6) C dX0_pair_13 (by decide) ?_
    refine v_icmp_ne C hf (tgt := 32) dX0_pair_15 (by decide) (fun c15 hf => ?_) (fun c15 hf => ?_)
    · refine v_bipush (x := (-2)) C dX0_pair_32 (by decide) ?_
      exact v_iret C E hf dX0_pair_34
    · refine v_iload_n C 1 dX0_pair_18 rfl rfl ?_
      refine v_aload_n C 0 dX0_pair_19 rfl rfl ?_
      refine v_gR (Cn := RX0) (T := TX0) (N := 16) C hf in_X0 rfl (by decide) q695 rfl dX0_pair_20 (fun x5 hf => ?_)
      refine v_gIN (Cn := RX2) (T := TX2) (N := 3) C hf in_X2 rfl (by decide) q261 rfl dX0_pair_23 (fun x6 hf => ?_)
      refine v_iconst (x := (-1)) C dX0_pair_26 (by decide) ?_
      refine v_ixor C dX0_pair_27 ?_
      refine v_iand C dX0_pair_28 ?_
      refine v_if_eq C hf (tgt := 35) dX0_pair_29 (by decide) (fun c29 hf => ?_) (fun c29 hf => ?_)
      · refine v_aload_n C 0 dX0_pair_35 rfl rfl ?_
        refine v_gR (Cn := RX0) (T := TX0) (N := 16) C hf in_X0 rfl (by decide) q692 rfl dX0_pair_36 (fun x7 hf => ?_)
        refine v_iload_n C 1 dX0_pair_39 rfl rfl ?_
        refine v_iload_n C 1 dX0_pair_40 rfl rfl ?_
        refine v_iconst (x := 1) C dX0_pair_41 (by decide) ?_
        refine v_isub C dX0_pair_42 ?_
        refine v_iand C dX0_pair_43 ?_
        refine v_callV (stk := fun b => .int b :: []) C (ct_X1_complete _ x7 (i1 &&& (i1 - (1 : Int32)))) rfl ⟨rfl, nd_X1_complete⟩ rfl (Nat.le_of_ble_eq_true rfl) (Nat.le_of_ble_eq_true rfl) [] (Nat.le_of_ble_eq_true rfl) (fun _ => rfl) rfl q786 q787 q788 q97 q789 hf hl dX0_pair_44 (fun x8 h9 hf => ?_)
        refine v_istore_n (ls' := [(2, _), (0, _), (1, _)]) C dX0_pair_47 rfl (by decide) rfl ?_
        refine v_iload_n C 0 dX0_pair_48 rfl rfl ?_
        refine v_aload_n C 1 dX0_pair_49 rfl rfl ?_
        refine v_gR (Cn := RX0) (T := TX0) (N := 16) C hf in_X0 rfl (by decide) q695 rfl dX0_pair_50 (fun x10 hf => ?_)
        refine v_gIN (Cn := RX2) (T := TX2) (N := 3) C hf in_X2 rfl (by decide) q261 rfl dX0_pair_53 (fun x11 hf => ?_)
        refine v_iand C dX0_pair_56 ?_
        refine v_iload_n C 2 dX0_pair_57 rfl rfl ?_
        obtain ⟨x12, h13, hAh13, hf, hlh13⟩ := mb_inv hf hl
        refine v_cut (h1 := h13) (pc1 := 77) (ls1 := []) (st1 := [.int x12]) ?_ (fun Jh13 => ?_)
        · clear hAh13 hlh13
          exact v_iret C E hf dX0_pair_77
        · clear hf
          have hf := hAh13
          have hl := hlh13
          refine v_icmp_ne C hf (tgt := 75) dX0_pair_58 (by decide) (fun c58 hf => ?_) (fun c58 hf => ?_)
          · refine v_bipush (x := (-2)) C dX0_pair_75 (by decide) ?_
            obtain ⟨e1, rfl⟩ := mret_inv hf
            subst e1
            exact v_sub (ls' := _) [] rfl Jh13
          · refine v_iload_n C 0 dX0_pair_61 rfl rfl ?_
            refine v_aload_n C 1 dX0_pair_62 rfl rfl ?_
            refine v_gR (Cn := RX0) (T := TX0) (N := 16) C hf in_X0 rfl (by decide) q695 rfl dX0_pair_63 (fun x14 hf => ?_)
            refine v_gIN (Cn := RX2) (T := TX2) (N := 3) C hf in_X2 rfl (by decide) q261 rfl dX0_pair_66 (fun x15 hf => ?_)
            refine v_iconst (x := (-1)) C dX0_pair_69 (by decide) ?_
            refine v_ixor C dX0_pair_70 ?_
            refine v_iand C dX0_pair_71 ?_
            refine v_goto (tgt := 77) C dX0_pair_72 (by decide) ?_
            obtain ⟨e1, rfl⟩ := mret_inv hf
            subst e1
            exact v_sub (ls' := _) [] rfl Jh13
      · refine v_bipush (x := (-2)) C dX0_pair_32 (by decide) ?_
        exact v_iret C E hf dX0_pair_34
  · refine v_iconst (x := (-1)) C dX0_pair_7 (by decide) ?_
    exact v_iret C E hf dX0_pair_8
def f_X0_lacks (a0 : Nat) (i1 : Int32) (i2 : Int32) (i3 : Int32) (i4 : Int32) : hM Int32 :=
  mb (gR a0 0 15) fun x1 => mb (aR 9 x1 i1) fun x2 => mb (gQ x2 10 0) fun x3 => mq x3 (mret (-11 : Int32)) (fun y4 => mb (mat x2 10 (f_X10_lane x2)) fun x5 => mi (x5 = i2) (mb (mi (i3 < 0) (mret (-13 : Int32)) (mb (mat x2 10 (f_X10_size x2)) fun x9 => mi (i3 ≤ (x9 - i4)) (mret (0 : Int32)) (mret (-13 : Int32)))) fun x7 => mret x7) (mret (-12 : Int32)))
theorem nd_X0_lacks : yX0_lacks.cls ≠ "java/lang/invoke/MethodHandle" ∧ yX0_lacks.cls ≠ "java/lang/invoke/VarHandle" ∧ (parseMethodDescriptor yX0_lacks.desc).map (fun d => d.parameters.length) = some 4 := by decide +kernel
set_option maxHeartbeats 4000000 in
theorem ct_X0_lacks (l : Launch) (a0 : Nat) (i1 : Int32) (i2 : Int32) (i3 : Int32) (i4 : Int32) : CT l yX0_lacks cX0_lacks 6 (some .int) 1 22 rvI [.ref a0, .int i1, .int i2, .int i3, .int i4] (f_X0_lacks a0 i1 i2 i3 i4) := by
  refine CT_of (ls := [(0, .ref a0), (1, .int i1), (2, .int i2), (3, .int i3), (4, .int i4)]) (by decide) (Nat.le_of_ble_eq_true rfl) rfl ?_
  intro X h he z hX hf C E hnm hh
  have hl := hle.rf he
  subst hX
  unfold f_X0_lacks at hf
  refine v_aload_n C 0 dX0_lacks_0 rfl rfl ?_
  refine v_gR (Cn := RX0) (T := TX0) (N := 16) C hf in_X0 rfl (by decide) q707 rfl dX0_lacks_1 (fun x1 hf => ?_)
  refine v_iload_n C 1 dX0_lacks_4 rfl rfl ?_
  refine v_aaload C hf (by decide) rfl dX0_lacks_5 (fun x2 hf => ?_)
  refine v_astore (ls' := [(5, _), (0, _), (1, _), (2, _), (3, _), (4, _)]) C dX0_lacks_6 (by decide) rfl ?_
  refine v_aload C 0 dX0_lacks_8 rfl ?_
  refine v_gQN (Cn := RX10) (T := TX10) (N := 1) C hf in_X10 rfl (by decide) q509 rfl dX0_lacks_10 (fun x3 hf => ?_)
  refine v_ifnonnullq C hf (tgt := 19) dX0_lacks_13 (by decide) (fun y4 c13 hf => ?_) (fun c13 hf => ?_)
  · subst c13
    refine v_aload C 0 dX0_lacks_19 rfl ?_
    refine v_callV (stk := fun b => .int b :: []) C (ct_X10_lane _ x2) rfl ⟨rfl, nd_X10_lane⟩ rfl (Nat.le_of_ble_eq_true rfl) (Nat.le_of_ble_eq_true rfl) [] (Nat.le_of_ble_eq_true rfl) (fun _ => rfl) rfl q1648 q1649 q1650 q118 q1651 hf hl dX0_lacks_21 (fun x5 h6 hf => ?_)
    refine v_iload_n C 3 dX0_lacks_24 rfl rfl ?_
    refine v_icmp_eq C hf (tgt := 31) dX0_lacks_25 (by decide) (fun c25 hf => ?_) (fun c25 hf => ?_)
    · refine v_iload_n C 4 dX0_lacks_31 rfl rfl ?_
      obtain ⟨x7, h8, hAh8, hf, hlh8⟩ := mb_inv hf hl
      refine v_cut (h1 := h8) (pc1 := 53) (ls1 := []) (st1 := [.int x7]) ?_ (fun Jh8 => ?_)
      · clear hAh8 hlh8
        exact v_iret C E hf dX0_lacks_53
      · clear hf
        have hf := hAh8
        have hl := hlh8
        refine v_if_lt C hf (tgt := 47) dX0_lacks_32 (by decide) (fun c32 hf => ?_) (fun c32 hf => ?_)
        · refine v_bipush (x := (-13)) C dX0_lacks_47 (by decide) ?_
          refine v_goto (tgt := 53) C dX0_lacks_49 (by decide) ?_
          obtain ⟨e1, rfl⟩ := mret_inv hf
          subst e1
          exact v_sub (ls' := _) [] rfl Jh8
        · refine v_iload_n C 4 dX0_lacks_35 rfl rfl ?_
          refine v_aload C 0 dX0_lacks_36 rfl ?_
          refine v_callV (stk := fun b => .int b :: [.int i3]) C (ct_X10_size _ x2) rfl ⟨rfl, nd_X10_size⟩ rfl (Nat.le_of_ble_eq_true rfl) (Nat.le_of_ble_eq_true rfl) [.int i3] (Nat.le_of_ble_eq_true rfl) (fun _ => rfl) rfl q1655 q1656 q1657 q118 q1658 hf hl dX0_lacks_38 (fun x9 h10 hf => ?_)
          refine v_iload C 5 dX0_lacks_41 rfl ?_
          refine v_isub C dX0_lacks_43 ?_
          refine v_icmp_le C hf (tgt := 52) dX0_lacks_44 (by decide) (fun c44 hf => ?_) (fun c44 hf => ?_)
          · refine v_iconst (x := 0) C dX0_lacks_52 (by decide) ?_
            obtain ⟨e1, rfl⟩ := mret_inv hf
            subst e1
            exact v_sub (ls' := _) [] rfl Jh8
          · refine v_bipush (x := (-13)) C dX0_lacks_47 (by decide) ?_
            refine v_goto (tgt := 53) C dX0_lacks_49 (by decide) ?_
            obtain ⟨e1, rfl⟩ := mret_inv hf
            subst e1
            exact v_sub (ls' := _) [] rfl Jh8
    · refine v_bipush (x := (-12)) C dX0_lacks_28 (by decide) ?_
      exact v_iret C E hf dX0_lacks_30
  · refine v_bipush (x := (-11)) C dX0_lacks_16 (by decide) ?_
    exact v_iret C E hf dX0_lacks_18
def l_X0_isGood_6 (a1 : Nat) (i2 : Int32) (i3 : Int32) : Nat → Int32 → Int32 → hM (Int32)
  | 0, _, _ => mfail
  | n + 1, i4, i5 => mi (i3 ≤ i5) (mret i4) (mb (mi (i4 = 0) (mret (0 : Int32)) (mb (mat a1 10 (f_X10_get a1 (i2 + i5))) fun x3 => mb (f_X0_isPlace x3) fun x5 => mi (x5 = 0) (mret (0 : Int32)) (mret (1 : Int32)))) fun x1 => l_X0_isGood_6 a1 i2 i3 n x1 (i5 + (1 : Int32)))
def f_X0_isGood (a0 : Nat) (a1 : Nat) (i2 : Int32) (i3 : Int32) : hM Int32 :=
  mb (l_X0_isGood_6 a1 i2 i3 FU (1 : Int32) (0 : Int32)) fun x7 => mrt .boolean x7
theorem nd_X0_isGood : yX0_isGood.cls ≠ "java/lang/invoke/MethodHandle" ∧ yX0_isGood.cls ≠ "java/lang/invoke/VarHandle" ∧ (parseMethodDescriptor yX0_isGood.desc).map (fun d => d.parameters.length) = some 3 := by decide +kernel
set_option maxHeartbeats 4000000 in
theorem ct_X0_isGood (l : Launch) (a0 : Nat) (a1 : Nat) (i2 : Int32) (i3 : Int32) : CT l yX0_isGood cX0_isGood 6 (some .boolean) 2 46 rvI [.ref a0, .ref a1, .int i2, .int i3] (f_X0_isGood a0 a1 i2 i3) := by
  refine CT_of (ls := [(0, .ref a0), (1, .ref a1), (2, .int i2), (3, .int i3)]) (by decide) (Nat.le_of_ble_eq_true rfl) rfl ?_
  intro X h he z hX hf C E hnm hh
  have hl := hle.rf he
  subst hX
  have L6 : ∀ (a1 : Nat) (i2 : Int32) (i3 : Int32) (n : Nat) (i4 : Int32) (i5 : Int32) (h h1 : Hp) (o : Int32), (l_X0_isGood_6 a1 i2 i3 n i4 i5).1 h = some (o, h1) → hle h1 he → V X h1 44 [(4, .int o)] [] → V X h 6 [(1, .ref a1), (2, .int i2), (3, .int i3), (4, .int i4), (5, .int i5)] [] := by
    intro a1 i2 i3 n
    induction n with
    | zero => intro i4 i5 h h1 o hf; exact mfail_inv hf
    | succ n ih =>
      intro i4 i5 h h1 o hf hl J
      rw [l_X0_isGood_6] at hf
      refine v_iload C 4 dX0_isGood_6 rfl ?_
      refine v_iload_n C 2 dX0_isGood_8 rfl rfl ?_
      refine v_icmp_ge C hf (tgt := 44) dX0_isGood_9 (by decide) (fun c9 hf => ?_) (fun c9 hf => ?_)
      · obtain ⟨e1, rfl⟩ := mret_inv hf
        subst e1
        exact v_sub (ls' := _) [3] rfl J
      · refine v_iload C 3 dX0_isGood_12 rfl ?_
        obtain ⟨x1, h2, hAh2, hf, hlh2⟩ := mb_inv hf hl
        refine v_cut (h1 := h2) (pc1 := 36) (ls1 := [(1, .ref a1), (2, .int i2), (3, .int i3), (5, .int i5)]) (st1 := [.int x1]) ?_ (fun Jh2 => ?_)
        · clear hAh2 hlh2
          refine v_istore (ls' := [(4, _), (1, _), (2, _), (3, _), (5, _)]) C dX0_isGood_36 (by decide) rfl ?_
          refine v_iinc (ls' := [(5, _), (4, _), (1, _), (2, _), (3, _)]) (y := i5 + (1 : Int32)) C 4 dX0_isGood_38 rfl rfl (by decide) rfl ?_
          refine v_goto (tgt := 6) C dX0_isGood_41 (by decide) ?_
          refine v_sub (ls' := _) [2, 3, 4, 1, 0] rfl (ih x1 (i5 + (1 : Int32)) _ _ _ hf hl J)
        · clear hf
          have hf := hAh2
          have hl := hlh2
          refine v_if_eq C hf (tgt := 35) dX0_isGood_14 (by decide) (fun c14 hf => ?_) (fun c14 hf => ?_)
          · refine v_iconst (x := 0) C dX0_isGood_35 (by decide) ?_
            obtain ⟨e1, rfl⟩ := mret_inv hf
            subst e1
            exact v_sub (ls' := _) [0, 1, 2, 4] rfl Jh2
          · refine v_aload_n C 0 dX0_isGood_17 rfl rfl ?_
            refine v_iload_n C 1 dX0_isGood_18 rfl rfl ?_
            refine v_iload C 4 dX0_isGood_19 rfl ?_
            refine v_iadd C dX0_isGood_21 ?_
            refine v_callV (stk := fun b => .long b :: []) C (ct_X10_get _ a1 (i2 + i5)) rfl ⟨rfl, nd_X10_get⟩ rfl (Nat.le_of_ble_eq_true rfl) (Nat.le_of_ble_eq_true rfl) [] (Nat.le_of_ble_eq_true rfl) (fun _ => rfl) rfl q1664 q1665 q1666 q118 q1667 hf hl dX0_isGood_22 (fun x3 h4 hf => ?_)
            refine v_callS (stk := fun b => .int b :: []) C (ct_X0_isPlace _ x3) nd_X0_isPlace rfl (Nat.le_of_ble_eq_true rfl) (Nat.le_of_ble_eq_true rfl) [] (Nat.le_of_ble_eq_true rfl) (fun _ => rfl) rfl q816 q817 q96 q818 hf hl dX0_isGood_25 (fun x5 h6 hf => ?_)
            refine v_if_eq C hf (tgt := 35) dX0_isGood_28 (by decide) (fun c28 hf => ?_) (fun c28 hf => ?_)
            · refine v_iconst (x := 0) C dX0_isGood_35 (by decide) ?_
              obtain ⟨e1, rfl⟩ := mret_inv hf
              subst e1
              exact v_sub (ls' := _) [0, 1, 2, 4] rfl Jh2
            · refine v_iconst (x := 1) C dX0_isGood_31 (by decide) ?_
              refine v_goto (tgt := 36) C dX0_isGood_32 (by decide) ?_
              obtain ⟨e1, rfl⟩ := mret_inv hf
              subst e1
              exact v_sub (ls' := _) [0, 1, 2, 4] rfl Jh2
  unfold f_X0_isGood at hf
  refine v_iconst (x := 1) C dX0_isGood_0 (by decide) ?_
  refine v_istore (ls' := [(4, _), (0, _), (1, _), (2, _), (3, _)]) C dX0_isGood_1 (by decide) rfl ?_
  refine v_iconst (x := 0) C dX0_isGood_3 (by decide) ?_
  refine v_istore (ls' := [(5, _), (4, _), (0, _), (1, _), (2, _), (3, _)]) C dX0_isGood_4 (by decide) rfl ?_
  obtain ⟨x7, h8, eh8, hf, hlh8⟩ := mb_inv hf hl
  refine v_sub (ls' := _) [3, 4, 5, 1, 0] rfl (L6 a1 i2 i3 FU (1 : Int32) (0 : Int32) _ _ _ eh8 hlh8 ?_)
  refine v_iload C 0 dX0_isGood_44 rfl ?_
  exact v_zret C E hf dX0_isGood_46
def l_X0_film_40 (a0 : Nat) (i1 : Int32) (i2 : Int32) (i3 : Int32) (i4 : Int32) : Nat → Int32 → hM (Unit)
  | 0, _ => mfail
  | n + 1, i6 => mi ((24 : Int32) ≤ i6) (mret ()) (mb (gR a0 0 15) fun x7 => mb (aR 9 x7 i2) fun x8 => mb (gR a0 0 3) fun x9 => mb (gR x9 2 0) fun x10 => mb (aR 6 x10 i1) fun x11 => mb (mat x11 3 (f_X3_to x11 i6)) fun x12 => mb (mat x8 10 (f_X10_lay x8 i3 (i4 + i6) x12.toInt64)) fun _ => l_X0_film_40 a0 i1 i2 i3 i4 n (i6 + (1 : Int32)))
def f_X0_film (a0 : Nat) (i1 : Int32) (i2 : Int32) (i3 : Int32) (i4 : Int32) : hM Int32 :=
  mb (f_X0_isMove i1) fun x1 => mi (x1 = 0) (mret (-1 : Int32)) (mb (f_X0_isSheet i2 i3) fun x3 => mi (¬ x3 = 0) (mb (mat a0 0 (f_X0_lacks a0 i2 i3 i4 (24 : Int32))) fun x5 => mi (0 ≤ x5) (mb (l_X0_film_40 a0 i1 i2 i3 i4 FU (0 : Int32)) fun x16 => mret (24 : Int32)) (mret x5)) (mret (-1 : Int32)))
theorem nd_X0_film : yX0_film.cls ≠ "java/lang/invoke/MethodHandle" ∧ yX0_film.cls ≠ "java/lang/invoke/VarHandle" ∧ (parseMethodDescriptor yX0_film.desc).map (fun d => d.parameters.length) = some 4 := by decide +kernel
set_option maxHeartbeats 4000000 in
theorem ct_X0_film (l : Launch) (a0 : Nat) (i1 : Int32) (i2 : Int32) (i3 : Int32) (i4 : Int32) : CT l yX0_film cX0_film 7 (some .int) 2 47 rvI [.ref a0, .int i1, .int i2, .int i3, .int i4] (f_X0_film a0 i1 i2 i3 i4) := by
  refine CT_of (ls := [(0, .ref a0), (1, .int i1), (2, .int i2), (3, .int i3), (4, .int i4)]) (by decide) (Nat.le_of_ble_eq_true rfl) rfl ?_
  intro X h he z hX hf C E hnm hh
  have hl := hle.rf he
  subst hX
  have L40 : ∀ (a0 : Nat) (i1 : Int32) (i2 : Int32) (i3 : Int32) (i4 : Int32) (n : Nat) (i6 : Int32) (h h1 : Hp) (o : Unit), (l_X0_film_40 a0 i1 i2 i3 i4 n i6).1 h = some (o, h1) → hle h1 he → V X h1 83 [] [] → V X h 40 [(0, .ref a0), (1, .int i1), (2, .int i2), (3, .int i3), (4, .int i4), (6, .int i6)] [] := by
    intro a0 i1 i2 i3 i4 n
    induction n with
    | zero => intro i6 h h1 o hf; exact mfail_inv hf
    | succ n ih =>
      intro i6 h h1 o hf hl J
      rw [l_X0_film_40] at hf
      refine v_iload C 5 dX0_film_40 rfl ?_
      refine v_bipush (x := 24) C dX0_film_42 (by decide) ?_
      refine v_icmp_ge C hf (tgt := 83) dX0_film_44 (by decide) (fun c44 hf => ?_) (fun c44 hf => ?_)
      · obtain ⟨e1, rfl⟩ := mret_inv hf
        subst e1
        exact v_sub (ls' := _) [] rfl J
      · refine v_aload_n C 0 dX0_film_47 rfl rfl ?_
        refine v_gR (Cn := RX0) (T := TX0) (N := 16) C hf in_X0 rfl (by decide) q707 rfl dX0_film_48 (fun x7 hf => ?_)
        refine v_iload_n C 2 dX0_film_51 rfl rfl ?_
        refine v_aaload C hf (by decide) rfl dX0_film_52 (fun x8 hf => ?_)
        refine v_iload_n C 3 dX0_film_53 rfl rfl ?_
        refine v_iload C 4 dX0_film_54 rfl ?_
        refine v_iload C 5 dX0_film_56 rfl ?_
        refine v_iadd C dX0_film_58 ?_
        refine v_aload_n C 0 dX0_film_59 rfl rfl ?_
        refine v_gR (Cn := RX0) (T := TX0) (N := 16) C hf in_X0 rfl (by decide) q695 rfl dX0_film_60 (fun x9 hf => ?_)
        refine v_gRN (Cn := RX2) (T := TX2) (N := 3) C hf in_X2 rfl (by decide) q259 rfl dX0_film_63 (fun x10 hf => ?_)
        refine v_iload_n C 1 dX0_film_66 rfl rfl ?_
        refine v_aaload C hf (by decide) rfl dX0_film_67 (fun x11 hf => ?_)
        refine v_iload C 5 dX0_film_68 rfl ?_
        refine v_callV (stk := fun b => .int b :: [.int (i4 + i6), .int i3, .ref x8]) C (ct_X3_to _ x11 i6) rfl ⟨rfl, nd_X3_to⟩ rfl (Nat.le_of_ble_eq_true rfl) (Nat.le_of_ble_eq_true rfl) [.int (i4 + i6), .int i3, .ref x8] (Nat.le_of_ble_eq_true rfl) (fun _ => rfl) rfl q820 q646 q2328 q103 q648 hf hl dX0_film_70 (fun x12 h13 hf => ?_)
        refine v_i2l C dX0_film_73 ?_
        refine v_callV (stk := fun _ => []) C (ct_X10_lay _ x8 i3 (i4 + i6) x12.toInt64) rfl ⟨rfl, nd_X10_lay⟩ rfl (Nat.le_of_ble_eq_true rfl) (Nat.le_of_ble_eq_true rfl) [] (Nat.le_of_ble_eq_true rfl) (fun _ => rfl) rfl q1689 q1690 q1691 q118 q1692 hf hl dX0_film_74 (fun x14 h15 hf => ?_)
        refine v_iinc (ls' := [(6, _), (0, _), (1, _), (2, _), (3, _), (4, _)]) (y := i6 + (1 : Int32)) C 5 dX0_film_77 rfl rfl (by decide) rfl ?_
        refine v_goto (tgt := 40) C dX0_film_80 (by decide) ?_
        refine v_sub (ls' := _) [1, 2, 3, 4, 5, 0] rfl (ih (i6 + (1 : Int32)) _ _ _ hf hl J)
  unfold f_X0_film at hf
  refine v_iload_n C 1 dX0_film_0 rfl rfl ?_
  refine v_callS (stk := fun b => .int b :: []) C (ct_X0_isMove _ i1) nd_X0_isMove rfl (Nat.le_of_ble_eq_true rfl) (Nat.le_of_ble_eq_true rfl) [] (Nat.le_of_ble_eq_true rfl) (fun _ => rfl) rfl q812 q813 q96 q814 hf hl dX0_film_1 (fun x1 h2 hf => ?_)
  refine v_if_eq C hf (tgt := 15) dX0_film_4 (by decide) (fun c4 hf => ?_) (fun c4 hf => ?_)
  · refine v_iconst (x := (-1)) C dX0_film_15 (by decide) ?_
    exact v_iret C E hf dX0_film_16
  · refine v_iload_n C 2 dX0_film_7 rfl rfl ?_
    refine v_iload_n C 3 dX0_film_8 rfl rfl ?_
    refine v_callS (stk := fun b => .int b :: []) C (ct_X0_isSheet _ i2 i3) nd_X0_isSheet rfl (Nat.le_of_ble_eq_true rfl) (Nat.le_of_ble_eq_true rfl) [] (Nat.le_of_ble_eq_true rfl) (fun _ => rfl) rfl q1641 q1642 q96 q1643 hf hl dX0_film_9 (fun x3 h4 hf => ?_)
    refine v_if_ne C hf (tgt := 17) dX0_film_12 (by decide) (fun c12 hf => ?_) (fun c12 hf => ?_)
    · refine v_aload_n C 0 dX0_film_17 rfl rfl ?_
      refine v_iload_n C 2 dX0_film_18 rfl rfl ?_
      refine v_iload_n C 3 dX0_film_19 rfl rfl ?_
      refine v_iload C 4 dX0_film_20 rfl ?_
      refine v_bipush (x := 24) C dX0_film_22 (by decide) ?_
      refine v_callV (stk := fun b => .int b :: []) C (ct_X0_lacks _ a0 i2 i3 i4 (24 : Int32)) rfl ⟨rfl, nd_X0_lacks⟩ rfl (Nat.le_of_ble_eq_true rfl) (Nat.le_of_ble_eq_true rfl) [] (Nat.le_of_ble_eq_true rfl) (fun _ => rfl) rfl q1644 q1646 qs33 q96 q1647 hf hl dX0_film_24 (fun x5 h6 hf => ?_)
      refine v_istore (ls' := [(5, _), (0, _), (1, _), (2, _), (3, _), (4, _)]) C dX0_film_27 (by decide) rfl ?_
      refine v_iload C 0 dX0_film_29 rfl ?_
      refine v_if_ge C hf (tgt := 37) dX0_film_31 (by decide) (fun c31 hf => ?_) (fun c31 hf => ?_)
      · refine v_iconst (x := 0) C dX0_film_37 (by decide) ?_
        refine v_istore (ls' := [(6, _), (5, _), (0, _), (1, _), (2, _), (3, _), (4, _)]) C dX0_film_38 (by decide) rfl ?_
        obtain ⟨x16, h17, eh17, hf, hlh17⟩ := mb_inv hf hl
        refine v_sub (ls' := _) [2, 3, 4, 5, 6, 0] rfl (L40 a0 i1 i2 i3 i4 FU (0 : Int32) _ _ _ eh17 hlh17 ?_)
        refine v_bipush (x := 24) C dX0_film_83 (by decide) ?_
        exact v_iret C E hf dX0_film_85
      · refine v_iload C 0 dX0_film_34 rfl ?_
        exact v_iret C E hf dX0_film_36
    · refine v_iconst (x := (-1)) C dX0_film_15 (by decide) ?_
      exact v_iret C E hf dX0_film_16
def f_X0_drop (a0 : Nat) (i1 : Int32) : hM Int32 :=
  mb (f_X0_isSheet i1 (0 : Int32)) fun x1 => mi (¬ x1 = 0) (mb (gR a0 0 15) fun x3 => mb (aR 9 x3 i1) fun x4 => mb (gQ x4 10 0) fun x5 => mq x5 (mret (-11 : Int32)) (fun y6 => mb (gR a0 0 15) fun x7 => mb (aR 9 x7 i1) fun x8 => mb (mat x8 10 (f_X10_size x8)) fun x9 => mb (gR a0 0 15) fun x11 => mb (aR 9 x11 i1) fun x12 => mb (pF x12 10 0 (va_rf none)) fun _ => mret x9)) (mret (-1 : Int32))
theorem nd_X0_drop : yX0_drop.cls ≠ "java/lang/invoke/MethodHandle" ∧ yX0_drop.cls ≠ "java/lang/invoke/VarHandle" ∧ (parseMethodDescriptor yX0_drop.desc).map (fun d => d.parameters.length) = some 1 := by decide +kernel
set_option maxHeartbeats 4000000 in
theorem ct_X0_drop (l : Launch) (a0 : Nat) (i1 : Int32) : CT l yX0_drop cX0_drop 3 (some .int) 2 46 rvI [.ref a0, .int i1] (f_X0_drop a0 i1) := by
  refine CT_of (ls := [(0, .ref a0), (1, .int i1)]) (by decide) (Nat.le_of_ble_eq_true rfl) rfl ?_
  intro X h he z hX hf C E hnm hh
  have hl := hle.rf he
  subst hX
  unfold f_X0_drop at hf
  refine v_iload_n C 1 dX0_drop_0 rfl rfl ?_
  refine v_iconst (x := 0) C dX0_drop_1 (by decide) ?_
  refine v_callS (stk := fun b => .int b :: []) C (ct_X0_isSheet _ i1 (0 : Int32)) nd_X0_isSheet rfl (Nat.le_of_ble_eq_true rfl) (Nat.le_of_ble_eq_true rfl) [] (Nat.le_of_ble_eq_true rfl) (fun _ => rfl) rfl q1641 q1642 q96 q1643 hf hl dX0_drop_2 (fun x1 h2 hf => ?_)
  refine v_if_ne C hf (tgt := 10) dX0_drop_5 (by decide) (fun c5 hf => ?_) (fun c5 hf => ?_)
  · refine v_aload_n C 0 dX0_drop_10 rfl rfl ?_
    refine v_gR (Cn := RX0) (T := TX0) (N := 16) C hf in_X0 rfl (by decide) q707 rfl dX0_drop_11 (fun x3 hf => ?_)
    refine v_iload_n C 1 dX0_drop_14 rfl rfl ?_
    refine v_aaload C hf (by decide) rfl dX0_drop_15 (fun x4 hf => ?_)
    refine v_gQN (Cn := RX10) (T := TX10) (N := 1) C hf in_X10 rfl (by decide) q509 rfl dX0_drop_16 (fun x5 hf => ?_)
    refine v_ifnonnullq C hf (tgt := 25) dX0_drop_19 (by decide) (fun y6 c19 hf => ?_) (fun c19 hf => ?_)
    · subst c19
      refine v_aload_n C 0 dX0_drop_25 rfl rfl ?_
      refine v_gR (Cn := RX0) (T := TX0) (N := 16) C hf in_X0 rfl (by decide) q707 rfl dX0_drop_26 (fun x7 hf => ?_)
      refine v_iload_n C 1 dX0_drop_29 rfl rfl ?_
      refine v_aaload C hf (by decide) rfl dX0_drop_30 (fun x8 hf => ?_)
      refine v_callV (stk := fun b => .int b :: []) C (ct_X10_size _ x8) rfl ⟨rfl, nd_X10_size⟩ rfl (Nat.le_of_ble_eq_true rfl) (Nat.le_of_ble_eq_true rfl) [] (Nat.le_of_ble_eq_true rfl) (fun _ => rfl) rfl q1655 q1656 q1657 q118 q1658 hf hl dX0_drop_31 (fun x9 h10 hf => ?_)
      refine v_istore_n (ls' := [(2, _), (0, _), (1, _)]) C dX0_drop_34 rfl (by decide) rfl ?_
      refine v_aload_n C 1 dX0_drop_35 rfl rfl ?_
      refine v_gR (Cn := RX0) (T := TX0) (N := 16) C hf in_X0 rfl (by decide) q707 rfl dX0_drop_36 (fun x11 hf => ?_)
      refine v_iload_n C 2 dX0_drop_39 rfl rfl ?_
      refine v_aaload C hf (by decide) rfl dX0_drop_40 (fun x12 hf => ?_)
      refine v_null C dX0_drop_41 ?_
      refine v_putvN (Cn := RX10) (T := TX10) (N := 1) (ty0 := tyX10) C hf in_X10 tyX10_ok nmX10 rfl (by decide) q509 rfl rfl (by cases (none) <;> rfl) (by cases (none) <;> rfl) dX0_drop_42 (fun h13 hf => ?_)
      refine v_iload_n C 0 dX0_drop_45 rfl rfl ?_
      exact v_iret C E hf dX0_drop_46
    · refine v_bipush (x := (-11)) C dX0_drop_22 (by decide) ?_
      exact v_iret C E hf dX0_drop_24
  · refine v_iconst (x := (-1)) C dX0_drop_8 (by decide) ?_
    exact v_iret C E hf dX0_drop_9
def l_X1_layBasics_86 (a0 : Nat) (a1 : Nat) (i2 : Int32) (a4 : Nat) (i5 : Int32) : Nat → Int32 → Int32 → hM (Int32)
  | 0, _, _ => mfail
  | n + 1, i3, i6 => mi (i5 ≤ i6) (mret i3) (mb (aI 1 a4 i6) fun x15 => mb (f_J0_floorMod (x15 - i2) (23 : Int32)) fun x16 => l_X1_layBasics_86 a0 a1 i2 a4 i5 n (i3 ||| ((1 : Int32) <<< (x16 &&& 31))) (i6 + (1 : Int32)))
def l_X1_layBasics_66 (a0 : Nat) (a1 : Nat) : Nat → Int32 → hM (Unit)
  | 0, _ => mfail
  | n + 1, i2 => mi ((12 : Int32) ≤ i2) (mret ()) (mb (alen 1 a1) fun x14 => mb (l_X1_layBasics_86 a0 a1 i2 a1 x14 FU (8388608 : Int32) (0 : Int32)) fun x18 => mb (gR a0 1 0) fun x20 => mb (sI 1 x20 i2 x18) fun _ => l_X1_layBasics_66 a0 a1 n (i2 + (1 : Int32)))
def l_X1_layBasics_146 (a0 : Nat) (i2 : Int32) : Nat → Int32 → Int32 → hM (Int32)
  | 0, _, _ => mfail
  | n + 1, i3, i4 => mi ((12 : Int32) ≤ i4) (mret i3) (mb (gR a0 1 0) fun x24 => mb (aI 1 x24 i4) fun x25 => mb (f_X0_has x25 i2) fun x26 => mb (mi (x26 = 0) (mret (0 : Int32)) (mret ((1 : Int32) <<< (i4 &&& 31)))) fun x28 => l_X1_layBasics_146 a0 i2 n (i3 ||| x28) (i4 + (1 : Int32)))
def l_X1_layBasics_135 (a0 : Nat) : Nat → Int32 → hM (Unit)
  | 0, _ => mfail
  | n + 1, i2 => mi ((24 : Int32) ≤ i2) (mret ()) (mb (l_X1_layBasics_146 a0 i2 FU (0 : Int32) (0 : Int32)) fun x30 => mb (gR a0 1 5) fun x32 => mb (sI 1 x32 i2 x30) fun _ => l_X1_layBasics_135 a0 n (i2 + (1 : Int32)))
def f_X1_layBasics (a0 : Nat) : hM Unit :=
  mb (newA 1 (11 : Int32)) fun x1 => mb (sI 1 x1 (0 : Int32) (5 : Int32)) fun _ => mb (sI 1 x1 (1 : Int32) (7 : Int32)) fun _ => mb (sI 1 x1 (2 : Int32) (10 : Int32)) fun _ => mb (sI 1 x1 (3 : Int32) (11 : Int32)) fun _ => mb (sI 1 x1 (4 : Int32) (14 : Int32)) fun _ => mb (sI 1 x1 (5 : Int32) (15 : Int32)) fun _ => mb (sI 1 x1 (6 : Int32) (17 : Int32)) fun _ => mb (sI 1 x1 (7 : Int32) (19 : Int32)) fun _ => mb (sI 1 x1 (8 : Int32) (20 : Int32)) fun _ => mb (sI 1 x1 (9 : Int32) (21 : Int32)) fun _ => mb (sI 1 x1 (10 : Int32) (22 : Int32)) fun _ => mb (l_X1_layBasics_66 a0 x1 FU (0 : Int32)) fun x22 => mb (l_X1_layBasics_135 a0 FU (0 : Int32)) fun x34 => mret ()
theorem nd_X1_layBasics : yX1_layBasics.cls ≠ "java/lang/invoke/MethodHandle" ∧ yX1_layBasics.cls ≠ "java/lang/invoke/VarHandle" ∧ (parseMethodDescriptor yX1_layBasics.desc).map (fun d => d.parameters.length) = some 0 := by decide +kernel
set_option maxHeartbeats 4000000 in
theorem ct_X1_layBasics (l : Launch) (a0 : Nat) : CT l yX1_layBasics cX1_layBasics 8 none 1 22 rv0 [.ref a0] (f_X1_layBasics a0) := by
  refine CT_of (ls := [(0, .ref a0)]) (by decide) (Nat.le_of_ble_eq_true rfl) rfl ?_
  intro X h he z hX hf C E hnm hh
  have hl := hle.rf he
  subst hX
  have L86 : ∀ (a0 : Nat) (a1 : Nat) (i2 : Int32) (a4 : Nat) (i5 : Int32) (n : Nat) (i3 : Int32) (i6 : Int32) (h h1 : Hp) (o : Int32), (l_X1_layBasics_86 a0 a1 i2 a4 i5 n i3 i6).1 h = some (o, h1) → hle h1 he → V X h1 120 [(0, .ref a0), (1, .ref a1), (2, .int i2), (3, .int o)] [] → V X h 86 [(0, .ref a0), (1, .ref a1), (2, .int i2), (3, .int i3), (4, .ref a4), (5, .int i5), (6, .int i6)] [] := by
    intro a0 a1 i2 a4 i5 n
    induction n with
    | zero => intro i3 i6 h h1 o hf; exact mfail_inv hf
    | succ n ih =>
      intro i3 i6 h h1 o hf hl J
      rw [l_X1_layBasics_86] at hf
      refine v_iload C 6 dX1_layBasics_86 rfl ?_
      refine v_iload C 5 dX1_layBasics_88 rfl ?_
      refine v_icmp_ge C hf (tgt := 120) dX1_layBasics_90 (by decide) (fun c90 hf => ?_) (fun c90 hf => ?_)
      · obtain ⟨e1, rfl⟩ := mret_inv hf
        subst e1
        exact v_sub (ls' := _) [0, 1, 2, 3] rfl J
      · refine v_aload C 4 dX1_layBasics_93 rfl ?_
        refine v_iload C 6 dX1_layBasics_95 rfl ?_
        refine v_iaload C hf dX1_layBasics_97 (fun x15 hf => ?_)
        refine v_istore (ls' := [(7, _), (0, _), (1, _), (2, _), (3, _), (4, _), (5, _), (6, _)]) C dX1_layBasics_98 (by decide) rfl ?_
        refine v_iload_n C 4 dX1_layBasics_100 rfl rfl ?_
        refine v_iconst (x := 1) C dX1_layBasics_101 (by decide) ?_
        refine v_iload C 0 dX1_layBasics_102 rfl ?_
        refine v_iload_n C 3 dX1_layBasics_104 rfl rfl ?_
        refine v_isub C dX1_layBasics_105 ?_
        refine v_bipush (x := 23) C dX1_layBasics_106 (by decide) ?_
        refine v_callS (stk := fun b => .int b :: [.int (1 : Int32), .int i3]) C (ct_J0_floorMod _ (x15 - i2) (23 : Int32)) nd_J0_floorMod rfl (Nat.le_of_ble_eq_true rfl) (Nat.le_of_ble_eq_true rfl) [.int (1 : Int32), .int i3] (Nat.le_of_ble_eq_true rfl) (fun _ => rfl) rfl q160 q161 q98 q162 hf hl dX1_layBasics_108 (fun x16 h17 hf => ?_)
        refine v_ishl C dX1_layBasics_111 ?_
        refine v_ior C dX1_layBasics_112 ?_
        refine v_istore_n (ls' := [(3, _), (7, _), (0, _), (1, _), (2, _), (4, _), (5, _), (6, _)]) C dX1_layBasics_113 rfl (by decide) rfl ?_
        refine v_iinc (ls' := [(6, _), (3, _), (7, _), (0, _), (1, _), (2, _), (4, _), (5, _)]) (y := i6 + (1 : Int32)) C 7 dX1_layBasics_114 rfl rfl (by decide) rfl ?_
        refine v_goto (tgt := 86) C dX1_layBasics_117 (by decide) ?_
        refine v_sub (ls' := _) [3, 4, 5, 1, 6, 7, 0] rfl (ih (i3 ||| ((1 : Int32) <<< (x16 &&& 31))) (i6 + (1 : Int32)) _ _ _ hf hl J)
  have L66 : ∀ (a0 : Nat) (a1 : Nat) (n : Nat) (i2 : Int32) (h h1 : Hp) (o : Unit), (l_X1_layBasics_66 a0 a1 n i2).1 h = some (o, h1) → hle h1 he → V X h1 133 [(0, .ref a0)] [] → V X h 66 [(0, .ref a0), (1, .ref a1), (2, .int i2)] [] := by
    intro a0 a1 n
    induction n with
    | zero => intro i2 h h1 o hf; exact mfail_inv hf
    | succ n ih =>
      intro i2 h h1 o hf hl J
      rw [l_X1_layBasics_66] at hf
      refine v_iload_n C 2 dX1_layBasics_66 rfl rfl ?_
      refine v_bipush (x := 12) C dX1_layBasics_67 (by decide) ?_
      refine v_icmp_ge C hf (tgt := 133) dX1_layBasics_69 (by decide) (fun c69 hf => ?_) (fun c69 hf => ?_)
      · obtain ⟨e1, rfl⟩ := mret_inv hf
        subst e1
        exact v_sub (ls' := _) [0] rfl J
      · refine v_ldc (x := 8388608) C q159 dX1_layBasics_72 ?_
        refine v_istore_n (ls' := [(3, _), (0, _), (1, _), (2, _)]) C dX1_layBasics_74 rfl (by decide) rfl ?_
        refine v_aload_n C 2 dX1_layBasics_75 rfl rfl ?_
        refine v_astore (ls' := [(4, _), (3, _), (0, _), (1, _), (2, _)]) C dX1_layBasics_76 (by decide) rfl ?_
        refine v_aload C 0 dX1_layBasics_78 rfl ?_
        refine v_alen C hf (by decide) dX1_layBasics_80 (fun x14 hf => ?_)
        refine v_istore (ls' := [(5, _), (4, _), (3, _), (0, _), (1, _), (2, _)]) C dX1_layBasics_81 (by decide) rfl ?_
        refine v_iconst (x := 0) C dX1_layBasics_83 (by decide) ?_
        refine v_istore (ls' := [(6, _), (5, _), (4, _), (3, _), (0, _), (1, _), (2, _)]) C dX1_layBasics_84 (by decide) rfl ?_
        obtain ⟨x18, h19, eh19, hf, hlh19⟩ := mb_inv hf hl
        refine v_sub (ls' := _) [4, 5, 6, 3, 2, 1, 0] rfl (L86 a0 a1 i2 a1 x14 FU (8388608 : Int32) (0 : Int32) _ _ _ eh19 hlh19 ?_)
        refine v_aload_n C 0 dX1_layBasics_120 rfl rfl ?_
        refine v_gR (Cn := RX1) (T := TX1) (N := 10) C hf in_X1 rfl (by decide) q194 rfl dX1_layBasics_121 (fun x20 hf => ?_)
        refine v_iload_n C 2 dX1_layBasics_124 rfl rfl ?_
        refine v_iload_n C 3 dX1_layBasics_125 rfl rfl ?_
        refine v_iastore C hf dX1_layBasics_126 (fun h21 hf => ?_)
        refine v_iinc (ls' := [(2, _), (0, _), (1, _), (3, _)]) (y := i2 + (1 : Int32)) C 2 dX1_layBasics_127 rfl rfl (by decide) rfl ?_
        refine v_goto (tgt := 66) C dX1_layBasics_130 (by decide) ?_
        refine v_sub (ls' := _) [1, 2, 0] rfl (ih (i2 + (1 : Int32)) _ _ _ hf hl J)
  have L146 : ∀ (a0 : Nat) (i2 : Int32) (n : Nat) (i3 : Int32) (i4 : Int32) (h h1 : Hp) (o : Int32), (l_X1_layBasics_146 a0 i2 n i3 i4).1 h = some (o, h1) → hle h1 he → V X h1 184 [(0, .ref a0), (2, .int i2), (3, .int o)] [] → V X h 146 [(0, .ref a0), (2, .int i2), (3, .int i3), (4, .int i4)] [] := by
    intro a0 i2 n
    induction n with
    | zero => intro i3 i4 h h1 o hf; exact mfail_inv hf
    | succ n ih =>
      intro i3 i4 h h1 o hf hl J
      rw [l_X1_layBasics_146] at hf
      refine v_iload C 3 dX1_layBasics_146 rfl ?_
      refine v_bipush (x := 12) C dX1_layBasics_148 (by decide) ?_
      refine v_icmp_ge C hf (tgt := 184) dX1_layBasics_150 (by decide) (fun c150 hf => ?_) (fun c150 hf => ?_)
      · obtain ⟨e1, rfl⟩ := mret_inv hf
        subst e1
        exact v_sub (ls' := _) [0, 1, 2] rfl J
      · refine v_iload_n C 2 dX1_layBasics_153 rfl rfl ?_
        refine v_aload_n C 0 dX1_layBasics_154 rfl rfl ?_
        refine v_gR (Cn := RX1) (T := TX1) (N := 10) C hf in_X1 rfl (by decide) q194 rfl dX1_layBasics_155 (fun x24 hf => ?_)
        refine v_iload C 3 dX1_layBasics_158 rfl ?_
        refine v_iaload C hf dX1_layBasics_160 (fun x25 hf => ?_)
        refine v_iload_n C 1 dX1_layBasics_161 rfl rfl ?_
        refine v_callSN (stk := fun b => .int b :: [.int i3]) C (ct_X0_has _ x25 i2) nd_X0_has rfl (Nat.le_of_ble_eq_true rfl) (Nat.le_of_ble_eq_true rfl) [.int i3] (Nat.le_of_ble_eq_true rfl) (fun _ => rfl) rfl q163 q164 q96 q165 hf hl dX1_layBasics_162 (fun x26 h27 hf => ?_)
        obtain ⟨x28, h29, hAh29, hf, hlh29⟩ := mb_inv hf hl
        refine v_cut (h1 := h29) (pc1 := 176) (ls1 := [(0, .ref a0), (2, .int i2), (4, .int i4)]) (st1 := [.int x28, .int i3]) ?_ (fun Jh29 => ?_)
        · clear hAh29 hlh29
          refine v_ior C dX1_layBasics_176 ?_
          refine v_istore_n (ls' := [(3, _), (0, _), (2, _), (4, _)]) C dX1_layBasics_177 rfl (by decide) rfl ?_
          refine v_iinc (ls' := [(4, _), (3, _), (0, _), (2, _)]) (y := i4 + (1 : Int32)) C 3 dX1_layBasics_178 rfl rfl (by decide) rfl ?_
          refine v_goto (tgt := 146) C dX1_layBasics_181 (by decide) ?_
          refine v_sub (ls' := _) [2, 3, 1, 0] rfl (ih (i3 ||| x28) (i4 + (1 : Int32)) _ _ _ hf hl J)
        · clear hf
          have hf := hAh29
          have hl := hlh29
          refine v_if_eq C hf (tgt := 175) dX1_layBasics_165 (by decide) (fun c165 hf => ?_) (fun c165 hf => ?_)
          · refine v_iconst (x := 0) C dX1_layBasics_175 (by decide) ?_
            obtain ⟨e1, rfl⟩ := mret_inv hf
            subst e1
            exact v_sub (ls' := _) [0, 1, 3] rfl Jh29
          · refine v_iconst (x := 1) C dX1_layBasics_168 (by decide) ?_
            refine v_iload C 3 dX1_layBasics_169 rfl ?_
            refine v_ishl C dX1_layBasics_171 ?_
            refine v_goto (tgt := 176) C dX1_layBasics_172 (by decide) ?_
            obtain ⟨e1, rfl⟩ := mret_inv hf
            subst e1
            exact v_sub (ls' := _) [0, 1, 3] rfl Jh29
  have L135 : ∀ (a0 : Nat) (n : Nat) (i2 : Int32) (h h1 : Hp) (o : Unit), (l_X1_layBasics_135 a0 n i2).1 h = some (o, h1) → hle h1 he → V X h1 197 [] [] → V X h 135 [(0, .ref a0), (2, .int i2)] [] := by
    intro a0 n
    induction n with
    | zero => intro i2 h h1 o hf; exact mfail_inv hf
    | succ n ih =>
      intro i2 h h1 o hf hl J
      rw [l_X1_layBasics_135] at hf
      refine v_iload_n C 1 dX1_layBasics_135 rfl rfl ?_
      refine v_bipush (x := 24) C dX1_layBasics_136 (by decide) ?_
      refine v_icmp_ge C hf (tgt := 197) dX1_layBasics_138 (by decide) (fun c138 hf => ?_) (fun c138 hf => ?_)
      · obtain ⟨e1, rfl⟩ := mret_inv hf
        subst e1
        exact v_sub (ls' := _) [] rfl J
      · refine v_iconst (x := 0) C dX1_layBasics_141 (by decide) ?_
        refine v_istore_n (ls' := [(3, _), (0, _), (2, _)]) C dX1_layBasics_142 rfl (by decide) rfl ?_
        refine v_iconst (x := 0) C dX1_layBasics_143 (by decide) ?_
        refine v_istore (ls' := [(4, _), (3, _), (0, _), (2, _)]) C dX1_layBasics_144 (by decide) rfl ?_
        obtain ⟨x30, h31, eh31, hf, hlh31⟩ := mb_inv hf hl
        refine v_sub (ls' := _) [2, 3, 1, 0] rfl (L146 a0 i2 FU (0 : Int32) (0 : Int32) _ _ _ eh31 hlh31 ?_)
        refine v_aload_n C 0 dX1_layBasics_184 rfl rfl ?_
        refine v_gR (Cn := RX1) (T := TX1) (N := 10) C hf in_X1 rfl (by decide) q206 rfl dX1_layBasics_185 (fun x32 hf => ?_)
        refine v_iload_n C 1 dX1_layBasics_188 rfl rfl ?_
        refine v_iload_n C 2 dX1_layBasics_189 rfl rfl ?_
        refine v_iastore C hf dX1_layBasics_190 (fun h33 hf => ?_)
        refine v_iinc (ls' := [(2, _), (0, _), (3, _)]) (y := i2 + (1 : Int32)) C 1 dX1_layBasics_191 rfl rfl (by decide) rfl ?_
        refine v_goto (tgt := 135) C dX1_layBasics_194 (by decide) ?_
        refine v_sub (ls' := _) [1, 0] rfl (ih (i2 + (1 : Int32)) _ _ _ hf hl J)
  unfold f_X1_layBasics at hf
  refine v_bipush (x := 11) C dX1_layBasics_0 (by decide) ?_
  refine v_newarrayint C hf hl q234 dX1_layBasics_2 (fun x1 h2 hf => ?_)
  refine v_dup C dX1_layBasics_4 rfl ?_
  refine v_iconst (x := 0) C dX1_layBasics_5 (by decide) ?_
  refine v_iconst (x := 5) C dX1_layBasics_6 (by decide) ?_
  refine v_iastore C hf dX1_layBasics_7 (fun h3 hf => ?_)
  refine v_dup C dX1_layBasics_8 rfl ?_
  refine v_iconst (x := 1) C dX1_layBasics_9 (by decide) ?_
  refine v_bipush (x := 7) C dX1_layBasics_10 (by decide) ?_
  refine v_iastore C hf dX1_layBasics_12 (fun h4 hf => ?_)
  refine v_dup C dX1_layBasics_13 rfl ?_
  refine v_iconst (x := 2) C dX1_layBasics_14 (by decide) ?_
  refine v_bipush (x := 10) C dX1_layBasics_15 (by decide) ?_
  refine v_iastore C hf dX1_layBasics_17 (fun h5 hf => ?_)
  refine v_dup C dX1_layBasics_18 rfl ?_
  refine v_iconst (x := 3) C dX1_layBasics_19 (by decide) ?_
  refine v_bipush (x := 11) C dX1_layBasics_20 (by decide) ?_
  refine v_iastore C hf dX1_layBasics_22 (fun h6 hf => ?_)
  refine v_dup C dX1_layBasics_23 rfl ?_
  refine v_iconst (x := 4) C dX1_layBasics_24 (by decide) ?_
  refine v_bipush (x := 14) C dX1_layBasics_25 (by decide) ?_
  refine v_iastore C hf dX1_layBasics_27 (fun h7 hf => ?_)
  refine v_dup C dX1_layBasics_28 rfl ?_
  refine v_iconst (x := 5) C dX1_layBasics_29 (by decide) ?_
  refine v_bipush (x := 15) C dX1_layBasics_30 (by decide) ?_
  refine v_iastore C hf dX1_layBasics_32 (fun h8 hf => ?_)
  refine v_dup C dX1_layBasics_33 rfl ?_
  refine v_bipush (x := 6) C dX1_layBasics_34 (by decide) ?_
  refine v_bipush (x := 17) C dX1_layBasics_36 (by decide) ?_
  refine v_iastore C hf dX1_layBasics_38 (fun h9 hf => ?_)
  refine v_dup C dX1_layBasics_39 rfl ?_
  refine v_bipush (x := 7) C dX1_layBasics_40 (by decide) ?_
  refine v_bipush (x := 19) C dX1_layBasics_42 (by decide) ?_
  refine v_iastore C hf dX1_layBasics_44 (fun h10 hf => ?_)
  refine v_dup C dX1_layBasics_45 rfl ?_
  refine v_bipush (x := 8) C dX1_layBasics_46 (by decide) ?_
  refine v_bipush (x := 20) C dX1_layBasics_48 (by decide) ?_
  refine v_iastore C hf dX1_layBasics_50 (fun h11 hf => ?_)
  refine v_dup C dX1_layBasics_51 rfl ?_
  refine v_bipush (x := 9) C dX1_layBasics_52 (by decide) ?_
  refine v_bipush (x := 21) C dX1_layBasics_54 (by decide) ?_
  refine v_iastore C hf dX1_layBasics_56 (fun h12 hf => ?_)
  refine v_dup C dX1_layBasics_57 rfl ?_
  refine v_bipush (x := 10) C dX1_layBasics_58 (by decide) ?_
  refine v_bipush (x := 22) C dX1_layBasics_60 (by decide) ?_
  refine v_iastore C hf dX1_layBasics_62 (fun h13 hf => ?_)
  refine v_astore_n (ls' := [(1, _), (0, _)]) C dX1_layBasics_63 rfl (by decide) rfl ?_
  refine v_iconst (x := 0) C dX1_layBasics_64 (by decide) ?_
  refine v_istore_n (ls' := [(2, _), (1, _), (0, _)]) C dX1_layBasics_65 rfl (by decide) rfl ?_
  obtain ⟨x22, h23, eh23, hf, hlh23⟩ := mb_inv hf hl
  refine v_sub (ls' := _) [2, 1, 0] rfl (L66 a0 x1 FU (0 : Int32) _ _ _ eh23 hlh23 ?_)
  refine v_iconst (x := 0) C dX1_layBasics_133 (by decide) ?_
  refine v_istore_n (ls' := [(2, _), (0, _)]) C dX1_layBasics_134 rfl (by decide) rfl ?_
  obtain ⟨x34, h35, eh35, hf, hlh35⟩ := mb_inv hf hl
  refine v_sub (ls' := _) [1, 0] rfl (L135 a0 FU (0 : Int32) _ _ _ eh35 hlh35 ?_)
  exact v_vret C E hf dX1_layBasics_197
def l_X1_layRows_2 (a0 : Nat) : Nat → Int32 → hM (Unit)
  | 0, _ => mfail
  | n + 1, i1 => mi ((12 : Int32) ≤ i1) (mret ()) (mb (gR a0 1 7) fun x1 => mb (gR a0 1 0) fun x2 => mb (aI 1 x2 i1) fun x3 => mb (sI 1 x1 i1 x3) fun _ => mb (gR a0 1 9) fun x5 => mb (sI 1 x5 i1 ((1 : Int32) <<< (i1 &&& 31))) fun _ => l_X1_layRows_2 a0 n (i1 + (1 : Int32)))
def l_X1_layRows_51 (a0 : Nat) (i1 : Int32) (i2 : Int32) : Nat → Int32 → hM (Int32)
  | 0, _ => mfail
  | n + 1, i3 => mi (i3 < 0) (mret i3) (mb (gR a0 1 7) fun x9 => mb (aI 1 x9 i3) fun x10 => mb (f_X0_has x10 i2) fun x11 => mi (¬ x11 = 0) (mret i3) (l_X1_layRows_51 a0 i1 i2 n (i3 + (-1 : Int32))))
def l_X1_layRows_41 (a0 : Nat) : Nat → Int32 → Int32 → hM (Unit)
  | 0, _, _ => mfail
  | n + 1, i1, i2 => mi (i2 < 0) (mret ()) (mi (i1 < 0) (mret ()) (mb (l_X1_layRows_51 a0 i1 i2 FU i1) fun x13 => mb (mi (x13 < 0) (mret i1) (mb (mat a0 1 (f_X1_lead a0 x13 i1 i2)) fun _ => mret (i1 + (-1 : Int32)))) fun x15 => l_X1_layRows_41 a0 n x15 (i2 + (-1 : Int32))))
def f_X1_layRows (a0 : Nat) : hM Unit :=
  mb (l_X1_layRows_2 a0 FU (0 : Int32)) fun x7 => mb (l_X1_layRows_41 a0 FU (11 : Int32) (23 : Int32)) fun x19 => mret ()
theorem nd_X1_layRows : yX1_layRows.cls ≠ "java/lang/invoke/MethodHandle" ∧ yX1_layRows.cls ≠ "java/lang/invoke/VarHandle" ∧ (parseMethodDescriptor yX1_layRows.desc).map (fun d => d.parameters.length) = some 0 := by decide +kernel
set_option maxHeartbeats 4000000 in
theorem ct_X1_layRows (l : Launch) (a0 : Nat) : CT l yX1_layRows cX1_layRows 4 none 2 47 rv0 [.ref a0] (f_X1_layRows a0) := by
  refine CT_of (ls := [(0, .ref a0)]) (by decide) (Nat.le_of_ble_eq_true rfl) rfl ?_
  intro X h he z hX hf C E hnm hh
  have hl := hle.rf he
  subst hX
  have L2 : ∀ (a0 : Nat) (n : Nat) (i1 : Int32) (h h1 : Hp) (o : Unit), (l_X1_layRows_2 a0 n i1).1 h = some (o, h1) → hle h1 he → V X h1 35 [(0, .ref a0)] [] → V X h 2 [(0, .ref a0), (1, .int i1)] [] := by
    intro a0 n
    induction n with
    | zero => intro i1 h h1 o hf; exact mfail_inv hf
    | succ n ih =>
      intro i1 h h1 o hf hl J
      rw [l_X1_layRows_2] at hf
      refine v_iload_n C 1 dX1_layRows_2 rfl rfl ?_
      refine v_bipush (x := 12) C dX1_layRows_3 (by decide) ?_
      refine v_icmp_ge C hf (tgt := 35) dX1_layRows_5 (by decide) (fun c5 hf => ?_) (fun c5 hf => ?_)
      · obtain ⟨e1, rfl⟩ := mret_inv hf
        subst e1
        exact v_sub (ls' := _) [0] rfl J
      · refine v_aload_n C 0 dX1_layRows_8 rfl rfl ?_
        refine v_gR (Cn := RX1) (T := TX1) (N := 10) C hf in_X1 rfl (by decide) q210 rfl dX1_layRows_9 (fun x1 hf => ?_)
        refine v_iload_n C 1 dX1_layRows_12 rfl rfl ?_
        refine v_aload_n C 0 dX1_layRows_13 rfl rfl ?_
        refine v_gR (Cn := RX1) (T := TX1) (N := 10) C hf in_X1 rfl (by decide) q194 rfl dX1_layRows_14 (fun x2 hf => ?_)
        refine v_iload_n C 1 dX1_layRows_17 rfl rfl ?_
        refine v_iaload C hf dX1_layRows_18 (fun x3 hf => ?_)
        refine v_iastore C hf dX1_layRows_19 (fun h4 hf => ?_)
        refine v_aload_n C 0 dX1_layRows_20 rfl rfl ?_
        refine v_gR (Cn := RX1) (T := TX1) (N := 10) C hf in_X1 rfl (by decide) q212 rfl dX1_layRows_21 (fun x5 hf => ?_)
        refine v_iload_n C 1 dX1_layRows_24 rfl rfl ?_
        refine v_iconst (x := 1) C dX1_layRows_25 (by decide) ?_
        refine v_iload_n C 1 dX1_layRows_26 rfl rfl ?_
        refine v_ishl C dX1_layRows_27 ?_
        refine v_iastore C hf dX1_layRows_28 (fun h6 hf => ?_)
        refine v_iinc (ls' := [(1, _), (0, _)]) (y := i1 + (1 : Int32)) C 1 dX1_layRows_29 rfl rfl (by decide) rfl ?_
        refine v_goto (tgt := 2) C dX1_layRows_32 (by decide) ?_
        refine v_sub (ls' := _) [1, 0] rfl (ih (i1 + (1 : Int32)) _ _ _ hf hl J)
  have L51 : ∀ (a0 : Nat) (i1 : Int32) (i2 : Int32) (n : Nat) (i3 : Int32) (h h1 : Hp) (o : Int32), (l_X1_layRows_51 a0 i1 i2 n i3).1 h = some (o, h1) → hle h1 he → V X h1 74 [(0, .ref a0), (1, .int i1), (2, .int i2), (3, .int o)] [] → V X h 51 [(0, .ref a0), (1, .int i1), (2, .int i2), (3, .int i3)] [] := by
    intro a0 i1 i2 n
    induction n with
    | zero => intro i3 h h1 o hf; exact mfail_inv hf
    | succ n ih =>
      intro i3 h h1 o hf hl J
      rw [l_X1_layRows_51] at hf
      refine v_iload_n C 3 dX1_layRows_51 rfl rfl ?_
      refine v_if_lt C hf (tgt := 74) dX1_layRows_52 (by decide) (fun c52 hf => ?_) (fun c52 hf => ?_)
      · obtain ⟨e1, rfl⟩ := mret_inv hf
        subst e1
        exact v_sub (ls' := _) [0, 1, 2, 3] rfl J
      · refine v_aload_n C 0 dX1_layRows_55 rfl rfl ?_
        refine v_gR (Cn := RX1) (T := TX1) (N := 10) C hf in_X1 rfl (by decide) q210 rfl dX1_layRows_56 (fun x9 hf => ?_)
        refine v_iload_n C 3 dX1_layRows_59 rfl rfl ?_
        refine v_iaload C hf dX1_layRows_60 (fun x10 hf => ?_)
        refine v_iload_n C 2 dX1_layRows_61 rfl rfl ?_
        refine v_callSN (stk := fun b => .int b :: []) C (ct_X0_has _ x10 i2) nd_X0_has rfl (Nat.le_of_ble_eq_true rfl) (Nat.le_of_ble_eq_true rfl) [] (Nat.le_of_ble_eq_true rfl) (fun _ => rfl) rfl q163 q164 q96 q165 hf hl dX1_layRows_62 (fun x11 h12 hf => ?_)
        refine v_if_ne C hf (tgt := 74) dX1_layRows_65 (by decide) (fun c65 hf => ?_) (fun c65 hf => ?_)
        · obtain ⟨e1, rfl⟩ := mret_inv hf
          subst e1
          exact v_sub (ls' := _) [0, 1, 2, 3] rfl J
        · refine v_iinc (ls' := [(3, _), (0, _), (1, _), (2, _)]) (y := i3 + (-1 : Int32)) C 3 dX1_layRows_68 rfl rfl (by decide) rfl ?_
          refine v_goto (tgt := 51) C dX1_layRows_71 (by decide) ?_
          refine v_sub (ls' := _) [1, 2, 3, 0] rfl (ih (i3 + (-1 : Int32)) _ _ _ hf hl J)
  have L41 : ∀ (a0 : Nat) (n : Nat) (i1 : Int32) (i2 : Int32) (h h1 : Hp) (o : Unit), (l_X1_layRows_41 a0 n i1 i2).1 h = some (o, h1) → hle h1 he → V X h1 94 [] [] → V X h 41 [(0, .ref a0), (1, .int i1), (2, .int i2)] [] := by
    intro a0 n
    induction n with
    | zero => intro i1 i2 h h1 o hf; exact mfail_inv hf
    | succ n ih =>
      intro i1 i2 h h1 o hf hl J
      rw [l_X1_layRows_41] at hf
      refine v_iload_n C 2 dX1_layRows_41 rfl rfl ?_
      refine v_if_lt C hf (tgt := 94) dX1_layRows_42 (by decide) (fun c42 hf => ?_) (fun c42 hf => ?_)
      · obtain ⟨e1, rfl⟩ := mret_inv hf
        subst e1
        exact v_sub (ls' := _) [] rfl J
      · refine v_iload_n C 1 dX1_layRows_45 rfl rfl ?_
        refine v_if_lt C hf (tgt := 94) dX1_layRows_46 (by decide) (fun c46 hf => ?_) (fun c46 hf => ?_)
        · obtain ⟨e1, rfl⟩ := mret_inv hf
          subst e1
          exact v_sub (ls' := _) [] rfl J
        · refine v_iload_n C 1 dX1_layRows_49 rfl rfl ?_
          refine v_istore_n (ls' := [(3, _), (0, _), (1, _), (2, _)]) C dX1_layRows_50 rfl (by decide) rfl ?_
          obtain ⟨x13, h14, eh14, hf, hlh14⟩ := mb_inv hf hl
          refine v_sub (ls' := _) [1, 2, 3, 0] rfl (L51 a0 i1 i2 FU i1 _ _ _ eh14 hlh14 ?_)
          refine v_iload_n C 3 dX1_layRows_74 rfl rfl ?_
          obtain ⟨x15, h16, hAh16, hf, hlh16⟩ := mb_inv hf hl
          refine v_cut (h1 := h16) (pc1 := 88) (ls1 := [(0, .ref a0), (1, .int x15), (2, .int i2)]) (st1 := []) ?_ (fun Jh16 => ?_)
          · clear hAh16 hlh16
            refine v_iinc (ls' := [(2, _), (0, _), (1, _)]) (y := i2 + (-1 : Int32)) C 2 dX1_layRows_88 rfl rfl (by decide) rfl ?_
            refine v_goto (tgt := 41) C dX1_layRows_91 (by decide) ?_
            refine v_sub (ls' := _) [1, 2, 0] rfl (ih x15 (i2 + (-1 : Int32)) _ _ _ hf hl J)
          · clear hf
            have hf := hAh16
            have hl := hlh16
            refine v_if_lt C hf (tgt := 88) dX1_layRows_75 (by decide) (fun c75 hf => ?_) (fun c75 hf => ?_)
            · obtain ⟨e1, rfl⟩ := mret_inv hf
              subst e1
              exact v_sub (ls' := _) [0, 1, 2] rfl Jh16
            · refine v_aload_n C 0 dX1_layRows_78 rfl rfl ?_
              refine v_iload_n C 3 dX1_layRows_79 rfl rfl ?_
              refine v_iload_n C 1 dX1_layRows_80 rfl rfl ?_
              refine v_iload_n C 2 dX1_layRows_81 rfl rfl ?_
              refine v_callV (stk := fun _ => []) C (ct_X1_lead _ a0 x13 i1 i2) rfl ⟨rfl, nd_X1_lead⟩ rfl (Nat.le_of_ble_eq_true rfl) (Nat.le_of_ble_eq_true rfl) [] (Nat.le_of_ble_eq_true rfl) (fun _ => rfl) rfl q170 q172 qs2 q97 q173 hf hl dX1_layRows_82 (fun x17 h18 hf => ?_)
              refine v_iinc (ls' := [(1, _), (0, _), (2, _), (3, _)]) (y := i1 + (-1 : Int32)) C 1 dX1_layRows_85 rfl rfl (by decide) rfl ?_
              obtain ⟨e1, rfl⟩ := mret_inv hf
              subst e1
              exact v_sub (ls' := _) [1, 0, 2] rfl Jh16
  unfold f_X1_layRows at hf
  refine v_iconst (x := 0) C dX1_layRows_0 (by decide) ?_
  refine v_istore_n (ls' := [(1, _), (0, _)]) C dX1_layRows_1 rfl (by decide) rfl ?_
  obtain ⟨x7, h8, eh8, hf, hlh8⟩ := mb_inv hf hl
  refine v_sub (ls' := _) [1, 0] rfl (L2 a0 FU (0 : Int32) _ _ _ eh8 hlh8 ?_)
  refine v_bipush (x := 11) C dX1_layRows_35 (by decide) ?_
  refine v_istore_n (ls' := [(1, _), (0, _)]) C dX1_layRows_37 rfl (by decide) rfl ?_
  refine v_bipush (x := 23) C dX1_layRows_38 (by decide) ?_
  refine v_istore_n (ls' := [(2, _), (1, _), (0, _)]) C dX1_layRows_40 rfl (by decide) rfl ?_
  obtain ⟨x19, h20, eh20, hf, hlh20⟩ := mb_inv hf hl
  refine v_sub (ls' := _) [2, 1, 0] rfl (L41 a0 FU (11 : Int32) (23 : Int32) _ _ _ eh20 hlh20 ?_)
  exact v_vret C E hf dX1_layRows_94
def l_X1_layLeaders_77 (a0 : Nat) (i1 : Int32) (i2 : Int32) : Nat → Int32 → hM (Unit)
  | 0, _ => mfail
  | n + 1, i3 => mi ((24 : Int32) ≤ i3) (mret ()) (mb (gR a0 1 6) fun x16 => mb (gR a0 1 5) fun x17 => mb (aI 1 x17 i1) fun x18 => mb (gR a0 1 5) fun x19 => mb (aI 1 x19 i2) fun x20 => mb (gR a0 1 5) fun x21 => mb (aI 1 x21 i3) fun x22 => mb (sI 1 x16 ((x18 ^^^ x20) ^^^ x22) ((((1 : Int32) <<< (i1 &&& 31)) ||| ((1 : Int32) <<< (i2 &&& 31))) ||| ((1 : Int32) <<< (i3 &&& 31)))) fun _ => l_X1_layLeaders_77 a0 i1 i2 n (i3 + (1 : Int32)))
def l_X1_layLeaders_42 (a0 : Nat) (i1 : Int32) : Nat → Int32 → hM (Unit)
  | 0, _ => mfail
  | n + 1, i2 => mi ((24 : Int32) ≤ i2) (mret ()) (mb (gR a0 1 6) fun x10 => mb (gR a0 1 5) fun x11 => mb (aI 1 x11 i1) fun x12 => mb (gR a0 1 5) fun x13 => mb (aI 1 x13 i2) fun x14 => mb (sI 1 x10 (x12 ^^^ x14) (((1 : Int32) <<< (i1 &&& 31)) ||| ((1 : Int32) <<< (i2 &&& 31)))) fun _ => mb (l_X1_layLeaders_77 a0 i1 i2 FU (i2 + (1 : Int32))) fun x24 => l_X1_layLeaders_42 a0 i1 n (i2 + (1 : Int32)))
def l_X1_layLeaders_18 (a0 : Nat) : Nat → Int32 → hM (Unit)
  | 0, _ => mfail
  | n + 1, i1 => mi ((24 : Int32) ≤ i1) (mret ()) (mb (gR a0 1 6) fun x6 => mb (gR a0 1 5) fun x7 => mb (aI 1 x7 i1) fun x8 => mb (sI 1 x6 x8 ((1 : Int32) <<< (i1 &&& 31))) fun _ => mb (l_X1_layLeaders_42 a0 i1 FU (i1 + (1 : Int32))) fun x26 => l_X1_layLeaders_18 a0 n (i1 + (1 : Int32)))
def f_X1_layLeaders (a0 : Nat) : hM Unit :=
  mb (gR a0 1 6) fun x1 => mb (f_J2_fill x1 (-4 : Int32)) fun _ => mb (gR a0 1 6) fun x4 => mb (sI 1 x4 (0 : Int32) (0 : Int32)) fun _ => mb (l_X1_layLeaders_18 a0 FU (0 : Int32)) fun x28 => mret ()
theorem nd_X1_layLeaders : yX1_layLeaders.cls ≠ "java/lang/invoke/MethodHandle" ∧ yX1_layLeaders.cls ≠ "java/lang/invoke/VarHandle" ∧ (parseMethodDescriptor yX1_layLeaders.desc).map (fun d => d.parameters.length) = some 0 := by decide +kernel
set_option maxHeartbeats 4000000 in
theorem ct_X1_layLeaders (l : Launch) (a0 : Nat) : CT l yX1_layLeaders cX1_layLeaders 4 none 1 23 rv0 [.ref a0] (f_X1_layLeaders a0) := by
  refine CT_of (ls := [(0, .ref a0)]) (by decide) (Nat.le_of_ble_eq_true rfl) rfl ?_
  intro X h he z hX hf C E hnm hh
  have hl := hle.rf he
  subst hX
  have L77 : ∀ (a0 : Nat) (i1 : Int32) (i2 : Int32) (n : Nat) (i3 : Int32) (h h1 : Hp) (o : Unit), (l_X1_layLeaders_77 a0 i1 i2 n i3).1 h = some (o, h1) → hle h1 he → V X h1 125 [(0, .ref a0), (1, .int i1), (2, .int i2)] [] → V X h 77 [(0, .ref a0), (1, .int i1), (2, .int i2), (3, .int i3)] [] := by
    intro a0 i1 i2 n
    induction n with
    | zero => intro i3 h h1 o hf; exact mfail_inv hf
    | succ n ih =>
      intro i3 h h1 o hf hl J
      rw [l_X1_layLeaders_77] at hf
      refine v_iload_n C 3 dX1_layLeaders_77 rfl rfl ?_
      refine v_bipush (x := 24) C dX1_layLeaders_78 (by decide) ?_
      refine v_icmp_ge C hf (tgt := 125) dX1_layLeaders_80 (by decide) (fun c80 hf => ?_) (fun c80 hf => ?_)
      · obtain ⟨e1, rfl⟩ := mret_inv hf
        subst e1
        exact v_sub (ls' := _) [0, 1, 2] rfl J
      · refine v_aload_n C 0 dX1_layLeaders_83 rfl rfl ?_
        refine v_gR (Cn := RX1) (T := TX1) (N := 10) C hf in_X1 rfl (by decide) q207 rfl dX1_layLeaders_84 (fun x16 hf => ?_)
        refine v_aload_n C 0 dX1_layLeaders_87 rfl rfl ?_
        refine v_gR (Cn := RX1) (T := TX1) (N := 10) C hf in_X1 rfl (by decide) q206 rfl dX1_layLeaders_88 (fun x17 hf => ?_)
        refine v_iload_n C 1 dX1_layLeaders_91 rfl rfl ?_
        refine v_iaload C hf dX1_layLeaders_92 (fun x18 hf => ?_)
        refine v_aload_n C 0 dX1_layLeaders_93 rfl rfl ?_
        refine v_gR (Cn := RX1) (T := TX1) (N := 10) C hf in_X1 rfl (by decide) q206 rfl dX1_layLeaders_94 (fun x19 hf => ?_)
        refine v_iload_n C 2 dX1_layLeaders_97 rfl rfl ?_
        refine v_iaload C hf dX1_layLeaders_98 (fun x20 hf => ?_)
        refine v_ixor C dX1_layLeaders_99 ?_
        refine v_aload_n C 0 dX1_layLeaders_100 rfl rfl ?_
        refine v_gR (Cn := RX1) (T := TX1) (N := 10) C hf in_X1 rfl (by decide) q206 rfl dX1_layLeaders_101 (fun x21 hf => ?_)
        refine v_iload_n C 3 dX1_layLeaders_104 rfl rfl ?_
        refine v_iaload C hf dX1_layLeaders_105 (fun x22 hf => ?_)
        refine v_ixor C dX1_layLeaders_106 ?_
        refine v_iconst (x := 1) C dX1_layLeaders_107 (by decide) ?_
        refine v_iload_n C 1 dX1_layLeaders_108 rfl rfl ?_
        refine v_ishl C dX1_layLeaders_109 ?_
        refine v_iconst (x := 1) C dX1_layLeaders_110 (by decide) ?_
        refine v_iload_n C 2 dX1_layLeaders_111 rfl rfl ?_
        refine v_ishl C dX1_layLeaders_112 ?_
        refine v_ior C dX1_layLeaders_113 ?_
        refine v_iconst (x := 1) C dX1_layLeaders_114 (by decide) ?_
        refine v_iload_n C 3 dX1_layLeaders_115 rfl rfl ?_
        refine v_ishl C dX1_layLeaders_116 ?_
        refine v_ior C dX1_layLeaders_117 ?_
        refine v_iastore C hf dX1_layLeaders_118 (fun h23 hf => ?_)
        refine v_iinc (ls' := [(3, _), (0, _), (1, _), (2, _)]) (y := i3 + (1 : Int32)) C 3 dX1_layLeaders_119 rfl rfl (by decide) rfl ?_
        refine v_goto (tgt := 77) C dX1_layLeaders_122 (by decide) ?_
        refine v_sub (ls' := _) [1, 2, 3, 0] rfl (ih (i3 + (1 : Int32)) _ _ _ hf hl J)
  have L42 : ∀ (a0 : Nat) (i1 : Int32) (n : Nat) (i2 : Int32) (h h1 : Hp) (o : Unit), (l_X1_layLeaders_42 a0 i1 n i2).1 h = some (o, h1) → hle h1 he → V X h1 131 [(0, .ref a0), (1, .int i1)] [] → V X h 42 [(0, .ref a0), (1, .int i1), (2, .int i2)] [] := by
    intro a0 i1 n
    induction n with
    | zero => intro i2 h h1 o hf; exact mfail_inv hf
    | succ n ih =>
      intro i2 h h1 o hf hl J
      rw [l_X1_layLeaders_42] at hf
      refine v_iload_n C 2 dX1_layLeaders_42 rfl rfl ?_
      refine v_bipush (x := 24) C dX1_layLeaders_43 (by decide) ?_
      refine v_icmp_ge C hf (tgt := 131) dX1_layLeaders_45 (by decide) (fun c45 hf => ?_) (fun c45 hf => ?_)
      · obtain ⟨e1, rfl⟩ := mret_inv hf
        subst e1
        exact v_sub (ls' := _) [0, 1] rfl J
      · refine v_aload_n C 0 dX1_layLeaders_48 rfl rfl ?_
        refine v_gR (Cn := RX1) (T := TX1) (N := 10) C hf in_X1 rfl (by decide) q207 rfl dX1_layLeaders_49 (fun x10 hf => ?_)
        refine v_aload_n C 0 dX1_layLeaders_52 rfl rfl ?_
        refine v_gR (Cn := RX1) (T := TX1) (N := 10) C hf in_X1 rfl (by decide) q206 rfl dX1_layLeaders_53 (fun x11 hf => ?_)
        refine v_iload_n C 1 dX1_layLeaders_56 rfl rfl ?_
        refine v_iaload C hf dX1_layLeaders_57 (fun x12 hf => ?_)
        refine v_aload_n C 0 dX1_layLeaders_58 rfl rfl ?_
        refine v_gR (Cn := RX1) (T := TX1) (N := 10) C hf in_X1 rfl (by decide) q206 rfl dX1_layLeaders_59 (fun x13 hf => ?_)
        refine v_iload_n C 2 dX1_layLeaders_62 rfl rfl ?_
        refine v_iaload C hf dX1_layLeaders_63 (fun x14 hf => ?_)
        refine v_ixor C dX1_layLeaders_64 ?_
        refine v_iconst (x := 1) C dX1_layLeaders_65 (by decide) ?_
        refine v_iload_n C 1 dX1_layLeaders_66 rfl rfl ?_
        refine v_ishl C dX1_layLeaders_67 ?_
        refine v_iconst (x := 1) C dX1_layLeaders_68 (by decide) ?_
        refine v_iload_n C 2 dX1_layLeaders_69 rfl rfl ?_
        refine v_ishl C dX1_layLeaders_70 ?_
        refine v_ior C dX1_layLeaders_71 ?_
        refine v_iastore C hf dX1_layLeaders_72 (fun h15 hf => ?_)
        refine v_iload_n C 2 dX1_layLeaders_73 rfl rfl ?_
        refine v_iconst (x := 1) C dX1_layLeaders_74 (by decide) ?_
        refine v_iadd C dX1_layLeaders_75 ?_
        refine v_istore_n (ls' := [(3, _), (0, _), (1, _), (2, _)]) C dX1_layLeaders_76 rfl (by decide) rfl ?_
        obtain ⟨x24, h25, eh25, hf, hlh25⟩ := mb_inv hf hl
        refine v_sub (ls' := _) [1, 2, 3, 0] rfl (L77 a0 i1 i2 FU (i2 + (1 : Int32)) _ _ _ eh25 hlh25 ?_)
        refine v_iinc (ls' := [(2, _), (0, _), (1, _)]) (y := i2 + (1 : Int32)) C 2 dX1_layLeaders_125 rfl rfl (by decide) rfl ?_
        refine v_goto (tgt := 42) C dX1_layLeaders_128 (by decide) ?_
        refine v_sub (ls' := _) [1, 2, 0] rfl (ih (i2 + (1 : Int32)) _ _ _ hf hl J)
  have L18 : ∀ (a0 : Nat) (n : Nat) (i1 : Int32) (h h1 : Hp) (o : Unit), (l_X1_layLeaders_18 a0 n i1).1 h = some (o, h1) → hle h1 he → V X h1 137 [] [] → V X h 18 [(0, .ref a0), (1, .int i1)] [] := by
    intro a0 n
    induction n with
    | zero => intro i1 h h1 o hf; exact mfail_inv hf
    | succ n ih =>
      intro i1 h h1 o hf hl J
      rw [l_X1_layLeaders_18] at hf
      refine v_iload_n C 1 dX1_layLeaders_18 rfl rfl ?_
      refine v_bipush (x := 24) C dX1_layLeaders_19 (by decide) ?_
      refine v_icmp_ge C hf (tgt := 137) dX1_layLeaders_21 (by decide) (fun c21 hf => ?_) (fun c21 hf => ?_)
      · obtain ⟨e1, rfl⟩ := mret_inv hf
        subst e1
        exact v_sub (ls' := _) [] rfl J
      · refine v_aload_n C 0 dX1_layLeaders_24 rfl rfl ?_
        refine v_gR (Cn := RX1) (T := TX1) (N := 10) C hf in_X1 rfl (by decide) q207 rfl dX1_layLeaders_25 (fun x6 hf => ?_)
        refine v_aload_n C 0 dX1_layLeaders_28 rfl rfl ?_
        refine v_gR (Cn := RX1) (T := TX1) (N := 10) C hf in_X1 rfl (by decide) q206 rfl dX1_layLeaders_29 (fun x7 hf => ?_)
        refine v_iload_n C 1 dX1_layLeaders_32 rfl rfl ?_
        refine v_iaload C hf dX1_layLeaders_33 (fun x8 hf => ?_)
        refine v_iconst (x := 1) C dX1_layLeaders_34 (by decide) ?_
        refine v_iload_n C 1 dX1_layLeaders_35 rfl rfl ?_
        refine v_ishl C dX1_layLeaders_36 ?_
        refine v_iastore C hf dX1_layLeaders_37 (fun h9 hf => ?_)
        refine v_iload_n C 1 dX1_layLeaders_38 rfl rfl ?_
        refine v_iconst (x := 1) C dX1_layLeaders_39 (by decide) ?_
        refine v_iadd C dX1_layLeaders_40 ?_
        refine v_istore_n (ls' := [(2, _), (0, _), (1, _)]) C dX1_layLeaders_41 rfl (by decide) rfl ?_
        obtain ⟨x26, h27, eh27, hf, hlh27⟩ := mb_inv hf hl
        refine v_sub (ls' := _) [1, 2, 0] rfl (L42 a0 i1 FU (i1 + (1 : Int32)) _ _ _ eh27 hlh27 ?_)
        refine v_iinc (ls' := [(1, _), (0, _)]) (y := i1 + (1 : Int32)) C 1 dX1_layLeaders_131 rfl rfl (by decide) rfl ?_
        refine v_goto (tgt := 18) C dX1_layLeaders_134 (by decide) ?_
        refine v_sub (ls' := _) [1, 0] rfl (ih (i1 + (1 : Int32)) _ _ _ hf hl J)
  unfold f_X1_layLeaders at hf
  refine v_aload_n C 0 dX1_layLeaders_0 rfl rfl ?_
  refine v_gR (Cn := RX1) (T := TX1) (N := 10) C hf in_X1 rfl (by decide) q207 rfl dX1_layLeaders_1 (fun x1 hf => ?_)
  refine v_bipush (x := (-4)) C dX1_layLeaders_4 (by decide) ?_
  refine v_callS (stk := fun _ => []) C (ct_J2_fill _ x1 (-4 : Int32)) nd_J2_fill rfl (Nat.le_of_ble_eq_true rfl) (Nat.le_of_ble_eq_true rfl) [] (Nat.le_of_ble_eq_true rfl) (fun _ => rfl) rfl q191 q192 q101 q193 hf hl dX1_layLeaders_6 (fun x2 h3 hf => ?_)
  refine v_aload_n C 0 dX1_layLeaders_9 rfl rfl ?_
  refine v_gR (Cn := RX1) (T := TX1) (N := 10) C hf in_X1 rfl (by decide) q207 rfl dX1_layLeaders_10 (fun x4 hf => ?_)
  refine v_iconst (x := 0) C dX1_layLeaders_13 (by decide) ?_
  refine v_iconst (x := 0) C dX1_layLeaders_14 (by decide) ?_
  refine v_iastore C hf dX1_layLeaders_15 (fun h5 hf => ?_)
  refine v_iconst (x := 0) C dX1_layLeaders_16 (by decide) ?_
  refine v_istore_n (ls' := [(1, _), (0, _)]) C dX1_layLeaders_17 rfl (by decide) rfl ?_
  obtain ⟨x28, h29, eh29, hf, hlh29⟩ := mb_inv hf hl
  refine v_sub (ls' := _) [1, 0] rfl (L18 a0 FU (0 : Int32) _ _ _ eh29 hlh29 ?_)
  exact v_vret C E hf dX1_layLeaders_137
