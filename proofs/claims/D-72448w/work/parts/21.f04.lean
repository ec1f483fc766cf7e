set_option maxRecDepth 100000
def f_X0_undo (a0 : Nat) : hM Int32 :=
  mb (gI a0 0 10) fun x1 => mi (¬ x1 = 0) (mb (gI a0 0 10) fun x2 => mb (pF a0 0 10 (.int (x2 - (1 : Int32)))) fun _ => mb (gR a0 0 3) fun x4 => mb (gR a0 0 9) fun x5 => mb (gI a0 0 10) fun x6 => mb (aR 8 x5 x6) fun x7 => mb (mat x4 2 (f_X2_takeFrom x4 x7)) fun _ => mb (gI a0 0 10) fun x10 => mret x10) (mret (-4 : Int32))
theorem nd_X0_undo : yX0_undo.cls ≠ "java/lang/invoke/MethodHandle" ∧ yX0_undo.cls ≠ "java/lang/invoke/VarHandle" ∧ (parseMethodDescriptor yX0_undo.desc).map (fun d => d.parameters.length) = some 0 := by decide +kernel
set_option maxHeartbeats 4000000 in
theorem ct_X0_undo (l : Launch) (a0 : Nat) : CT l yX0_undo cX0_undo 1 (some .int) 5 108 rvI [.ref a0] (f_X0_undo a0) := by
  refine CT_of (ls := [(0, .ref a0)]) (by decide) (Nat.le_of_ble_eq_true rfl) rfl ?_
  intro X h he z hX hf C E hnm hh
  have hl := hle.rf he
  subst hX
  unfold f_X0_undo at hf
  refine v_aload_n C 0 dX0_undo_0 rfl rfl ?_
  refine v_gI (Cn := RX0) (T := TX0) (N := 16) C hf in_X0 rfl (by decide) q702 rfl dX0_undo_1 (fun x1 hf => ?_)
  refine v_if_ne C hf (tgt := 10) dX0_undo_4 (by decide) (fun c4 hf => ?_) (fun c4 hf => ?_)
  · refine v_aload_n C 0 dX0_undo_10 rfl rfl ?_
    refine v_dup C dX0_undo_11 rfl ?_
    refine v_gI (Cn := RX0) (T := TX0) (N := 16) C hf in_X0 rfl (by decide) q702 rfl dX0_undo_12 (fun x2 hf => ?_)
    refine v_iconst (x := 1) C dX0_undo_15 (by decide) ?_
    refine v_isub C dX0_undo_16 ?_
    refine v_putv (Cn := RX0) (T := TX0) (N := 16) (ty0 := tyX0) C hf in_X0 tyX0_ok nmX0 rfl (by decide) q702 rfl rfl rfl rfl dX0_undo_17 (fun h3 hf => ?_)
    refine v_aload_n C 0 dX0_undo_20 rfl rfl ?_
    refine v_gR (Cn := RX0) (T := TX0) (N := 16) C hf in_X0 rfl (by decide) q695 rfl dX0_undo_21 (fun x4 hf => ?_)
    refine v_aload_n C 0 dX0_undo_24 rfl rfl ?_
    refine v_gR (Cn := RX0) (T := TX0) (N := 16) C hf in_X0 rfl (by decide) q701 rfl dX0_undo_25 (fun x5 hf => ?_)
    refine v_aload_n C 0 dX0_undo_28 rfl rfl ?_
    refine v_gI (Cn := RX0) (T := TX0) (N := 16) C hf in_X0 rfl (by decide) q702 rfl dX0_undo_29 (fun x6 hf => ?_)
    refine v_aaload C hf (by decide) rfl dX0_undo_32 (fun x7 hf => ?_)
    refine v_callV (stk := fun _ => []) C (ct_X2_takeFrom _ x4 x7) rfl ⟨rfl, nd_X2_takeFrom⟩ rfl (Nat.le_of_ble_eq_true rfl) (Nat.le_of_ble_eq_true rfl) [] (Nat.le_of_ble_eq_true rfl) (fun _ => rfl) rfl q1361 q1362 q1363 q102 q1364 hf hl dX0_undo_33 (fun x8 h9 hf => ?_)
    refine v_aload_n C 0 dX0_undo_36 rfl rfl ?_
    refine v_gI (Cn := RX0) (T := TX0) (N := 16) C hf in_X0 rfl (by decide) q702 rfl dX0_undo_37 (fun x10 hf => ?_)
    exact v_iret C E hf dX0_undo_40
  · refine v_bipush (x := (-4)) C dX0_undo_7 (by decide) ?_
    exact v_iret C E hf dX0_undo_9
def l_X0_keeping_4 (a0 : Nat) : Nat → Int32 → Int32 → hM (Int32)
  | 0, _, _ => mfail
  | n + 1, i1, i2 => mi ((5 : Int32) ≤ i2) (mret i1) (mb (mat a0 0 (f_X0_keeps a0 i2)) fun x1 => mb (mi (x1 = 0) (mret (0 : Int32)) (mret ((1 : Int32) <<< (i2 &&& 31)))) fun x3 => l_X0_keeping_4 a0 n (i1 ||| x3) (i2 + (1 : Int32)))
def f_X0_keeping (a0 : Nat) : hM Int32 :=
  mb (l_X0_keeping_4 a0 FU (0 : Int32) (0 : Int32)) fun x5 => mret x5
theorem nd_X0_keeping : yX0_keeping.cls ≠ "java/lang/invoke/MethodHandle" ∧ yX0_keeping.cls ≠ "java/lang/invoke/VarHandle" ∧ (parseMethodDescriptor yX0_keeping.desc).map (fun d => d.parameters.length) = some 0 := by decide +kernel
set_option maxHeartbeats 4000000 in
theorem ct_X0_keeping (l : Launch) (a0 : Nat) : CT l yX0_keeping cX0_keeping 3 (some .int) 5 110 rvI [.ref a0] (f_X0_keeping a0) := by
  refine CT_of (ls := [(0, .ref a0)]) (by decide) (Nat.le_of_ble_eq_true rfl) rfl ?_
  intro X h he z hX hf C E hnm hh
  have hl := hle.rf he
  subst hX
  have L4 : ∀ (a0 : Nat) (n : Nat) (i1 : Int32) (i2 : Int32) (h h1 : Hp) (o : Int32), (l_X0_keeping_4 a0 n i1 i2).1 h = some (o, h1) → hle h1 he → V X h1 33 [(1, .int o)] [] → V X h 4 [(0, .ref a0), (1, .int i1), (2, .int i2)] [] := by
    intro a0 n
    induction n with
    | zero => intro i1 i2 h h1 o hf; exact mfail_inv hf
    | succ n ih =>
      intro i1 i2 h h1 o hf hl J
      rw [l_X0_keeping_4] at hf
      refine v_iload_n C 2 dX0_keeping_4 rfl rfl ?_
      refine v_iconst (x := 5) C dX0_keeping_5 (by decide) ?_
      refine v_icmp_ge C hf (tgt := 33) dX0_keeping_6 (by decide) (fun c6 hf => ?_) (fun c6 hf => ?_)
      · obtain ⟨e1, rfl⟩ := mret_inv hf
        subst e1
        exact v_sub (ls' := _) [1] rfl J
      · refine v_iload_n C 1 dX0_keeping_9 rfl rfl ?_
        refine v_aload_n C 0 dX0_keeping_10 rfl rfl ?_
        refine v_iload_n C 2 dX0_keeping_11 rfl rfl ?_
        refine v_callV (stk := fun b => .int b :: [.int i1]) C (ct_X0_keeps _ a0 i2) rfl ⟨rfl, nd_X0_keeps⟩ rfl (Nat.le_of_ble_eq_true rfl) (Nat.le_of_ble_eq_true rfl) [.int i1] (Nat.le_of_ble_eq_true rfl) (fun _ => rfl) rfl q825 q827 qs9 q96 q828 hf hl dX0_keeping_12 (fun x1 h2 hf => ?_)
        obtain ⟨x3, h4, hAh4, hf, hlh4⟩ := mb_inv hf hl
        refine v_cut (h1 := h4) (pc1 := 25) (ls1 := [(0, .ref a0), (2, .int i2)]) (st1 := [.int x3, .int i1]) ?_ (fun Jh4 => ?_)
        · clear hAh4 hlh4
          refine v_ior C dX0_keeping_25 ?_
          refine v_istore_n (ls' := [(1, _), (0, _), (2, _)]) C dX0_keeping_26 rfl (by decide) rfl ?_
          refine v_iinc (ls' := [(2, _), (1, _), (0, _)]) (y := i2 + (1 : Int32)) C 2 dX0_keeping_27 rfl rfl (by decide) rfl ?_
          refine v_goto (tgt := 4) C dX0_keeping_30 (by decide) ?_
          refine v_sub (ls' := _) [2, 1, 0] rfl (ih (i1 ||| x3) (i2 + (1 : Int32)) _ _ _ hf hl J)
        · clear hf
          have hf := hAh4
          have hl := hlh4
          refine v_if_eq C hf (tgt := 24) dX0_keeping_15 (by decide) (fun c15 hf => ?_) (fun c15 hf => ?_)
          · refine v_iconst (x := 0) C dX0_keeping_24 (by decide) ?_
            obtain ⟨e1, rfl⟩ := mret_inv hf
            subst e1
            exact v_sub (ls' := _) [0, 2] rfl Jh4
          · refine v_iconst (x := 1) C dX0_keeping_18 (by decide) ?_
            refine v_iload_n C 2 dX0_keeping_19 rfl rfl ?_
            refine v_ishl C dX0_keeping_20 ?_
            refine v_goto (tgt := 25) C dX0_keeping_21 (by decide) ?_
            obtain ⟨e1, rfl⟩ := mret_inv hf
            subst e1
            exact v_sub (ls' := _) [0, 2] rfl Jh4
  unfold f_X0_keeping at hf
  refine v_iconst (x := 0) C dX0_keeping_0 (by decide) ?_
  refine v_istore_n (ls' := [(1, _), (0, _)]) C dX0_keeping_1 rfl (by decide) rfl ?_
  refine v_iconst (x := 0) C dX0_keeping_2 (by decide) ?_
  refine v_istore_n (ls' := [(2, _), (1, _), (0, _)]) C dX0_keeping_3 rfl (by decide) rfl ?_
  obtain ⟨x5, h6, eh6, hf, hlh6⟩ := mb_inv hf hl
  refine v_sub (ls' := _) [2, 1, 0] rfl (L4 a0 FU (0 : Int32) (0 : Int32) _ _ _ eh6 hlh6 ?_)
  refine v_iload_n C 0 dX0_keeping_33 rfl rfl ?_
  exact v_iret C E hf dX0_keeping_34
def l_X0_image_13 (a0 : Nat) : Nat → Int32 → hM (Unit)
  | 0, _ => mfail
  | n + 1, i1 => mb (gI a0 0 10) fun x5 => mi (x5 ≤ i1) (mret ()) (mb (gR a0 0 12) fun x6 => mb (aR 8 x6 i1) fun x7 => mb (gR a0 0 9) fun x8 => mb (aR 8 x8 i1) fun x9 => mb (mat x7 2 (f_X2_takeFrom x7 x9)) fun _ => l_X0_image_13 a0 n (i1 + (1 : Int32)))
def f_X0_image (a0 : Nat) : hM Int32 :=
  mb (gR a0 0 11) fun x1 => mb (gR a0 0 3) fun x2 => mb (mat x1 2 (f_X2_takeFrom x1 x2)) fun _ => mb (l_X0_image_13 a0 FU (0 : Int32)) fun x12 => mb (gI a0 0 10) fun x14 => mb (pF a0 0 13 (.int x14)) fun _ => mb (pN .boolean a0 0 14 (1 : Int32)) fun _ => mret (1 : Int32)
theorem nd_X0_image : yX0_image.cls ≠ "java/lang/invoke/MethodHandle" ∧ yX0_image.cls ≠ "java/lang/invoke/VarHandle" ∧ (parseMethodDescriptor yX0_image.desc).map (fun d => d.parameters.length) = some 0 := by decide +kernel
set_option maxHeartbeats 4000000 in
theorem ct_X0_image (l : Launch) (a0 : Nat) : CT l yX0_image cX0_image 2 (some .int) 5 108 rvI [.ref a0] (f_X0_image a0) := by
  refine CT_of (ls := [(0, .ref a0)]) (by decide) (Nat.le_of_ble_eq_true rfl) rfl ?_
  intro X h he z hX hf C E hnm hh
  have hl := hle.rf he
  subst hX
  have L13 : ∀ (a0 : Nat) (n : Nat) (i1 : Int32) (h h1 : Hp) (o : Unit), (l_X0_image_13 a0 n i1).1 h = some (o, h1) → hle h1 he → V X h1 42 [(0, .ref a0)] [] → V X h 13 [(0, .ref a0), (1, .int i1)] [] := by
    intro a0 n
    induction n with
    | zero => intro i1 h h1 o hf; exact mfail_inv hf
    | succ n ih =>
      intro i1 h h1 o hf hl J
      rw [l_X0_image_13] at hf
      refine v_iload_n C 1 dX0_image_13 rfl rfl ?_
      refine v_aload_n C 0 dX0_image_14 rfl rfl ?_
      refine v_gI (Cn := RX0) (T := TX0) (N := 16) C hf in_X0 rfl (by decide) q702 rfl dX0_image_15 (fun x5 hf => ?_)
      refine v_icmp_ge C hf (tgt := 42) dX0_image_18 (by decide) (fun c18 hf => ?_) (fun c18 hf => ?_)
      · obtain ⟨e1, rfl⟩ := mret_inv hf
        subst e1
        exact v_sub (ls' := _) [0] rfl J
      · refine v_aload_n C 0 dX0_image_21 rfl rfl ?_
        refine v_gR (Cn := RX0) (T := TX0) (N := 16) C hf in_X0 rfl (by decide) q704 rfl dX0_image_22 (fun x6 hf => ?_)
        refine v_iload_n C 1 dX0_image_25 rfl rfl ?_
        refine v_aaload C hf (by decide) rfl dX0_image_26 (fun x7 hf => ?_)
        refine v_aload_n C 0 dX0_image_27 rfl rfl ?_
        refine v_gR (Cn := RX0) (T := TX0) (N := 16) C hf in_X0 rfl (by decide) q701 rfl dX0_image_28 (fun x8 hf => ?_)
        refine v_iload_n C 1 dX0_image_31 rfl rfl ?_
        refine v_aaload C hf (by decide) rfl dX0_image_32 (fun x9 hf => ?_)
        refine v_callV (stk := fun _ => []) C (ct_X2_takeFrom _ x7 x9) rfl ⟨rfl, nd_X2_takeFrom⟩ rfl (Nat.le_of_ble_eq_true rfl) (Nat.le_of_ble_eq_true rfl) [] (Nat.le_of_ble_eq_true rfl) (fun _ => rfl) rfl q1361 q1362 q1363 q102 q1364 hf hl dX0_image_33 (fun x10 h11 hf => ?_)
        refine v_iinc (ls' := [(1, _), (0, _)]) (y := i1 + (1 : Int32)) C 1 dX0_image_36 rfl rfl (by decide) rfl ?_
        refine v_goto (tgt := 13) C dX0_image_39 (by decide) ?_
        refine v_sub (ls' := _) [1, 0] rfl (ih (i1 + (1 : Int32)) _ _ _ hf hl J)
  unfold f_X0_image at hf
  refine v_aload_n C 0 dX0_image_0 rfl rfl ?_
  refine v_gR (Cn := RX0) (T := TX0) (N := 16) C hf in_X0 rfl (by decide) q703 rfl dX0_image_1 (fun x1 hf => ?_)
  refine v_aload_n C 0 dX0_image_4 rfl rfl ?_
  refine v_gR (Cn := RX0) (T := TX0) (N := 16) C hf in_X0 rfl (by decide) q695 rfl dX0_image_5 (fun x2 hf => ?_)
  refine v_callV (stk := fun _ => []) C (ct_X2_takeFrom _ x1 x2) rfl ⟨rfl, nd_X2_takeFrom⟩ rfl (Nat.le_of_ble_eq_true rfl) (Nat.le_of_ble_eq_true rfl) [] (Nat.le_of_ble_eq_true rfl) (fun _ => rfl) rfl q1361 q1362 q1363 q102 q1364 hf hl dX0_image_8 (fun x3 h4 hf => ?_)
  refine v_iconst (x := 0) C dX0_image_11 (by decide) ?_
  refine v_istore_n (ls' := [(1, _), (0, _)]) C dX0_image_12 rfl (by decide) rfl ?_
  obtain ⟨x12, h13, eh13, hf, hlh13⟩ := mb_inv hf hl
  refine v_sub (ls' := _) [1, 0] rfl (L13 a0 FU (0 : Int32) _ _ _ eh13 hlh13 ?_)
  refine v_aload_n C 0 dX0_image_42 rfl rfl ?_
  refine v_aload_n C 0 dX0_image_43 rfl rfl ?_
  refine v_gI (Cn := RX0) (T := TX0) (N := 16) C hf in_X0 rfl (by decide) q702 rfl dX0_image_44 (fun x14 hf => ?_)
  refine v_putv (Cn := RX0) (T := TX0) (N := 16) (ty0 := tyX0) C hf in_X0 tyX0_ok nmX0 rfl (by decide) q705 rfl rfl rfl rfl dX0_image_47 (fun h15 hf => ?_)
  refine v_aload_n C 0 dX0_image_50 rfl rfl ?_
  refine v_iconst (x := 1) C dX0_image_51 (by decide) ?_
  obtain ⟨hnar, hf⟩ := v_pN_inv hf
  refine v_putv (Cn := RX0) (T := TX0) (N := 16) (ty0 := tyX0) C hf in_X0 tyX0_ok nmX0 rfl (by decide) q706 rfl rfl hnar.1 hnar.2 dX0_image_52 (fun h16 hf => ?_)
  refine v_iconst (x := 1) C dX0_image_55 (by decide) ?_
  exact v_iret C E hf dX0_image_56
def l_X0_restore_23 (a0 : Nat) : Nat → Int32 → hM (Unit)
  | 0, _ => mfail
  | n + 1, i1 => mb (gI a0 0 13) fun x6 => mi (x6 ≤ i1) (mret ()) (mb (gR a0 0 9) fun x7 => mb (aR 8 x7 i1) fun x8 => mb (gR a0 0 12) fun x9 => mb (aR 8 x9 i1) fun x10 => mb (mat x8 2 (f_X2_takeFrom x8 x10)) fun _ => l_X0_restore_23 a0 n (i1 + (1 : Int32)))
def f_X0_restore (a0 : Nat) : hM Int32 :=
  mb (gI a0 0 14) fun x1 => mi (¬ x1 = 0) (mb (gR a0 0 3) fun x2 => mb (gR a0 0 11) fun x3 => mb (mat x2 2 (f_X2_takeFrom x2 x3)) fun _ => mb (l_X0_restore_23 a0 FU (0 : Int32)) fun x13 => mb (gI a0 0 13) fun x15 => mb (pF a0 0 10 (.int x15)) fun _ => mret (1 : Int32)) (mret (-4 : Int32))
theorem nd_X0_restore : yX0_restore.cls ≠ "java/lang/invoke/MethodHandle" ∧ yX0_restore.cls ≠ "java/lang/invoke/VarHandle" ∧ (parseMethodDescriptor yX0_restore.desc).map (fun d => d.parameters.length) = some 0 := by decide +kernel
set_option maxHeartbeats 4000000 in
theorem ct_X0_restore (l : Launch) (a0 : Nat) : CT l yX0_restore cX0_restore 2 (some .int) 5 108 rvI [.ref a0] (f_X0_restore a0) := by
  refine CT_of (ls := [(0, .ref a0)]) (by decide) (Nat.le_of_ble_eq_true rfl) rfl ?_
  intro X h he z hX hf C E hnm hh
  have hl := hle.rf he
  subst hX
  have L23 : ∀ (a0 : Nat) (n : Nat) (i1 : Int32) (h h1 : Hp) (o : Unit), (l_X0_restore_23 a0 n i1).1 h = some (o, h1) → hle h1 he → V X h1 52 [(0, .ref a0)] [] → V X h 23 [(0, .ref a0), (1, .int i1)] [] := by
    intro a0 n
    induction n with
    | zero => intro i1 h h1 o hf; exact mfail_inv hf
    | succ n ih =>
      intro i1 h h1 o hf hl J
      rw [l_X0_restore_23] at hf
      refine v_iload_n C 1 dX0_restore_23 rfl rfl ?_
      refine v_aload_n C 0 dX0_restore_24 rfl rfl ?_
      refine v_gI (Cn := RX0) (T := TX0) (N := 16) C hf in_X0 rfl (by decide) q705 rfl dX0_restore_25 (fun x6 hf => ?_)
      refine v_icmp_ge C hf (tgt := 52) dX0_restore_28 (by decide) (fun c28 hf => ?_) (fun c28 hf => ?_)
      · obtain ⟨e1, rfl⟩ := mret_inv hf
        subst e1
        exact v_sub (ls' := _) [0] rfl J
      · refine v_aload_n C 0 dX0_restore_31 rfl rfl ?_
        refine v_gR (Cn := RX0) (T := TX0) (N := 16) C hf in_X0 rfl (by decide) q701 rfl dX0_restore_32 (fun x7 hf => ?_)
        refine v_iload_n C 1 dX0_restore_35 rfl rfl ?_
        refine v_aaload C hf (by decide) rfl dX0_restore_36 (fun x8 hf => ?_)
        refine v_aload_n C 0 dX0_restore_37 rfl rfl ?_
        refine v_gR (Cn := RX0) (T := TX0) (N := 16) C hf in_X0 rfl (by decide) q704 rfl dX0_restore_38 (fun x9 hf => ?_)
        refine v_iload_n C 1 dX0_restore_41 rfl rfl ?_
        refine v_aaload C hf (by decide) rfl dX0_restore_42 (fun x10 hf => ?_)
        refine v_callV (stk := fun _ => []) C (ct_X2_takeFrom _ x8 x10) rfl ⟨rfl, nd_X2_takeFrom⟩ rfl (Nat.le_of_ble_eq_true rfl) (Nat.le_of_ble_eq_true rfl) [] (Nat.le_of_ble_eq_true rfl) (fun _ => rfl) rfl q1361 q1362 q1363 q102 q1364 hf hl dX0_restore_43 (fun x11 h12 hf => ?_)
        refine v_iinc (ls' := [(1, _), (0, _)]) (y := i1 + (1 : Int32)) C 1 dX0_restore_46 rfl rfl (by decide) rfl ?_
        refine v_goto (tgt := 23) C dX0_restore_49 (by decide) ?_
        refine v_sub (ls' := _) [1, 0] rfl (ih (i1 + (1 : Int32)) _ _ _ hf hl J)
  unfold f_X0_restore at hf
  refine v_aload_n C 0 dX0_restore_0 rfl rfl ?_
  refine v_gI (Cn := RX0) (T := TX0) (N := 16) C hf in_X0 rfl (by decide) q706 rfl dX0_restore_1 (fun x1 hf => ?_)
  refine v_if_ne C hf (tgt := 10) dX0_restore_4 (by decide) (fun c4 hf => ?_) (fun c4 hf => ?_)
  · refine v_aload_n C 0 dX0_restore_10 rfl rfl ?_
    refine v_gR (Cn := RX0) (T := TX0) (N := 16) C hf in_X0 rfl (by decide) q695 rfl dX0_restore_11 (fun x2 hf => ?_)
    refine v_aload_n C 0 dX0_restore_14 rfl rfl ?_
    refine v_gR (Cn := RX0) (T := TX0) (N := 16) C hf in_X0 rfl (by decide) q703 rfl dX0_restore_15 (fun x3 hf => ?_)
    refine v_callV (stk := fun _ => []) C (ct_X2_takeFrom _ x2 x3) rfl ⟨rfl, nd_X2_takeFrom⟩ rfl (Nat.le_of_ble_eq_true rfl) (Nat.le_of_ble_eq_true rfl) [] (Nat.le_of_ble_eq_true rfl) (fun _ => rfl) rfl q1361 q1362 q1363 q102 q1364 hf hl dX0_restore_18 (fun x4 h5 hf => ?_)
    refine v_iconst (x := 0) C dX0_restore_21 (by decide) ?_
    refine v_istore_n (ls' := [(1, _), (0, _)]) C dX0_restore_22 rfl (by decide) rfl ?_
    obtain ⟨x13, h14, eh14, hf, hlh14⟩ := mb_inv hf hl
    refine v_sub (ls' := _) [1, 0] rfl (L23 a0 FU (0 : Int32) _ _ _ eh14 hlh14 ?_)
    refine v_aload_n C 0 dX0_restore_52 rfl rfl ?_
    refine v_aload_n C 0 dX0_restore_53 rfl rfl ?_
    refine v_gI (Cn := RX0) (T := TX0) (N := 16) C hf in_X0 rfl (by decide) q705 rfl dX0_restore_54 (fun x15 hf => ?_)
    refine v_putv (Cn := RX0) (T := TX0) (N := 16) (ty0 := tyX0) C hf in_X0 tyX0_ok nmX0 rfl (by decide) q702 rfl rfl rfl rfl dX0_restore_57 (fun h16 hf => ?_)
    refine v_iconst (x := 1) C dX0_restore_60 (by decide) ?_
    exact v_iret C E hf dX0_restore_61
  · refine v_bipush (x := (-4)) C dX0_restore_7 (by decide) ?_
    exact v_iret C E hf dX0_restore_9
def l_X17_isText_18 (a0 : Nat) : Nat → Int32 → Int32 → hM (Int32)
  | 0, _, _ => mfail
  | n + 1, i1, i2 => mi (i2 = 0) (mret i2) (mi (¬ i1 = 0) (mb (mat a0 15 (f_X17_here a0)) fun x5 => mb (mi (i1 = 0) (mi (i1 = 0) (mi (¬ x5 = (93 : Int32)) (mb (mi (¬ x5 = (42 : Int32)) (mret (0 : Int32)) (mret (1 : Int32))) fun x10 => mb (gI a0 15 10) fun x12 => mb (mi (x10 = 0) (mret (0 : Int32)) (mret (1 : Int32))) fun x13 => mb (pF a0 15 10 (.int (x12 + x13))) fun _ => mret (x10, x10)) (mb (gI a0 15 14) fun x16 => mi (x16 ≤ 0) (mb (mi (¬ x5 = (42 : Int32)) (mret (0 : Int32)) (mret (1 : Int32))) fun x17 => mb (gI a0 15 10) fun x19 => mb (mi (x17 = 0) (mret (0 : Int32)) (mret (1 : Int32))) fun x20 => mb (pF a0 15 10 (.int (x19 + x20))) fun _ => mret (x17, x17)) (mb (gI a0 15 10) fun x23 => mb (pF a0 15 10 (.int (x23 + (1 : Int32)))) fun _ => mb (mat a0 15 (f_X17_closes a0)) fun _ => mb (mat a0 15 (f_X17_readsOften a0)) fun x27 => mret (i1, x27)))) (mb (mat a0 15 (f_X17_readsFactor a0)) fun x29 => mret ((0 : Int32), x29))) (mi (¬ x5 = (91 : Int32)) (mi (i1 = 0) (mi (¬ x5 = (93 : Int32)) (mb (mi (¬ x5 = (42 : Int32)) (mret (0 : Int32)) (mret (1 : Int32))) fun x31 => mb (gI a0 15 10) fun x33 => mb (mi (x31 = 0) (mret (0 : Int32)) (mret (1 : Int32))) fun x34 => mb (pF a0 15 10 (.int (x33 + x34))) fun _ => mret (x31, x31)) (mb (gI a0 15 14) fun x37 => mi (x37 ≤ 0) (mb (mi (¬ x5 = (42 : Int32)) (mret (0 : Int32)) (mret (1 : Int32))) fun x38 => mb (gI a0 15 10) fun x40 => mb (mi (x38 = 0) (mret (0 : Int32)) (mret (1 : Int32))) fun x41 => mb (pF a0 15 10 (.int (x40 + x41))) fun _ => mret (x38, x38)) (mb (gI a0 15 10) fun x44 => mb (pF a0 15 10 (.int (x44 + (1 : Int32)))) fun _ => mb (mat a0 15 (f_X17_closes a0)) fun _ => mb (mat a0 15 (f_X17_readsOften a0)) fun x48 => mret (i1, x48)))) (mb (mat a0 15 (f_X17_readsFactor a0)) fun x50 => mret ((0 : Int32), x50))) (mb (gI a0 15 14) fun x52 => mi ((6 : Int32) ≤ x52) (mi (i1 = 0) (mi (¬ x5 = (93 : Int32)) (mb (mi (¬ x5 = (42 : Int32)) (mret (0 : Int32)) (mret (1 : Int32))) fun x53 => mb (gI a0 15 10) fun x55 => mb (mi (x53 = 0) (mret (0 : Int32)) (mret (1 : Int32))) fun x56 => mb (pF a0 15 10 (.int (x55 + x56))) fun _ => mret (x53, x53)) (mb (gI a0 15 14) fun x59 => mi (x59 ≤ 0) (mb (mi (¬ x5 = (42 : Int32)) (mret (0 : Int32)) (mret (1 : Int32))) fun x60 => mb (gI a0 15 10) fun x62 => mb (mi (x60 = 0) (mret (0 : Int32)) (mret (1 : Int32))) fun x63 => mb (pF a0 15 10 (.int (x62 + x63))) fun _ => mret (x60, x60)) (mb (gI a0 15 10) fun x66 => mb (pF a0 15 10 (.int (x66 + (1 : Int32)))) fun _ => mb (mat a0 15 (f_X17_closes a0)) fun _ => mb (mat a0 15 (f_X17_readsOften a0)) fun x70 => mret (i1, x70)))) (mb (mat a0 15 (f_X17_readsFactor a0)) fun x72 => mret ((0 : Int32), x72))) (mb (gI a0 15 10) fun x74 => mb (pF a0 15 10 (.int (x74 + (1 : Int32)))) fun _ => mb (gI a0 15 14) fun x76 => mb (pF a0 15 14 (.int (x76 + (1 : Int32)))) fun _ => mb (mat a0 15 (f_X17_begins a0)) fun _ => mret (i1, i2))))) fun ⟨x7, x8⟩ => l_X17_isText_18 a0 n x7 x8) (mb (mat a0 15 (f_X17_here a0)) fun x80 => mi (x80 = 0) (mret i2) (mb (mat a0 15 (f_X17_here a0)) fun x82 => mb (mi (i1 = 0) (mi (i1 = 0) (mi (¬ x82 = (93 : Int32)) (mb (mi (¬ x82 = (42 : Int32)) (mret (0 : Int32)) (mret (1 : Int32))) fun x87 => mb (gI a0 15 10) fun x89 => mb (mi (x87 = 0) (mret (0 : Int32)) (mret (1 : Int32))) fun x90 => mb (pF a0 15 10 (.int (x89 + x90))) fun _ => mret (x87, x87)) (mb (gI a0 15 14) fun x93 => mi (x93 ≤ 0) (mb (mi (¬ x82 = (42 : Int32)) (mret (0 : Int32)) (mret (1 : Int32))) fun x94 => mb (gI a0 15 10) fun x96 => mb (mi (x94 = 0) (mret (0 : Int32)) (mret (1 : Int32))) fun x97 => mb (pF a0 15 10 (.int (x96 + x97))) fun _ => mret (x94, x94)) (mb (gI a0 15 10) fun x100 => mb (pF a0 15 10 (.int (x100 + (1 : Int32)))) fun _ => mb (mat a0 15 (f_X17_closes a0)) fun _ => mb (mat a0 15 (f_X17_readsOften a0)) fun x104 => mret (i1, x104)))) (mb (mat a0 15 (f_X17_readsFactor a0)) fun x106 => mret ((0 : Int32), x106))) (mi (¬ x82 = (91 : Int32)) (mi (i1 = 0) (mi (¬ x82 = (93 : Int32)) (mb (mi (¬ x82 = (42 : Int32)) (mret (0 : Int32)) (mret (1 : Int32))) fun x108 => mb (gI a0 15 10) fun x110 => mb (mi (x108 = 0) (mret (0 : Int32)) (mret (1 : Int32))) fun x111 => mb (pF a0 15 10 (.int (x110 + x111))) fun _ => mret (x108, x108)) (mb (gI a0 15 14) fun x114 => mi (x114 ≤ 0) (mb (mi (¬ x82 = (42 : Int32)) (mret (0 : Int32)) (mret (1 : Int32))) fun x115 => mb (gI a0 15 10) fun x117 => mb (mi (x115 = 0) (mret (0 : Int32)) (mret (1 : Int32))) fun x118 => mb (pF a0 15 10 (.int (x117 + x118))) fun _ => mret (x115, x115)) (mb (gI a0 15 10) fun x121 => mb (pF a0 15 10 (.int (x121 + (1 : Int32)))) fun _ => mb (mat a0 15 (f_X17_closes a0)) fun _ => mb (mat a0 15 (f_X17_readsOften a0)) fun x125 => mret (i1, x125)))) (mb (mat a0 15 (f_X17_readsFactor a0)) fun x127 => mret ((0 : Int32), x127))) (mb (gI a0 15 14) fun x129 => mi ((6 : Int32) ≤ x129) (mi (i1 = 0) (mi (¬ x82 = (93 : Int32)) (mb (mi (¬ x82 = (42 : Int32)) (mret (0 : Int32)) (mret (1 : Int32))) fun x130 => mb (gI a0 15 10) fun x132 => mb (mi (x130 = 0) (mret (0 : Int32)) (mret (1 : Int32))) fun x133 => mb (pF a0 15 10 (.int (x132 + x133))) fun _ => mret (x130, x130)) (mb (gI a0 15 14) fun x136 => mi (x136 ≤ 0) (mb (mi (¬ x82 = (42 : Int32)) (mret (0 : Int32)) (mret (1 : Int32))) fun x137 => mb (gI a0 15 10) fun x139 => mb (mi (x137 = 0) (mret (0 : Int32)) (mret (1 : Int32))) fun x140 => mb (pF a0 15 10 (.int (x139 + x140))) fun _ => mret (x137, x137)) (mb (gI a0 15 10) fun x143 => mb (pF a0 15 10 (.int (x143 + (1 : Int32)))) fun _ => mb (mat a0 15 (f_X17_closes a0)) fun _ => mb (mat a0 15 (f_X17_readsOften a0)) fun x147 => mret (i1, x147)))) (mb (mat a0 15 (f_X17_readsFactor a0)) fun x149 => mret ((0 : Int32), x149))) (mb (gI a0 15 10) fun x151 => mb (pF a0 15 10 (.int (x151 + (1 : Int32)))) fun _ => mb (gI a0 15 14) fun x153 => mb (pF a0 15 14 (.int (x153 + (1 : Int32)))) fun _ => mb (mat a0 15 (f_X17_begins a0)) fun _ => mret (i1, i2))))) fun ⟨x84, x85⟩ => l_X17_isText_18 a0 n x84 x85)))
def f_X17_isText (a0 : Nat) : hM Int32 :=
  mb (pF a0 15 10 (.int (0 : Int32))) fun _ => mb (pF a0 15 14 (.int (0 : Int32))) fun _ => mb (mat a0 15 (f_X17_begins a0)) fun _ => mb (l_X17_isText_18 a0 FU (1 : Int32) (1 : Int32)) fun x157 => mb (mi (x157 = 0) (mret (0 : Int32)) (mb (gI a0 15 14) fun x161 => mi (¬ x161 = 0) (mret (0 : Int32)) (mret (1 : Int32)))) fun x159 => mrt .boolean x159
theorem nd_X17_isText : yX17_isText.cls ≠ "java/lang/invoke/MethodHandle" ∧ yX17_isText.cls ≠ "java/lang/invoke/VarHandle" ∧ (parseMethodDescriptor yX17_isText.desc).map (fun d => d.parameters.length) = some 0 := by decide +kernel
set_option maxHeartbeats 4000000 in
theorem ct_X17_isText (l : Launch) (a0 : Nat) : CT l yX17_isText cX17_isText 4 (some .boolean) 6 137 rvI [.ref a0] (f_X17_isText a0) := by
  refine CT_of (ls := [(0, .ref a0)]) (by decide) (Nat.le_of_ble_eq_true rfl) rfl ?_
  intro X h he z hX hf C E hnm hh
  have hl := hle.rf he
  subst hX
  have L18 : ∀ (a0 : Nat) (n : Nat) (i1 : Int32) (i2 : Int32) (h h1 : Hp) (o : Int32), (l_X17_isText_18 a0 n i1 i2).1 h = some (o, h1) → hle h1 he → V X h1 168 [(0, .ref a0), (2, .int o)] [] → V X h 18 [(0, .ref a0), (1, .int i1), (2, .int i2)] [] := by
    intro a0 n
    induction n with
    | zero => intro i1 i2 h h1 o hf; exact mfail_inv hf
    | succ n ih =>
      intro i1 i2 h h1 o hf hl J
      rw [l_X17_isText_18] at hf
      refine v_iload_n C 2 dX17_isText_18 rfl rfl ?_
      refine v_if_eq C hf (tgt := 168) dX17_isText_19 (by decide) (fun c19 hf => ?_) (fun c19 hf => ?_)
      · obtain ⟨e1, rfl⟩ := mret_inv hf
        subst e1
        exact v_sub (ls' := _) [0, 2] rfl J
      · refine v_iload_n C 1 dX17_isText_22 rfl rfl ?_
        refine v_if_ne C hf (tgt := 33) dX17_isText_23 (by decide) (fun c23 hf => ?_) (fun c23 hf => ?_)
        · refine v_aload_n C 0 dX17_isText_33 rfl rfl ?_
          refine v_callV (stk := fun b => .int b :: []) C (ct_X17_here _ a0) rfl ⟨rfl, nd_X17_here⟩ rfl (Nat.le_of_ble_eq_true rfl) (Nat.le_of_ble_eq_true rfl) [] (Nat.le_of_ble_eq_true rfl) (fun _ => rfl) rfl q2076 q2078 qs59 q127 q2079 hf hl dX17_isText_34 (fun x5 h6 hf => ?_)
          refine v_istore_n (ls' := [(3, _), (0, _), (1, _), (2, _)]) C dX17_isText_37 rfl (by decide) rfl ?_
          refine v_iload_n C 2 dX17_isText_38 rfl rfl ?_
          obtain ⟨⟨x7, x8⟩, h9, hAh9, hf, hlh9⟩ := mb_inv hf hl
          refine v_cut (h1 := h9) (pc1 := 165) (ls1 := [(0, .ref a0), (1, .int x7), (2, .int x8)]) (st1 := []) ?_ (fun Jh9 => ?_)
          · clear hAh9 hlh9
            refine v_goto (tgt := 18) C dX17_isText_165 (by decide) ?_
            refine v_sub (ls' := _) [0, 1, 2] rfl (ih x7 x8 _ _ _ hf hl J)
          · clear hf
            have hf := hAh9
            have hl := hlh9
            refine v_if_eq C hf (tgt := 84) dX17_isText_39 (by decide) (fun c39 hf => ?_) (fun c39 hf => ?_)
            · refine v_iload_n C 2 dX17_isText_84 rfl rfl ?_
              refine v_if_eq C hf (tgt := 98) dX17_isText_85 (by decide) (fun c85 hf => ?_) (fun c85 hf => ?_)
              · refine v_iload_n C 0 dX17_isText_98 rfl rfl ?_
                refine v_bipush (x := 93) C dX17_isText_99 (by decide) ?_
                refine v_icmp_ne C hf (tgt := 133) dX17_isText_101 (by decide) (fun c101 hf => ?_) (fun c101 hf => ?_)
                · refine v_iload_n C 0 dX17_isText_133 rfl rfl ?_
                  refine v_bipush (x := 42) C dX17_isText_134 (by decide) ?_
                  obtain ⟨x10, h11, hAh11, hf, hlh11⟩ := mb_inv hf hl
                  refine v_cut (h1 := h11) (pc1 := 144) (ls1 := [(0, .ref a0)]) (st1 := [.int x10]) ?_ (fun Jh11 => ?_)
                  · clear hAh11 hlh11
                    refine v_istore_n (ls' := [(2, _), (0, _)]) C dX17_isText_144 rfl (by decide) rfl ?_
                    refine v_iload_n C 0 dX17_isText_145 rfl rfl ?_
                    refine v_istore_n (ls' := [(1, _), (2, _), (0, _)]) C dX17_isText_146 rfl (by decide) rfl ?_
                    refine v_aload_n C 2 dX17_isText_147 rfl rfl ?_
                    refine v_dup C dX17_isText_148 rfl ?_
                    refine v_gI (Cn := RX17) (T := TX17) (N := 37) C hf in_X17 rfl (by decide) q1814 rfl dX17_isText_149 (fun x12 hf => ?_)
                    refine v_iload_n C 1 dX17_isText_152 rfl rfl ?_
                    obtain ⟨x13, h14, hAh14, hf, hlh14⟩ := mb_inv hf hl
                    refine v_cut (h1 := h14) (pc1 := 161) (ls1 := [(0, .ref a0), (1, .int x10), (2, .int x10)]) (st1 := [.int x13, .int x12, .ref a0]) ?_ (fun Jh14 => ?_)
                    · clear hAh14 hlh14
                      refine v_iadd C dX17_isText_161 ?_
                      refine v_putv (Cn := RX17) (T := TX17) (N := 37) (ty0 := tyX17) C hf in_X17 tyX17_ok nmX17 rfl (by decide) q1814 rfl rfl rfl rfl dX17_isText_162 (fun h15 hf => ?_)
                      obtain ⟨e1, rfl⟩ := mret_inv hf
                      simp only [Prod.mk.injEq] at e1
                      obtain ⟨rfl, rfl⟩ := e1
                      exact v_sub (ls' := _) [0, 1, 2] rfl Jh9
                    · clear hf
                      have hf := hAh14
                      have hl := hlh14
                      refine v_if_eq C hf (tgt := 160) dX17_isText_153 (by decide) (fun c153 hf => ?_) (fun c153 hf => ?_)
                      · refine v_iconst (x := 0) C dX17_isText_160 (by decide) ?_
                        obtain ⟨e1, rfl⟩ := mret_inv hf
                        subst e1
                        exact v_sub (ls' := _) [2, 0, 1] rfl Jh14
                      · refine v_iconst (x := 1) C dX17_isText_156 (by decide) ?_
                        refine v_goto (tgt := 161) C dX17_isText_157 (by decide) ?_
                        obtain ⟨e1, rfl⟩ := mret_inv hf
                        subst e1
                        exact v_sub (ls' := _) [2, 0, 1] rfl Jh14
                  · clear hf
                    have hf := hAh11
                    have hl := hlh11
                    refine v_icmp_ne C hf (tgt := 143) dX17_isText_136 (by decide) (fun c136 hf => ?_) (fun c136 hf => ?_)
                    · refine v_iconst (x := 0) C dX17_isText_143 (by decide) ?_
                      obtain ⟨e1, rfl⟩ := mret_inv hf
                      subst e1
                      exact v_sub (ls' := _) [1] rfl Jh11
                    · refine v_iconst (x := 1) C dX17_isText_139 (by decide) ?_
                      refine v_goto (tgt := 144) C dX17_isText_140 (by decide) ?_
                      obtain ⟨e1, rfl⟩ := mret_inv hf
                      subst e1
                      exact v_sub (ls' := _) [1] rfl Jh11
                · refine v_aload_n C 1 dX17_isText_104 rfl rfl ?_
                  refine v_gI (Cn := RX17) (T := TX17) (N := 37) C hf in_X17 rfl (by decide) q1818 rfl dX17_isText_105 (fun x16 hf => ?_)
                  refine v_if_le C hf (tgt := 133) dX17_isText_108 (by decide) (fun c108 hf => ?_) (fun c108 hf => ?_)
                  · refine v_iload_n C 0 dX17_isText_133 rfl rfl ?_
                    refine v_bipush (x := 42) C dX17_isText_134 (by decide) ?_
                    obtain ⟨x17, h18, hAh18, hf, hlh18⟩ := mb_inv hf hl
                    refine v_cut (h1 := h18) (pc1 := 144) (ls1 := [(0, .ref a0)]) (st1 := [.int x17]) ?_ (fun Jh18 => ?_)
                    · clear hAh18 hlh18
                      refine v_istore_n (ls' := [(2, _), (0, _)]) C dX17_isText_144 rfl (by decide) rfl ?_
                      refine v_iload_n C 0 dX17_isText_145 rfl rfl ?_
                      refine v_istore_n (ls' := [(1, _), (2, _), (0, _)]) C dX17_isText_146 rfl (by decide) rfl ?_
                      refine v_aload_n C 2 dX17_isText_147 rfl rfl ?_
                      refine v_dup C dX17_isText_148 rfl ?_
                      refine v_gI (Cn := RX17) (T := TX17) (N := 37) C hf in_X17 rfl (by decide) q1814 rfl dX17_isText_149 (fun x19 hf => ?_)
                      refine v_iload_n C 1 dX17_isText_152 rfl rfl ?_
                      obtain ⟨x20, h21, hAh21, hf, hlh21⟩ := mb_inv hf hl
                      refine v_cut (h1 := h21) (pc1 := 161) (ls1 := [(0, .ref a0), (1, .int x17), (2, .int x17)]) (st1 := [.int x20, .int x19, .ref a0]) ?_ (fun Jh21 => ?_)
                      · clear hAh21 hlh21
                        refine v_iadd C dX17_isText_161 ?_
                        refine v_putv (Cn := RX17) (T := TX17) (N := 37) (ty0 := tyX17) C hf in_X17 tyX17_ok nmX17 rfl (by decide) q1814 rfl rfl rfl rfl dX17_isText_162 (fun h22 hf => ?_)
                        obtain ⟨e1, rfl⟩ := mret_inv hf
                        simp only [Prod.mk.injEq] at e1
                        obtain ⟨rfl, rfl⟩ := e1
                        exact v_sub (ls' := _) [0, 1, 2] rfl Jh9
                      · clear hf
                        have hf := hAh21
                        have hl := hlh21
                        refine v_if_eq C hf (tgt := 160) dX17_isText_153 (by decide) (fun c153 hf => ?_) (fun c153 hf => ?_)
                        · refine v_iconst (x := 0) C dX17_isText_160 (by decide) ?_
                          obtain ⟨e1, rfl⟩ := mret_inv hf
                          subst e1
                          exact v_sub (ls' := _) [2, 0, 1] rfl Jh21
                        · refine v_iconst (x := 1) C dX17_isText_156 (by decide) ?_
                          refine v_goto (tgt := 161) C dX17_isText_157 (by decide) ?_
                          obtain ⟨e1, rfl⟩ := mret_inv hf
                          subst e1
                          exact v_sub (ls' := _) [2, 0, 1] rfl Jh21
                    · clear hf
                      have hf := hAh18
                      have hl := hlh18
                      refine v_icmp_ne C hf (tgt := 143) dX17_isText_136 (by decide) (fun c136 hf => ?_) (fun c136 hf => ?_)
                      · refine v_iconst (x := 0) C dX17_isText_143 (by decide) ?_
                        obtain ⟨e1, rfl⟩ := mret_inv hf
                        subst e1
                        exact v_sub (ls' := _) [1] rfl Jh18
                      · refine v_iconst (x := 1) C dX17_isText_139 (by decide) ?_
                        refine v_goto (tgt := 144) C dX17_isText_140 (by decide) ?_
                        obtain ⟨e1, rfl⟩ := mret_inv hf
                        subst e1
                        exact v_sub (ls' := _) [1] rfl Jh18
                  · refine v_aload_n C 1 dX17_isText_111 rfl rfl ?_
                    refine v_dup C dX17_isText_112 rfl ?_
                    refine v_gI (Cn := RX17) (T := TX17) (N := 37) C hf in_X17 rfl (by decide) q1814 rfl dX17_isText_113 (fun x23 hf => ?_)
                    refine v_iconst (x := 1) C dX17_isText_116 (by decide) ?_
                    refine v_iadd C dX17_isText_117 ?_
                    refine v_putv (Cn := RX17) (T := TX17) (N := 37) (ty0 := tyX17) C hf in_X17 tyX17_ok nmX17 rfl (by decide) q1814 rfl rfl rfl rfl dX17_isText_118 (fun h24 hf => ?_)
                    refine v_aload_n C 1 dX17_isText_121 rfl rfl ?_
                    refine v_callV (stk := fun _ => []) C (ct_X17_closes _ a0) rfl ⟨rfl, nd_X17_closes⟩ rfl (Nat.le_of_ble_eq_true rfl) (Nat.le_of_ble_eq_true rfl) [] (Nat.le_of_ble_eq_true rfl) (fun _ => rfl) rfl q2127 q2129 qs69 q127 q2130 hf hl dX17_isText_122 (fun x25 h26 hf => ?_)
                    refine v_aload_n C 1 dX17_isText_125 rfl rfl ?_
                    refine v_callV (stk := fun b => .int b :: []) C (ct_X17_readsOften _ a0) rfl ⟨rfl, nd_X17_readsOften⟩ rfl (Nat.le_of_ble_eq_true rfl) (Nat.le_of_ble_eq_true rfl) [] (Nat.le_of_ble_eq_true rfl) (fun _ => rfl) rfl q2119 q2121 qs67 q127 q2122 hf hl dX17_isText_126 (fun x27 h28 hf => ?_)
                    refine v_istore_n (ls' := [(2, _), (3, _), (0, _), (1, _)]) C dX17_isText_129 rfl (by decide) rfl ?_
                    refine v_goto (tgt := 165) C dX17_isText_130 (by decide) ?_
                    obtain ⟨e1, rfl⟩ := mret_inv hf
                    simp only [Prod.mk.injEq] at e1
                    obtain ⟨rfl, rfl⟩ := e1
                    exact v_sub (ls' := _) [2, 3, 0] rfl Jh9
              · refine v_aload_n C 1 dX17_isText_88 rfl rfl ?_
                refine v_callV (stk := fun b => .int b :: []) C (ct_X17_readsFactor _ a0) rfl ⟨rfl, nd_X17_readsFactor⟩ rfl (Nat.le_of_ble_eq_true rfl) (Nat.le_of_ble_eq_true rfl) [] (Nat.le_of_ble_eq_true rfl) (fun _ => rfl) rfl q2080 q2082 qs60 q127 q2083 hf hl dX17_isText_89 (fun x29 h30 hf => ?_)
                refine v_istore_n (ls' := [(2, _), (3, _), (0, _), (1, _)]) C dX17_isText_92 rfl (by decide) rfl ?_
                refine v_iconst (x := 0) C dX17_isText_93 (by decide) ?_
                refine v_istore_n (ls' := [(1, _), (2, _), (3, _), (0, _)]) C dX17_isText_94 rfl (by decide) rfl ?_
                refine v_goto (tgt := 165) C dX17_isText_95 (by decide) ?_
                obtain ⟨e1, rfl⟩ := mret_inv hf
                simp only [Prod.mk.injEq] at e1
                obtain ⟨rfl, rfl⟩ := e1
                exact v_sub (ls' := _) [3, 0, 1] rfl Jh9
            · refine v_iload_n C 0 dX17_isText_42 rfl rfl ?_
              refine v_bipush (x := 91) C dX17_isText_43 (by decide) ?_
              refine v_icmp_ne C hf (tgt := 84) dX17_isText_45 (by decide) (fun c45 hf => ?_) (fun c45 hf => ?_)
              · refine v_iload_n C 2 dX17_isText_84 rfl rfl ?_
                refine v_if_eq C hf (tgt := 98) dX17_isText_85 (by decide) (fun c85 hf => ?_) (fun c85 hf => ?_)
                · refine v_iload_n C 0 dX17_isText_98 rfl rfl ?_
                  refine v_bipush (x := 93) C dX17_isText_99 (by decide) ?_
                  refine v_icmp_ne C hf (tgt := 133) dX17_isText_101 (by decide) (fun c101 hf => ?_) (fun c101 hf => ?_)
                  · refine v_iload_n C 0 dX17_isText_133 rfl rfl ?_
                    refine v_bipush (x := 42) C dX17_isText_134 (by decide) ?_
                    obtain ⟨x31, h32, hAh32, hf, hlh32⟩ := mb_inv hf hl
                    refine v_cut (h1 := h32) (pc1 := 144) (ls1 := [(0, .ref a0)]) (st1 := [.int x31]) ?_ (fun Jh32 => ?_)
                    · clear hAh32 hlh32
                      refine v_istore_n (ls' := [(2, _), (0, _)]) C dX17_isText_144 rfl (by decide) rfl ?_
                      refine v_iload_n C 0 dX17_isText_145 rfl rfl ?_
                      refine v_istore_n (ls' := [(1, _), (2, _), (0, _)]) C dX17_isText_146 rfl (by decide) rfl ?_
                      refine v_aload_n C 2 dX17_isText_147 rfl rfl ?_
                      refine v_dup C dX17_isText_148 rfl ?_
                      refine v_gI (Cn := RX17) (T := TX17) (N := 37) C hf in_X17 rfl (by decide) q1814 rfl dX17_isText_149 (fun x33 hf => ?_)
                      refine v_iload_n C 1 dX17_isText_152 rfl rfl ?_
                      obtain ⟨x34, h35, hAh35, hf, hlh35⟩ := mb_inv hf hl
                      refine v_cut (h1 := h35) (pc1 := 161) (ls1 := [(0, .ref a0), (1, .int x31), (2, .int x31)]) (st1 := [.int x34, .int x33, .ref a0]) ?_ (fun Jh35 => ?_)
                      · clear hAh35 hlh35
                        refine v_iadd C dX17_isText_161 ?_
                        refine v_putv (Cn := RX17) (T := TX17) (N := 37) (ty0 := tyX17) C hf in_X17 tyX17_ok nmX17 rfl (by decide) q1814 rfl rfl rfl rfl dX17_isText_162 (fun h36 hf => ?_)
                        obtain ⟨e1, rfl⟩ := mret_inv hf
                        simp only [Prod.mk.injEq] at e1
                        obtain ⟨rfl, rfl⟩ := e1
                        exact v_sub (ls' := _) [0, 1, 2] rfl Jh9
                      · clear hf
                        have hf := hAh35
                        have hl := hlh35
                        refine v_if_eq C hf (tgt := 160) dX17_isText_153 (by decide) (fun c153 hf => ?_) (fun c153 hf => ?_)
                        · refine v_iconst (x := 0) C dX17_isText_160 (by decide) ?_
                          obtain ⟨e1, rfl⟩ := mret_inv hf
                          subst e1
                          exact v_sub (ls' := _) [2, 0, 1] rfl Jh35
                        · refine v_iconst (x := 1) C dX17_isText_156 (by decide) ?_
                          refine v_goto (tgt := 161) C dX17_isText_157 (by decide) ?_
                          obtain ⟨e1, rfl⟩ := mret_inv hf
                          subst e1
                          exact v_sub (ls' := _) [2, 0, 1] rfl Jh35
                    · clear hf
                      have hf := hAh32
                      have hl := hlh32
                      refine v_icmp_ne C hf (tgt := 143) dX17_isText_136 (by decide) (fun c136 hf => ?_) (fun c136 hf => ?_)
                      · refine v_iconst (x := 0) C dX17_isText_143 (by decide) ?_
                        obtain ⟨e1, rfl⟩ := mret_inv hf
                        subst e1
                        exact v_sub (ls' := _) [1] rfl Jh32
                      · refine v_iconst (x := 1) C dX17_isText_139 (by decide) ?_
                        refine v_goto (tgt := 144) C dX17_isText_140 (by decide) ?_
                        obtain ⟨e1, rfl⟩ := mret_inv hf
                        subst e1
                        exact v_sub (ls' := _) [1] rfl Jh32
                  · refine v_aload_n C 1 dX17_isText_104 rfl rfl ?_
                    refine v_gI (Cn := RX17) (T := TX17) (N := 37) C hf in_X17 rfl (by decide) q1818 rfl dX17_isText_105 (fun x37 hf => ?_)
                    refine v_if_le C hf (tgt := 133) dX17_isText_108 (by decide) (fun c108 hf => ?_) (fun c108 hf => ?_)
                    · refine v_iload_n C 0 dX17_isText_133 rfl rfl ?_
                      refine v_bipush (x := 42) C dX17_isText_134 (by decide) ?_
                      obtain ⟨x38, h39, hAh39, hf, hlh39⟩ := mb_inv hf hl
                      refine v_cut (h1 := h39) (pc1 := 144) (ls1 := [(0, .ref a0)]) (st1 := [.int x38]) ?_ (fun Jh39 => ?_)
                      · clear hAh39 hlh39
                        refine v_istore_n (ls' := [(2, _), (0, _)]) C dX17_isText_144 rfl (by decide) rfl ?_
                        refine v_iload_n C 0 dX17_isText_145 rfl rfl ?_
                        refine v_istore_n (ls' := [(1, _), (2, _), (0, _)]) C dX17_isText_146 rfl (by decide) rfl ?_
                        refine v_aload_n C 2 dX17_isText_147 rfl rfl ?_
                        refine v_dup C dX17_isText_148 rfl ?_
                        refine v_gI (Cn := RX17) (T := TX17) (N := 37) C hf in_X17 rfl (by decide) q1814 rfl dX17_isText_149 (fun x40 hf => ?_)
                        refine v_iload_n C 1 dX17_isText_152 rfl rfl ?_
                        obtain ⟨x41, h42, hAh42, hf, hlh42⟩ := mb_inv hf hl
                        refine v_cut (h1 := h42) (pc1 := 161) (ls1 := [(0, .ref a0), (1, .int x38), (2, .int x38)]) (st1 := [.int x41, .int x40, .ref a0]) ?_ (fun Jh42 => ?_)
                        · clear hAh42 hlh42
                          refine v_iadd C dX17_isText_161 ?_
                          refine v_putv (Cn := RX17) (T := TX17) (N := 37) (ty0 := tyX17) C hf in_X17 tyX17_ok nmX17 rfl (by decide) q1814 rfl rfl rfl rfl dX17_isText_162 (fun h43 hf => ?_)
                          obtain ⟨e1, rfl⟩ := mret_inv hf
                          simp only [Prod.mk.injEq] at e1
                          obtain ⟨rfl, rfl⟩ := e1
                          exact v_sub (ls' := _) [0, 1, 2] rfl Jh9
                        · clear hf
                          have hf := hAh42
                          have hl := hlh42
                          refine v_if_eq C hf (tgt := 160) dX17_isText_153 (by decide) (fun c153 hf => ?_) (fun c153 hf => ?_)
                          · refine v_iconst (x := 0) C dX17_isText_160 (by decide) ?_
                            obtain ⟨e1, rfl⟩ := mret_inv hf
                            subst e1
                            exact v_sub (ls' := _) [2, 0, 1] rfl Jh42
                          · refine v_iconst (x := 1) C dX17_isText_156 (by decide) ?_
                            refine v_goto (tgt := 161) C dX17_isText_157 (by decide) ?_
                            obtain ⟨e1, rfl⟩ := mret_inv hf
                            subst e1
                            exact v_sub (ls' := _) [2, 0, 1] rfl Jh42
                      · clear hf
                        have hf := hAh39
                        have hl := hlh39
                        refine v_icmp_ne C hf (tgt := 143) dX17_isText_136 (by decide) (fun c136 hf => ?_) (fun c136 hf => ?_)
                        · refine v_iconst (x := 0) C dX17_isText_143 (by decide) ?_
                          obtain ⟨e1, rfl⟩ := mret_inv hf
                          subst e1
                          exact v_sub (ls' := _) [1] rfl Jh39
                        · refine v_iconst (x := 1) C dX17_isText_139 (by decide) ?_
                          refine v_goto (tgt := 144) C dX17_isText_140 (by decide) ?_
                          obtain ⟨e1, rfl⟩ := mret_inv hf
                          subst e1
                          exact v_sub (ls' := _) [1] rfl Jh39
                    · refine v_aload_n C 1 dX17_isText_111 rfl rfl ?_
                      refine v_dup C dX17_isText_112 rfl ?_
                      refine v_gI (Cn := RX17) (T := TX17) (N := 37) C hf in_X17 rfl (by decide) q1814 rfl dX17_isText_113 (fun x44 hf => ?_)
                      refine v_iconst (x := 1) C dX17_isText_116 (by decide) ?_
                      refine v_iadd C dX17_isText_117 ?_
                      refine v_putv (Cn := RX17) (T := TX17) (N := 37) (ty0 := tyX17) C hf in_X17 tyX17_ok nmX17 rfl (by decide) q1814 rfl rfl rfl rfl dX17_isText_118 (fun h45 hf => ?_)
                      refine v_aload_n C 1 dX17_isText_121 rfl rfl ?_
                      refine v_callV (stk := fun _ => []) C (ct_X17_closes _ a0) rfl ⟨rfl, nd_X17_closes⟩ rfl (Nat.le_of_ble_eq_true rfl) (Nat.le_of_ble_eq_true rfl) [] (Nat.le_of_ble_eq_true rfl) (fun _ => rfl) rfl q2127 q2129 qs69 q127 q2130 hf hl dX17_isText_122 (fun x46 h47 hf => ?_)
                      refine v_aload_n C 1 dX17_isText_125 rfl rfl ?_
                      refine v_callV (stk := fun b => .int b :: []) C (ct_X17_readsOften _ a0) rfl ⟨rfl, nd_X17_readsOften⟩ rfl (Nat.le_of_ble_eq_true rfl) (Nat.le_of_ble_eq_true rfl) [] (Nat.le_of_ble_eq_true rfl) (fun _ => rfl) rfl q2119 q2121 qs67 q127 q2122 hf hl dX17_isText_126 (fun x48 h49 hf => ?_)
                      refine v_istore_n (ls' := [(2, _), (3, _), (0, _), (1, _)]) C dX17_isText_129 rfl (by decide) rfl ?_
                      refine v_goto (tgt := 165) C dX17_isText_130 (by decide) ?_
                      obtain ⟨e1, rfl⟩ := mret_inv hf
                      simp only [Prod.mk.injEq] at e1
                      obtain ⟨rfl, rfl⟩ := e1
                      exact v_sub (ls' := _) [2, 3, 0] rfl Jh9
                · refine v_aload_n C 1 dX17_isText_88 rfl rfl ?_
                  refine v_callV (stk := fun b => .int b :: []) C (ct_X17_readsFactor _ a0) rfl ⟨rfl, nd_X17_readsFactor⟩ rfl (Nat.le_of_ble_eq_true rfl) (Nat.le_of_ble_eq_true rfl) [] (Nat.le_of_ble_eq_true rfl) (fun _ => rfl) rfl q2080 q2082 qs60 q127 q2083 hf hl dX17_isText_89 (fun x50 h51 hf => ?_)
                  refine v_istore_n (ls' := [(2, _), (3, _), (0, _), (1, _)]) C dX17_isText_92 rfl (by decide) rfl ?_
                  refine v_iconst (x := 0) C dX17_isText_93 (by decide) ?_
                  refine v_istore_n (ls' := [(1, _), (2, _), (3, _), (0, _)]) C dX17_isText_94 rfl (by decide) rfl ?_
                  refine v_goto (tgt := 165) C dX17_isText_95 (by decide) ?_
                  obtain ⟨e1, rfl⟩ := mret_inv hf
                  simp only [Prod.mk.injEq] at e1
                  obtain ⟨rfl, rfl⟩ := e1
                  exact v_sub (ls' := _) [3, 0, 1] rfl Jh9
              · refine v_aload_n C 1 dX17_isText_48 rfl rfl ?_
                refine v_gI (Cn := RX17) (T := TX17) (N := 37) C hf in_X17 rfl (by decide) q1818 rfl dX17_isText_49 (fun x52 hf => ?_)
                refine v_bipush (x := 6) C dX17_isText_52 (by decide) ?_
                refine v_icmp_ge C hf (tgt := 84) dX17_isText_54 (by decide) (fun c54 hf => ?_) (fun c54 hf => ?_)
                · refine v_iload_n C 2 dX17_isText_84 rfl rfl ?_
                  refine v_if_eq C hf (tgt := 98) dX17_isText_85 (by decide) (fun c85 hf => ?_) (fun c85 hf => ?_)
                  · refine v_iload_n C 0 dX17_isText_98 rfl rfl ?_
                    refine v_bipush (x := 93) C dX17_isText_99 (by decide) ?_
                    refine v_icmp_ne C hf (tgt := 133) dX17_isText_101 (by decide) (fun c101 hf => ?_) (fun c101 hf => ?_)
                    · refine v_iload_n C 0 dX17_isText_133 rfl rfl ?_
                      refine v_bipush (x := 42) C dX17_isText_134 (by decide) ?_
                      obtain ⟨x53, h54, hAh54, hf, hlh54⟩ := mb_inv hf hl
                      refine v_cut (h1 := h54) (pc1 := 144) (ls1 := [(0, .ref a0)]) (st1 := [.int x53]) ?_ (fun Jh54 => ?_)
                      · clear hAh54 hlh54
                        refine v_istore_n (ls' := [(2, _), (0, _)]) C dX17_isText_144 rfl (by decide) rfl ?_
                        refine v_iload_n C 0 dX17_isText_145 rfl rfl ?_
                        refine v_istore_n (ls' := [(1, _), (2, _), (0, _)]) C dX17_isText_146 rfl (by decide) rfl ?_
                        refine v_aload_n C 2 dX17_isText_147 rfl rfl ?_
                        refine v_dup C dX17_isText_148 rfl ?_
                        refine v_gI (Cn := RX17) (T := TX17) (N := 37) C hf in_X17 rfl (by decide) q1814 rfl dX17_isText_149 (fun x55 hf => ?_)
                        refine v_iload_n C 1 dX17_isText_152 rfl rfl ?_
                        obtain ⟨x56, h57, hAh57, hf, hlh57⟩ := mb_inv hf hl
                        refine v_cut (h1 := h57) (pc1 := 161) (ls1 := [(0, .ref a0), (1, .int x53), (2, .int x53)]) (st1 := [.int x56, .int x55, .ref a0]) ?_ (fun Jh57 => ?_)
                        · clear hAh57 hlh57
                          refine v_iadd C dX17_isText_161 ?_
                          refine v_putv (Cn := RX17) (T := TX17) (N := 37) (ty0 := tyX17) C hf in_X17 tyX17_ok nmX17 rfl (by decide) q1814 rfl rfl rfl rfl dX17_isText_162 (fun h58 hf => ?_)
                          obtain ⟨e1, rfl⟩ := mret_inv hf
                          simp only [Prod.mk.injEq] at e1
                          obtain ⟨rfl, rfl⟩ := e1
                          exact v_sub (ls' := _) [0, 1, 2] rfl Jh9
                        · clear hf
                          have hf := hAh57
                          have hl := hlh57
                          refine v_if_eq C hf (tgt := 160) dX17_isText_153 (by decide) (fun c153 hf => ?_) (fun c153 hf => ?_)
                          · refine v_iconst (x := 0) C dX17_isText_160 (by decide) ?_
                            obtain ⟨e1, rfl⟩ := mret_inv hf
                            subst e1
                            exact v_sub (ls' := _) [2, 0, 1] rfl Jh57
                          · refine v_iconst (x := 1) C dX17_isText_156 (by decide) ?_
                            refine v_goto (tgt := 161) C dX17_isText_157 (by decide) ?_
                            obtain ⟨e1, rfl⟩ := mret_inv hf
                            subst e1
                            exact v_sub (ls' := _) [2, 0, 1] rfl Jh57
                      · clear hf
                        have hf := hAh54
                        have hl := hlh54
                        refine v_icmp_ne C hf (tgt := 143) dX17_isText_136 (by decide) (fun c136 hf => ?_) (fun c136 hf => ?_)
                        · refine v_iconst (x := 0) C dX17_isText_143 (by decide) ?_
                          obtain ⟨e1, rfl⟩ := mret_inv hf
                          subst e1
                          exact v_sub (ls' := _) [1] rfl Jh54
                        · refine v_iconst (x := 1) C dX17_isText_139 (by decide) ?_
                          refine v_goto (tgt := 144) C dX17_isText_140 (by decide) ?_
                          obtain ⟨e1, rfl⟩ := mret_inv hf
                          subst e1
                          exact v_sub (ls' := _) [1] rfl Jh54
                    · refine v_aload_n C 1 dX17_isText_104 rfl rfl ?_
                      refine v_gI (Cn := RX17) (T := TX17) (N := 37) C hf in_X17 rfl (by decide) q1818 rfl dX17_isText_105 (fun x59 hf => ?_)
                      refine v_if_le C hf (tgt := 133) dX17_isText_108 (by decide) (fun c108 hf => ?_) (fun c108 hf => ?_)
                      · refine v_iload_n C 0 dX17_isText_133 rfl rfl ?_
                        refine v_bipush (x := 42) C dX17_isText_134 (by decide) ?_
                        obtain ⟨x60, h61, hAh61, hf, hlh61⟩ := mb_inv hf hl
                        refine v_cut (h1 := h61) (pc1 := 144) (ls1 := [(0, .ref a0)]) (st1 := [.int x60]) ?_ (fun Jh61 => ?_)
                        · clear hAh61 hlh61
                          refine v_istore_n (ls' := [(2, _), (0, _)]) C dX17_isText_144 rfl (by decide) rfl ?_
                          refine v_iload_n C 0 dX17_isText_145 rfl rfl ?_
                          refine v_istore_n (ls' := [(1, _), (2, _), (0, _)]) C dX17_isText_146 rfl (by decide) rfl ?_
                          refine v_aload_n C 2 dX17_isText_147 rfl rfl ?_
                          refine v_dup C dX17_isText_148 rfl ?_
                          refine v_gI (Cn := RX17) (T := TX17) (N := 37) C hf in_X17 rfl (by decide) q1814 rfl dX17_isText_149 (fun x62 hf => ?_)
                          refine v_iload_n C 1 dX17_isText_152 rfl rfl ?_
                          obtain ⟨x63, h64, hAh64, hf, hlh64⟩ := mb_inv hf hl
                          refine v_cut (h1 := h64) (pc1 := 161) (ls1 := [(0, .ref a0), (1, .int x60), (2, .int x60)]) (st1 := [.int x63, .int x62, .ref a0]) ?_ (fun Jh64 => ?_)
                          · clear hAh64 hlh64
                            refine v_iadd C dX17_isText_161 ?_
                            refine v_putv (Cn := RX17) (T := TX17) (N := 37) (ty0 := tyX17) C hf in_X17 tyX17_ok nmX17 rfl (by decide) q1814 rfl rfl rfl rfl dX17_isText_162 (fun h65 hf => ?_)
                            obtain ⟨e1, rfl⟩ := mret_inv hf
                            simp only [Prod.mk.injEq] at e1
                            obtain ⟨rfl, rfl⟩ := e1
                            exact v_sub (ls' := _) [0, 1, 2] rfl Jh9
                          · clear hf
                            have hf := hAh64
                            have hl := hlh64
                            refine v_if_eq C hf (tgt := 160) dX17_isText_153 (by decide) (fun c153 hf => ?_) (fun c153 hf => ?_)
                            · refine v_iconst (x := 0) C dX17_isText_160 (by decide) ?_
                              obtain ⟨e1, rfl⟩ := mret_inv hf
                              subst e1
                              exact v_sub (ls' := _) [2, 0, 1] rfl Jh64
                            · refine v_iconst (x := 1) C dX17_isText_156 (by decide) ?_
                              refine v_goto (tgt := 161) C dX17_isText_157 (by decide) ?_
                              obtain ⟨e1, rfl⟩ := mret_inv hf
                              subst e1
                              exact v_sub (ls' := _) [2, 0, 1] rfl Jh64
                        · clear hf
                          have hf := hAh61
                          have hl := hlh61
                          refine v_icmp_ne C hf (tgt := 143) dX17_isText_136 (by decide) (fun c136 hf => ?_) (fun c136 hf => ?_)
                          · refine v_iconst (x := 0) C dX17_isText_143 (by decide) ?_
                            obtain ⟨e1, rfl⟩ := mret_inv hf
                            subst e1
                            exact v_sub (ls' := _) [1] rfl Jh61
                          · refine v_iconst (x := 1) C dX17_isText_139 (by decide) ?_
                            refine v_goto (tgt := 144) C dX17_isText_140 (by decide) ?_
                            obtain ⟨e1, rfl⟩ := mret_inv hf
                            subst e1
                            exact v_sub (ls' := _) [1] rfl Jh61
                      · refine v_aload_n C 1 dX17_isText_111 rfl rfl ?_
                        refine v_dup C dX17_isText_112 rfl ?_
                        refine v_gI (Cn := RX17) (T := TX17) (N := 37) C hf in_X17 rfl (by decide) q1814 rfl dX17_isText_113 (fun x66 hf => ?_)
                        refine v_iconst (x := 1) C dX17_isText_116 (by decide) ?_
                        refine v_iadd C dX17_isText_117 ?_
                        refine v_putv (Cn := RX17) (T := TX17) (N := 37) (ty0 := tyX17) C hf in_X17 tyX17_ok nmX17 rfl (by decide) q1814 rfl rfl rfl rfl dX17_isText_118 (fun h67 hf => ?_)
                        refine v_aload_n C 1 dX17_isText_121 rfl rfl ?_
                        refine v_callV (stk := fun _ => []) C (ct_X17_closes _ a0) rfl ⟨rfl, nd_X17_closes⟩ rfl (Nat.le_of_ble_eq_true rfl) (Nat.le_of_ble_eq_true rfl) [] (Nat.le_of_ble_eq_true rfl) (fun _ => rfl) rfl q2127 q2129 qs69 q127 q2130 hf hl dX17_isText_122 (fun x68 h69 hf => ?_)
                        refine v_aload_n C 1 dX17_isText_125 rfl rfl ?_
                        refine v_callV (stk := fun b => .int b :: []) C (ct_X17_readsOften _ a0) rfl ⟨rfl, nd_X17_readsOften⟩ rfl (Nat.le_of_ble_eq_true rfl) (Nat.le_of_ble_eq_true rfl) [] (Nat.le_of_ble_eq_true rfl) (fun _ => rfl) rfl q2119 q2121 qs67 q127 q2122 hf hl dX17_isText_126 (fun x70 h71 hf => ?_)
                        refine v_istore_n (ls' := [(2, _), (3, _), (0, _), (1, _)]) C dX17_isText_129 rfl (by decide) rfl ?_
                        refine v_goto (tgt := 165) C dX17_isText_130 (by decide) ?_
                        obtain ⟨e1, rfl⟩ := mret_inv hf
                        simp only [Prod.mk.injEq] at e1
                        obtain ⟨rfl, rfl⟩ := e1
                        exact v_sub (ls' := _) [2, 3, 0] rfl Jh9
                  · refine v_aload_n C 1 dX17_isText_88 rfl rfl ?_
                    refine v_callV (stk := fun b => .int b :: []) C (ct_X17_readsFactor _ a0) rfl ⟨rfl, nd_X17_readsFactor⟩ rfl (Nat.le_of_ble_eq_true rfl) (Nat.le_of_ble_eq_true rfl) [] (Nat.le_of_ble_eq_true rfl) (fun _ => rfl) rfl q2080 q2082 qs60 q127 q2083 hf hl dX17_isText_89 (fun x72 h73 hf => ?_)
                    refine v_istore_n (ls' := [(2, _), (3, _), (0, _), (1, _)]) C dX17_isText_92 rfl (by decide) rfl ?_
                    refine v_iconst (x := 0) C dX17_isText_93 (by decide) ?_
                    refine v_istore_n (ls' := [(1, _), (2, _), (3, _), (0, _)]) C dX17_isText_94 rfl (by decide) rfl ?_
                    refine v_goto (tgt := 165) C dX17_isText_95 (by decide) ?_
                    obtain ⟨e1, rfl⟩ := mret_inv hf
                    simp only [Prod.mk.injEq] at e1
                    obtain ⟨rfl, rfl⟩ := e1
                    exact v_sub (ls' := _) [3, 0, 1] rfl Jh9
                · refine v_aload_n C 1 dX17_isText_57 rfl rfl ?_
                  refine v_dup C dX17_isText_58 rfl ?_
                  refine v_gI (Cn := RX17) (T := TX17) (N := 37) C hf in_X17 rfl (by decide) q1814 rfl dX17_isText_59 (fun x74 hf => ?_)
                  refine v_iconst (x := 1) C dX17_isText_62 (by decide) ?_
                  refine v_iadd C dX17_isText_63 ?_
                  refine v_putv (Cn := RX17) (T := TX17) (N := 37) (ty0 := tyX17) C hf in_X17 tyX17_ok nmX17 rfl (by decide) q1814 rfl rfl rfl rfl dX17_isText_64 (fun h75 hf => ?_)
                  refine v_aload_n C 1 dX17_isText_67 rfl rfl ?_
                  refine v_dup C dX17_isText_68 rfl ?_
                  refine v_gI (Cn := RX17) (T := TX17) (N := 37) C hf in_X17 rfl (by decide) q1818 rfl dX17_isText_69 (fun x76 hf => ?_)
                  refine v_iconst (x := 1) C dX17_isText_72 (by decide) ?_
                  refine v_iadd C dX17_isText_73 ?_
                  refine v_putv (Cn := RX17) (T := TX17) (N := 37) (ty0 := tyX17) C hf in_X17 tyX17_ok nmX17 rfl (by decide) q1818 rfl rfl rfl rfl dX17_isText_74 (fun h77 hf => ?_)
                  refine v_aload_n C 1 dX17_isText_77 rfl rfl ?_
                  refine v_callV (stk := fun _ => []) C (ct_X17_begins _ a0) rfl ⟨rfl, nd_X17_begins⟩ rfl (Nat.le_of_ble_eq_true rfl) (Nat.le_of_ble_eq_true rfl) [] (Nat.le_of_ble_eq_true rfl) (fun _ => rfl) rfl q2072 q2074 qs58 q127 q2075 hf hl dX17_isText_78 (fun x78 h79 hf => ?_)
                  refine v_goto (tgt := 165) C dX17_isText_81 (by decide) ?_
                  obtain ⟨e1, rfl⟩ := mret_inv hf
                  simp only [Prod.mk.injEq] at e1
                  obtain ⟨rfl, rfl⟩ := e1
                  exact v_sub (ls' := _) [1, 2, 3] rfl Jh9
        · refine v_aload_n C 0 dX17_isText_26 rfl rfl ?_
          refine v_callV (stk := fun b => .int b :: []) C (ct_X17_here _ a0) rfl ⟨rfl, nd_X17_here⟩ rfl (Nat.le_of_ble_eq_true rfl) (Nat.le_of_ble_eq_true rfl) [] (Nat.le_of_ble_eq_true rfl) (fun _ => rfl) rfl q2076 q2078 qs59 q127 q2079 hf hl dX17_isText_27 (fun x80 h81 hf => ?_)
          refine v_if_eq C hf (tgt := 168) dX17_isText_30 (by decide) (fun c30 hf => ?_) (fun c30 hf => ?_)
          · obtain ⟨e1, rfl⟩ := mret_inv hf
            subst e1
            exact v_sub (ls' := _) [0, 2] rfl J
          · refine v_aload_n C 0 dX17_isText_33 rfl rfl ?_
            refine v_callV (stk := fun b => .int b :: []) C (ct_X17_here _ a0) rfl ⟨rfl, nd_X17_here⟩ rfl (Nat.le_of_ble_eq_true rfl) (Nat.le_of_ble_eq_true rfl) [] (Nat.le_of_ble_eq_true rfl) (fun _ => rfl) rfl q2076 q2078 qs59 q127 q2079 hf hl dX17_isText_34 (fun x82 h83 hf => ?_)
            refine v_istore_n (ls' := [(3, _), (0, _), (1, _), (2, _)]) C dX17_isText_37 rfl (by decide) rfl ?_
            refine v_iload_n C 2 dX17_isText_38 rfl rfl ?_
            obtain ⟨⟨x84, x85⟩, h86, hAh86, hf, hlh86⟩ := mb_inv hf hl
            refine v_cut (h1 := h86) (pc1 := 165) (ls1 := [(0, .ref a0), (1, .int x84), (2, .int x85)]) (st1 := []) ?_ (fun Jh86 => ?_)
            · clear hAh86 hlh86
              refine v_goto (tgt := 18) C dX17_isText_165 (by decide) ?_
              refine v_sub (ls' := _) [0, 1, 2] rfl (ih x84 x85 _ _ _ hf hl J)
            · clear hf
              have hf := hAh86
              have hl := hlh86
              refine v_if_eq C hf (tgt := 84) dX17_isText_39 (by decide) (fun c39 hf => ?_) (fun c39 hf => ?_)
              · refine v_iload_n C 2 dX17_isText_84 rfl rfl ?_
                refine v_if_eq C hf (tgt := 98) dX17_isText_85 (by decide) (fun c85 hf => ?_) (fun c85 hf => ?_)
                · refine v_iload_n C 0 dX17_isText_98 rfl rfl ?_
                  refine v_bipush (x := 93) C dX17_isText_99 (by decide) ?_
                  refine v_icmp_ne C hf (tgt := 133) dX17_isText_101 (by decide) (fun c101 hf => ?_) (fun c101 hf => ?_)
                  · refine v_iload_n C 0 dX17_isText_133 rfl rfl ?_
                    refine v_bipush (x := 42) C dX17_isText_134 (by decide) ?_
                    obtain ⟨x87, h88, hAh88, hf, hlh88⟩ := mb_inv hf hl
                    refine v_cut (h1 := h88) (pc1 := 144) (ls1 := [(0, .ref a0)]) (st1 := [.int x87]) ?_ (fun Jh88 => ?_)
                    · clear hAh88 hlh88
                      refine v_istore_n (ls' := [(2, _), (0, _)]) C dX17_isText_144 rfl (by decide) rfl ?_
                      refine v_iload_n C 0 dX17_isText_145 rfl rfl ?_
                      refine v_istore_n (ls' := [(1, _), (2, _), (0, _)]) C dX17_isText_146 rfl (by decide) rfl ?_
                      refine v_aload_n C 2 dX17_isText_147 rfl rfl ?_
                      refine v_dup C dX17_isText_148 rfl ?_
                      refine v_gI (Cn := RX17) (T := TX17) (N := 37) C hf in_X17 rfl (by decide) q1814 rfl dX17_isText_149 (fun x89 hf => ?_)
                      refine v_iload_n C 1 dX17_isText_152 rfl rfl ?_
                      obtain ⟨x90, h91, hAh91, hf, hlh91⟩ := mb_inv hf hl
                      refine v_cut (h1 := h91) (pc1 := 161) (ls1 := [(0, .ref a0), (1, .int x87), (2, .int x87)]) (st1 := [.int x90, .int x89, .ref a0]) ?_ (fun Jh91 => ?_)
                      · clear hAh91 hlh91
                        refine v_iadd C dX17_isText_161 ?_
                        refine v_putv (Cn := RX17) (T := TX17) (N := 37) (ty0 := tyX17) C hf in_X17 tyX17_ok nmX17 rfl (by decide) q1814 rfl rfl rfl rfl dX17_isText_162 (fun h92 hf => ?_)
                        obtain ⟨e1, rfl⟩ := mret_inv hf
                        simp only [Prod.mk.injEq] at e1
                        obtain ⟨rfl, rfl⟩ := e1
                        exact v_sub (ls' := _) [0, 1, 2] rfl Jh86
                      · clear hf
                        have hf := hAh91
                        have hl := hlh91
                        refine v_if_eq C hf (tgt := 160) dX17_isText_153 (by decide) (fun c153 hf => ?_) (fun c153 hf => ?_)
                        · refine v_iconst (x := 0) C dX17_isText_160 (by decide) ?_
                          obtain ⟨e1, rfl⟩ := mret_inv hf
                          subst e1
                          exact v_sub (ls' := _) [2, 0, 1] rfl Jh91
                        · refine v_iconst (x := 1) C dX17_isText_156 (by decide) ?_
                          refine v_goto (tgt := 161) C dX17_isText_157 (by decide) ?_
                          obtain ⟨e1, rfl⟩ := mret_inv hf
                          subst e1
                          exact v_sub (ls' := _) [2, 0, 1] rfl Jh91
                    · clear hf
                      have hf := hAh88
                      have hl := hlh88
                      refine v_icmp_ne C hf (tgt := 143) dX17_isText_136 (by decide) (fun c136 hf => ?_) (fun c136 hf => ?_)
                      · refine v_iconst (x := 0) C dX17_isText_143 (by decide) ?_
                        obtain ⟨e1, rfl⟩ := mret_inv hf
                        subst e1
                        exact v_sub (ls' := _) [1] rfl Jh88
                      · refine v_iconst (x := 1) C dX17_isText_139 (by decide) ?_
                        refine v_goto (tgt := 144) C dX17_isText_140 (by decide) ?_
                        obtain ⟨e1, rfl⟩ := mret_inv hf
                        subst e1
                        exact v_sub (ls' := _) [1] rfl Jh88
                  · refine v_aload_n C 1 dX17_isText_104 rfl rfl ?_
                    refine v_gI (Cn := RX17) (T := TX17) (N := 37) C hf in_X17 rfl (by decide) q1818 rfl dX17_isText_105 (fun x93 hf => ?_)
                    refine v_if_le C hf (tgt := 133) dX17_isText_108 (by decide) (fun c108 hf => ?_) (fun c108 hf => ?_)
                    · refine v_iload_n C 0 dX17_isText_133 rfl rfl ?_
                      refine v_bipush (x := 42) C dX17_isText_134 (by decide) ?_
                      obtain ⟨x94, h95, hAh95, hf, hlh95⟩ := mb_inv hf hl
                      refine v_cut (h1 := h95) (pc1 := 144) (ls1 := [(0, .ref a0)]) (st1 := [.int x94]) ?_ (fun Jh95 => ?_)
                      · clear hAh95 hlh95
                        refine v_istore_n (ls' := [(2, _), (0, _)]) C dX17_isText_144 rfl (by decide) rfl ?_
                        refine v_iload_n C 0 dX17_isText_145 rfl rfl ?_
                        refine v_istore_n (ls' := [(1, _), (2, _), (0, _)]) C dX17_isText_146 rfl (by decide) rfl ?_
                        refine v_aload_n C 2 dX17_isText_147 rfl rfl ?_
                        refine v_dup C dX17_isText_148 rfl ?_
                        refine v_gI (Cn := RX17) (T := TX17) (N := 37) C hf in_X17 rfl (by decide) q1814 rfl dX17_isText_149 (fun x96 hf => ?_)
                        refine v_iload_n C 1 dX17_isText_152 rfl rfl ?_
                        obtain ⟨x97, h98, hAh98, hf, hlh98⟩ := mb_inv hf hl
                        refine v_cut (h1 := h98) (pc1 := 161) (ls1 := [(0, .ref a0), (1, .int x94), (2, .int x94)]) (st1 := [.int x97, .int x96, .ref a0]) ?_ (fun Jh98 => ?_)
                        · clear hAh98 hlh98
                          refine v_iadd C dX17_isText_161 ?_
                          refine v_putv (Cn := RX17) (T := TX17) (N := 37) (ty0 := tyX17) C hf in_X17 tyX17_ok nmX17 rfl (by decide) q1814 rfl rfl rfl rfl dX17_isText_162 (fun h99 hf => ?_)
                          obtain ⟨e1, rfl⟩ := mret_inv hf
                          simp only [Prod.mk.injEq] at e1
                          obtain ⟨rfl, rfl⟩ := e1
                          exact v_sub (ls' := _) [0, 1, 2] rfl Jh86
                        · clear hf
                          have hf := hAh98
                          have hl := hlh98
                          refine v_if_eq C hf (tgt := 160) dX17_isText_153 (by decide) (fun c153 hf => ?_) (fun c153 hf => ?_)
                          · refine v_iconst (x := 0) C dX17_isText_160 (by decide) ?_
                            obtain ⟨e1, rfl⟩ := mret_inv hf
                            subst e1
                            exact v_sub (ls' := _) [2, 0, 1] rfl Jh98
                          · refine v_iconst (x := 1) C dX17_isText_156 (by decide) ?_
                            refine v_goto (tgt := 161) C dX17_isText_157 (by decide) ?_
                            obtain ⟨e1, rfl⟩ := mret_inv hf
                            subst e1
                            exact v_sub (ls' := _) [2, 0, 1] rfl Jh98
                      · clear hf
                        have hf := hAh95
                        have hl := hlh95
                        refine v_icmp_ne C hf (tgt := 143) dX17_isText_136 (by decide) (fun c136 hf => ?_) (fun c136 hf => ?_)
                        · refine v_iconst (x := 0) C dX17_isText_143 (by decide) ?_
                          obtain ⟨e1, rfl⟩ := mret_inv hf
                          subst e1
                          exact v_sub (ls' := _) [1] rfl Jh95
                        · refine v_iconst (x := 1) C dX17_isText_139 (by decide) ?_
                          refine v_goto (tgt := 144) C dX17_isText_140 (by decide) ?_
                          obtain ⟨e1, rfl⟩ := mret_inv hf
                          subst e1
                          exact v_sub (ls' := _) [1] rfl Jh95
                    · refine v_aload_n C 1 dX17_isText_111 rfl rfl ?_
                      refine v_dup C dX17_isText_112 rfl ?_
                      refine v_gI (Cn := RX17) (T := TX17) (N := 37) C hf in_X17 rfl (by decide) q1814 rfl dX17_isText_113 (fun x100 hf => ?_)
                      refine v_iconst (x := 1) C dX17_isText_116 (by decide) ?_
                      refine v_iadd C dX17_isText_117 ?_
                      refine v_putv (Cn := RX17) (T := TX17) (N := 37) (ty0 := tyX17) C hf in_X17 tyX17_ok nmX17 rfl (by decide) q1814 rfl rfl rfl rfl dX17_isText_118 (fun h101 hf => ?_)
                      refine v_aload_n C 1 dX17_isText_121 rfl rfl ?_
                      refine v_callV (stk := fun _ => []) C (ct_X17_closes _ a0) rfl ⟨rfl, nd_X17_closes⟩ rfl (Nat.le_of_ble_eq_true rfl) (Nat.le_of_ble_eq_true rfl) [] (Nat.le_of_ble_eq_true rfl) (fun _ => rfl) rfl q2127 q2129 qs69 q127 q2130 hf hl dX17_isText_122 (fun x102 h103 hf => ?_)
                      refine v_aload_n C 1 dX17_isText_125 rfl rfl ?_
                      refine v_callV (stk := fun b => .int b :: []) C (ct_X17_readsOften _ a0) rfl ⟨rfl, nd_X17_readsOften⟩ rfl (Nat.le_of_ble_eq_true rfl) (Nat.le_of_ble_eq_true rfl) [] (Nat.le_of_ble_eq_true rfl) (fun _ => rfl) rfl q2119 q2121 qs67 q127 q2122 hf hl dX17_isText_126 (fun x104 h105 hf => ?_)
                      refine v_istore_n (ls' := [(2, _), (3, _), (0, _), (1, _)]) C dX17_isText_129 rfl (by decide) rfl ?_
                      refine v_goto (tgt := 165) C dX17_isText_130 (by decide) ?_
                      obtain ⟨e1, rfl⟩ := mret_inv hf
                      simp only [Prod.mk.injEq] at e1
                      obtain ⟨rfl, rfl⟩ := e1
                      exact v_sub (ls' := _) [2, 3, 0] rfl Jh86
                · refine v_aload_n C 1 dX17_isText_88 rfl rfl ?_
                  refine v_callV (stk := fun b => .int b :: []) C (ct_X17_readsFactor _ a0) rfl ⟨rfl, nd_X17_readsFactor⟩ rfl (Nat.le_of_ble_eq_true rfl) (Nat.le_of_ble_eq_true rfl) [] (Nat.le_of_ble_eq_true rfl) (fun _ => rfl) rfl q2080 q2082 qs60 q127 q2083 hf hl dX17_isText_89 (fun x106 h107 hf => ?_)
                  refine v_istore_n (ls' := [(2, _), (3, _), (0, _), (1, _)]) C dX17_isText_92 rfl (by decide) rfl ?_
                  refine v_iconst (x := 0) C dX17_isText_93 (by decide) ?_
                  refine v_istore_n (ls' := [(1, _), (2, _), (3, _), (0, _)]) C dX17_isText_94 rfl (by decide) rfl ?_
                  refine v_goto (tgt := 165) C dX17_isText_95 (by decide) ?_
                  obtain ⟨e1, rfl⟩ := mret_inv hf
                  simp only [Prod.mk.injEq] at e1
                  obtain ⟨rfl, rfl⟩ := e1
                  exact v_sub (ls' := _) [3, 0, 1] rfl Jh86
              · refine v_iload_n C 0 dX17_isText_42 rfl rfl ?_
                refine v_bipush (x := 91) C dX17_isText_43 (by decide) ?_
                refine v_icmp_ne C hf (tgt := 84) dX17_isText_45 (by decide) (fun c45 hf => ?_) (fun c45 hf => ?_)
                · refine v_iload_n C 2 dX17_isText_84 rfl rfl ?_
                  refine v_if_eq C hf (tgt := 98) dX17_isText_85 (by decide) (fun c85 hf => ?_) (fun c85 hf => ?_)
                  · refine v_iload_n C 0 dX17_isText_98 rfl rfl ?_
                    refine v_bipush (x := 93) C dX17_isText_99 (by decide) ?_
                    refine v_icmp_ne C hf (tgt := 133) dX17_isText_101 (by decide) (fun c101 hf => ?_) (fun c101 hf => ?_)
                    · refine v_iload_n C 0 dX17_isText_133 rfl rfl ?_
                      refine v_bipush (x := 42) C dX17_isText_134 (by decide) ?_
                      obtain ⟨x108, h109, hAh109, hf, hlh109⟩ := mb_inv hf hl
                      refine v_cut (h1 := h109) (pc1 := 144) (ls1 := [(0, .ref a0)]) (st1 := [.int x108]) ?_ (fun Jh109 => ?_)
                      · clear hAh109 hlh109
                        refine v_istore_n (ls' := [(2, _), (0, _)]) C dX17_isText_144 rfl (by decide) rfl ?_
                        refine v_iload_n C 0 dX17_isText_145 rfl rfl ?_
                        refine v_istore_n (ls' := [(1, _), (2, _), (0, _)]) C dX17_isText_146 rfl (by decide) rfl ?_
                        refine v_aload_n C 2 dX17_isText_147 rfl rfl ?_
                        refine v_dup C dX17_isText_148 rfl ?_
                        refine v_gI (Cn := RX17) (T := TX17) (N := 37) C hf in_X17 rfl (by decide) q1814 rfl dX17_isText_149 (fun x110 hf => ?_)
                        refine v_iload_n C 1 dX17_isText_152 rfl rfl ?_
                        obtain ⟨x111, h112, hAh112, hf, hlh112⟩ := mb_inv hf hl
                        refine v_cut (h1 := h112) (pc1 := 161) (ls1 := [(0, .ref a0), (1, .int x108), (2, .int x108)]) (st1 := [.int x111, .int x110, .ref a0]) ?_ (fun Jh112 => ?_)
                        · clear hAh112 hlh112
                          refine v_iadd C dX17_isText_161 ?_
                          refine v_putv (Cn := RX17) (T := TX17) (N := 37) (ty0 := tyX17) C hf in_X17 tyX17_ok nmX17 rfl (by decide) q1814 rfl rfl rfl rfl dX17_isText_162 (fun h113 hf => ?_)
                          obtain ⟨e1, rfl⟩ := mret_inv hf
                          simp only [Prod.mk.injEq] at e1
                          obtain ⟨rfl, rfl⟩ := e1
                          exact v_sub (ls' := _) [0, 1, 2] rfl Jh86
                        · clear hf
                          have hf := hAh112
                          have hl := hlh112
                          refine v_if_eq C hf (tgt := 160) dX17_isText_153 (by decide) (fun c153 hf => ?_) (fun c153 hf => ?_)
                          · refine v_iconst (x := 0) C dX17_isText_160 (by decide) ?_
                            obtain ⟨e1, rfl⟩ := mret_inv hf
                            subst e1
                            exact v_sub (ls' := _) [2, 0, 1] rfl Jh112
                          · refine v_iconst (x := 1) C dX17_isText_156 (by decide) ?_
                            refine v_goto (tgt := 161) C dX17_isText_157 (by decide) ?_
                            obtain ⟨e1, rfl⟩ := mret_inv hf
                            subst e1
                            exact v_sub (ls' := _) [2, 0, 1] rfl Jh112
                      · clear hf
                        have hf := hAh109
                        have hl := hlh109
                        refine v_icmp_ne C hf (tgt := 143) dX17_isText_136 (by decide) (fun c136 hf => ?_) (fun c136 hf => ?_)
                        · refine v_iconst (x := 0) C dX17_isText_143 (by decide) ?_
                          obtain ⟨e1, rfl⟩ := mret_inv hf
                          subst e1
                          exact v_sub (ls' := _) [1] rfl Jh109
                        · refine v_iconst (x := 1) C dX17_isText_139 (by decide) ?_
                          refine v_goto (tgt := 144) C dX17_isText_140 (by decide) ?_
                          obtain ⟨e1, rfl⟩ := mret_inv hf
                          subst e1
                          exact v_sub (ls' := _) [1] rfl Jh109
                    · refine v_aload_n C 1 dX17_isText_104 rfl rfl ?_
                      refine v_gI (Cn := RX17) (T := TX17) (N := 37) C hf in_X17 rfl (by decide) q1818 rfl dX17_isText_105 (fun x114 hf => ?_)
                      refine v_if_le C hf (tgt := 133) dX17_isText_108 (by decide) (fun c108 hf => ?_) (fun c108 hf => ?_)
                      · refine v_iload_n C 0 dX17_isText_133 rfl rfl ?_
                        refine v_bipush (x := 42) C dX17_isText_134 (by decide) ?_
                        obtain ⟨x115, h116, hAh116, hf, hlh116⟩ := mb_inv hf hl
                        refine v_cut (h1 := h116) (pc1 := 144) (ls1 := [(0, .ref a0)]) (st1 := [.int x115]) ?_ (fun Jh116 => ?_)
                        · clear hAh116 hlh116
                          refine v_istore_n (ls' := [(2, _), (0, _)]) C dX17_isText_144 rfl (by decide) rfl ?_
                          refine v_iload_n C 0 dX17_isText_145 rfl rfl ?_
                          refine v_istore_n (ls' := [(1, _), (2, _), (0, _)]) C dX17_isText_146 rfl (by decide) rfl ?_
                          refine v_aload_n C 2 dX17_isText_147 rfl rfl ?_
                          refine v_dup C dX17_isText_148 rfl ?_
                          refine v_gI (Cn := RX17) (T := TX17) (N := 37) C hf in_X17 rfl (by decide) q1814 rfl dX17_isText_149 (fun x117 hf => ?_)
                          refine v_iload_n C 1 dX17_isText_152 rfl rfl ?_
                          obtain ⟨x118, h119, hAh119, hf, hlh119⟩ := mb_inv hf hl
                          refine v_cut (h1 := h119) (pc1 := 161) (ls1 := [(0, .ref a0), (1, .int x115), (2, .int x115)]) (st1 := [.int x118, .int x117, .ref a0]) ?_ (fun Jh119 => ?_)
                          · clear hAh119 hlh119
                            refine v_iadd C dX17_isText_161 ?_
                            refine v_putv (Cn := RX17) (T := TX17) (N := 37) (ty0 := tyX17) C hf in_X17 tyX17_ok nmX17 rfl (by decide) q1814 rfl rfl rfl rfl dX17_isText_162 (fun h120 hf => ?_)
                            obtain ⟨e1, rfl⟩ := mret_inv hf
                            simp only [Prod.mk.injEq] at e1
                            obtain ⟨rfl, rfl⟩ := e1
                            exact v_sub (ls' := _) [0, 1, 2] rfl Jh86
                          · clear hf
                            have hf := hAh119
                            have hl := hlh119
                            refine v_if_eq C hf (tgt := 160) dX17_isText_153 (by decide) (fun c153 hf => ?_) (fun c153 hf => ?_)
                            · refine v_iconst (x := 0) C dX17_isText_160 (by decide) ?_
                              obtain ⟨e1, rfl⟩ := mret_inv hf
                              subst e1
                              exact v_sub (ls' := _) [2, 0, 1] rfl Jh119
                            · refine v_iconst (x := 1) C dX17_isText_156 (by decide) ?_
                              refine v_goto (tgt := 161) C dX17_isText_157 (by decide) ?_
                              obtain ⟨e1, rfl⟩ := mret_inv hf
                              subst e1
                              exact v_sub (ls' := _) [2, 0, 1] rfl Jh119
                        · clear hf
                          have hf := hAh116
                          have hl := hlh116
                          refine v_icmp_ne C hf (tgt := 143) dX17_isText_136 (by decide) (fun c136 hf => ?_) (fun c136 hf => ?_)
                          · refine v_iconst (x := 0) C dX17_isText_143 (by decide) ?_
                            obtain ⟨e1, rfl⟩ := mret_inv hf
                            subst e1
                            exact v_sub (ls' := _) [1] rfl Jh116
                          · refine v_iconst (x := 1) C dX17_isText_139 (by decide) ?_
                            refine v_goto (tgt := 144) C dX17_isText_140 (by decide) ?_
                            obtain ⟨e1, rfl⟩ := mret_inv hf
                            subst e1
                            exact v_sub (ls' := _) [1] rfl Jh116
                      · refine v_aload_n C 1 dX17_isText_111 rfl rfl ?_
                        refine v_dup C dX17_isText_112 rfl ?_
                        refine v_gI (Cn := RX17) (T := TX17) (N := 37) C hf in_X17 rfl (by decide) q1814 rfl dX17_isText_113 (fun x121 hf => ?_)
                        refine v_iconst (x := 1) C dX17_isText_116 (by decide) ?_
                        refine v_iadd C dX17_isText_117 ?_
                        refine v_putv (Cn := RX17) (T := TX17) (N := 37) (ty0 := tyX17) C hf in_X17 tyX17_ok nmX17 rfl (by decide) q1814 rfl rfl rfl rfl dX17_isText_118 (fun h122 hf => ?_)
                        refine v_aload_n C 1 dX17_isText_121 rfl rfl ?_
                        refine v_callV (stk := fun _ => []) C (ct_X17_closes _ a0) rfl ⟨rfl, nd_X17_closes⟩ rfl (Nat.le_of_ble_eq_true rfl) (Nat.le_of_ble_eq_true rfl) [] (Nat.le_of_ble_eq_true rfl) (fun _ => rfl) rfl q2127 q2129 qs69 q127 q2130 hf hl dX17_isText_122 (fun x123 h124 hf => ?_)
                        refine v_aload_n C 1 dX17_isText_125 rfl rfl ?_
                        refine v_callV (stk := fun b => .int b :: []) C (ct_X17_readsOften _ a0) rfl ⟨rfl, nd_X17_readsOften⟩ rfl (Nat.le_of_ble_eq_true rfl) (Nat.le_of_ble_eq_true rfl) [] (Nat.le_of_ble_eq_true rfl) (fun _ => rfl) rfl q2119 q2121 qs67 q127 q2122 hf hl dX17_isText_126 (fun x125 h126 hf => ?_)
                        refine v_istore_n (ls' := [(2, _), (3, _), (0, _), (1, _)]) C dX17_isText_129 rfl (by decide) rfl ?_
                        refine v_goto (tgt := 165) C dX17_isText_130 (by decide) ?_
                        obtain ⟨e1, rfl⟩ := mret_inv hf
                        simp only [Prod.mk.injEq] at e1
                        obtain ⟨rfl, rfl⟩ := e1
                        exact v_sub (ls' := _) [2, 3, 0] rfl Jh86
                  · refine v_aload_n C 1 dX17_isText_88 rfl rfl ?_
                    refine v_callV (stk := fun b => .int b :: []) C (ct_X17_readsFactor _ a0) rfl ⟨rfl, nd_X17_readsFactor⟩ rfl (Nat.le_of_ble_eq_true rfl) (Nat.le_of_ble_eq_true rfl) [] (Nat.le_of_ble_eq_true rfl) (fun _ => rfl) rfl q2080 q2082 qs60 q127 q2083 hf hl dX17_isText_89 (fun x127 h128 hf => ?_)
                    refine v_istore_n (ls' := [(2, _), (3, _), (0, _), (1, _)]) C dX17_isText_92 rfl (by decide) rfl ?_
                    refine v_iconst (x := 0) C dX17_isText_93 (by decide) ?_
                    refine v_istore_n (ls' := [(1, _), (2, _), (3, _), (0, _)]) C dX17_isText_94 rfl (by decide) rfl ?_
                    refine v_goto (tgt := 165) C dX17_isText_95 (by decide) ?_
                    obtain ⟨e1, rfl⟩ := mret_inv hf
                    simp only [Prod.mk.injEq] at e1
                    obtain ⟨rfl, rfl⟩ := e1
                    exact v_sub (ls' := _) [3, 0, 1] rfl Jh86
                · refine v_aload_n C 1 dX17_isText_48 rfl rfl ?_
                  refine v_gI (Cn := RX17) (T := TX17) (N := 37) C hf in_X17 rfl (by decide) q1818 rfl dX17_isText_49 (fun x129 hf => ?_)
                  refine v_bipush (x := 6) C dX17_isText_52 (by decide) ?_
                  refine v_icmp_ge C hf (tgt := 84) dX17_isText_54 (by decide) (fun c54 hf => ?_) (fun c54 hf => ?_)
                  · refine v_iload_n C 2 dX17_isText_84 rfl rfl ?_
                    refine v_if_eq C hf (tgt := 98) dX17_isText_85 (by decide) (fun c85 hf => ?_) (fun c85 hf => ?_)
                    · refine v_iload_n C 0 dX17_isText_98 rfl rfl ?_
                      refine v_bipush (x := 93) C dX17_isText_99 (by decide) ?_
                      refine v_icmp_ne C hf (tgt := 133) dX17_isText_101 (by decide) (fun c101 hf => ?_) (fun c101 hf => ?_)
                      · refine v_iload_n C 0 dX17_isText_133 rfl rfl ?_
                        refine v_bipush (x := 42) C dX17_isText_134 (by decide) ?_
                        obtain ⟨x130, h131, hAh131, hf, hlh131⟩ := mb_inv hf hl
                        refine v_cut (h1 := h131) (pc1 := 144) (ls1 := [(0, .ref a0)]) (st1 := [.int x130]) ?_ (fun Jh131 => ?_)
                        · clear hAh131 hlh131
                          refine v_istore_n (ls' := [(2, _), (0, _)]) C dX17_isText_144 rfl (by decide) rfl ?_
                          refine v_iload_n C 0 dX17_isText_145 rfl rfl ?_
                          refine v_istore_n (ls' := [(1, _), (2, _), (0, _)]) C dX17_isText_146 rfl (by decide) rfl ?_
                          refine v_aload_n C 2 dX17_isText_147 rfl rfl ?_
                          refine v_dup C dX17_isText_148 rfl ?_
                          refine v_gI (Cn := RX17) (T := TX17) (N := 37) C hf in_X17 rfl (by decide) q1814 rfl dX17_isText_149 (fun x132 hf => ?_)
                          refine v_iload_n C 1 dX17_isText_152 rfl rfl ?_
                          obtain ⟨x133, h134, hAh134, hf, hlh134⟩ := mb_inv hf hl
                          refine v_cut (h1 := h134) (pc1 := 161) (ls1 := [(0, .ref a0), (1, .int x130), (2, .int x130)]) (st1 := [.int x133, .int x132, .ref a0]) ?_ (fun Jh134 => ?_)
                          · clear hAh134 hlh134
                            refine v_iadd C dX17_isText_161 ?_
                            refine v_putv (Cn := RX17) (T := TX17) (N := 37) (ty0 := tyX17) C hf in_X17 tyX17_ok nmX17 rfl (by decide) q1814 rfl rfl rfl rfl dX17_isText_162 (fun h135 hf => ?_)
                            obtain ⟨e1, rfl⟩ := mret_inv hf
                            simp only [Prod.mk.injEq] at e1
                            obtain ⟨rfl, rfl⟩ := e1
                            exact v_sub (ls' := _) [0, 1, 2] rfl Jh86
                          · clear hf
                            have hf := hAh134
                            have hl := hlh134
                            refine v_if_eq C hf (tgt := 160) dX17_isText_153 (by decide) (fun c153 hf => ?_) (fun c153 hf => ?_)
                            · refine v_iconst (x := 0) C dX17_isText_160 (by decide) ?_
                              obtain ⟨e1, rfl⟩ := mret_inv hf
                              subst e1
                              exact v_sub (ls' := _) [2, 0, 1] rfl Jh134
                            · refine v_iconst (x := 1) C dX17_isText_156 (by decide) ?_
                              refine v_goto (tgt := 161) C dX17_isText_157 (by decide) ?_
                              obtain ⟨e1, rfl⟩ := mret_inv hf
                              subst e1
                              exact v_sub (ls' := _) [2, 0, 1] rfl Jh134
                        · clear hf
                          have hf := hAh131
                          have hl := hlh131
                          refine v_icmp_ne C hf (tgt := 143) dX17_isText_136 (by decide) (fun c136 hf => ?_) (fun c136 hf => ?_)
                          · refine v_iconst (x := 0) C dX17_isText_143 (by decide) ?_
                            obtain ⟨e1, rfl⟩ := mret_inv hf
                            subst e1
                            exact v_sub (ls' := _) [1] rfl Jh131
                          · refine v_iconst (x := 1) C dX17_isText_139 (by decide) ?_
                            refine v_goto (tgt := 144) C dX17_isText_140 (by decide) ?_
                            obtain ⟨e1, rfl⟩ := mret_inv hf
                            subst e1
                            exact v_sub (ls' := _) [1] rfl Jh131
                      · refine v_aload_n C 1 dX17_isText_104 rfl rfl ?_
                        refine v_gI (Cn := RX17) (T := TX17) (N := 37) C hf in_X17 rfl (by decide) q1818 rfl dX17_isText_105 (fun x136 hf => ?_)
                        refine v_if_le C hf (tgt := 133) dX17_isText_108 (by decide) (fun c108 hf => ?_) (fun c108 hf => ?_)
                        · refine v_iload_n C 0 dX17_isText_133 rfl rfl ?_
                          refine v_bipush (x := 42) C dX17_isText_134 (by decide) ?_
                          obtain ⟨x137, h138, hAh138, hf, hlh138⟩ := mb_inv hf hl
                          refine v_cut (h1 := h138) (pc1 := 144) (ls1 := [(0, .ref a0)]) (st1 := [.int x137]) ?_ (fun Jh138 => ?_)
                          · clear hAh138 hlh138
                            refine v_istore_n (ls' := [(2, _), (0, _)]) C dX17_isText_144 rfl (by decide) rfl ?_
                            refine v_iload_n C 0 dX17_isText_145 rfl rfl ?_
                            refine v_istore_n (ls' := [(1, _), (2, _), (0, _)]) C dX17_isText_146 rfl (by decide) rfl ?_
                            refine v_aload_n C 2 dX17_isText_147 rfl rfl ?_
                            refine v_dup C dX17_isText_148 rfl ?_
                            refine v_gI (Cn := RX17) (T := TX17) (N := 37) C hf in_X17 rfl (by decide) q1814 rfl dX17_isText_149 (fun x139 hf => ?_)
                            refine v_iload_n C 1 dX17_isText_152 rfl rfl ?_
                            obtain ⟨x140, h141, hAh141, hf, hlh141⟩ := mb_inv hf hl
                            refine v_cut (h1 := h141) (pc1 := 161) (ls1 := [(0, .ref a0), (1, .int x137), (2, .int x137)]) (st1 := [.int x140, .int x139, .ref a0]) ?_ (fun Jh141 => ?_)
                            · clear hAh141 hlh141
                              refine v_iadd C dX17_isText_161 ?_
                              refine v_putv (Cn := RX17) (T := TX17) (N := 37) (ty0 := tyX17) C hf in_X17 tyX17_ok nmX17 rfl (by decide) q1814 rfl rfl rfl rfl dX17_isText_162 (fun h142 hf => ?_)
                              obtain ⟨e1, rfl⟩ := mret_inv hf
                              simp only [Prod.mk.injEq] at e1
                              obtain ⟨rfl, rfl⟩ := e1
                              exact v_sub (ls' := _) [0, 1, 2] rfl Jh86
                            · clear hf
                              have hf := hAh141
                              have hl := hlh141
                              refine v_if_eq C hf (tgt := 160) dX17_isText_153 (by decide) (fun c153 hf => ?_) (fun c153 hf => ?_)
                              · refine v_iconst (x := 0) C dX17_isText_160 (by decide) ?_
                                obtain ⟨e1, rfl⟩ := mret_inv hf
                                subst e1
                                exact v_sub (ls' := _) [2, 0, 1] rfl Jh141
                              · refine v_iconst (x := 1) C dX17_isText_156 (by decide) ?_
                                refine v_goto (tgt := 161) C dX17_isText_157 (by decide) ?_
                                obtain ⟨e1, rfl⟩ := mret_inv hf
                                subst e1
                                exact v_sub (ls' := _) [2, 0, 1] rfl Jh141
                          · clear hf
                            have hf := hAh138
                            have hl := hlh138
                            refine v_icmp_ne C hf (tgt := 143) dX17_isText_136 (by decide) (fun c136 hf => ?_) (fun c136 hf => ?_)
                            · refine v_iconst (x := 0) C dX17_isText_143 (by decide) ?_
                              obtain ⟨e1, rfl⟩ := mret_inv hf
                              subst e1
                              exact v_sub (ls' := _) [1] rfl Jh138
                            · refine v_iconst (x := 1) C dX17_isText_139 (by decide) ?_
                              refine v_goto (tgt := 144) C dX17_isText_140 (by decide) ?_
                              obtain ⟨e1, rfl⟩ := mret_inv hf
                              subst e1
                              exact v_sub (ls' := _) [1] rfl Jh138
                        · refine v_aload_n C 1 dX17_isText_111 rfl rfl ?_
                          refine v_dup C dX17_isText_112 rfl ?_
                          refine v_gI (Cn := RX17) (T := TX17) (N := 37) C hf in_X17 rfl (by decide) q1814 rfl dX17_isText_113 (fun x143 hf => ?_)
                          refine v_iconst (x := 1) C dX17_isText_116 (by decide) ?_
                          refine v_iadd C dX17_isText_117 ?_
                          refine v_putv (Cn := RX17) (T := TX17) (N := 37) (ty0 := tyX17) C hf in_X17 tyX17_ok nmX17 rfl (by decide) q1814 rfl rfl rfl rfl dX17_isText_118 (fun h144 hf => ?_)
                          refine v_aload_n C 1 dX17_isText_121 rfl rfl ?_
                          refine v_callV (stk := fun _ => []) C (ct_X17_closes _ a0) rfl ⟨rfl, nd_X17_closes⟩ rfl (Nat.le_of_ble_eq_true rfl) (Nat.le_of_ble_eq_true rfl) [] (Nat.le_of_ble_eq_true rfl) (fun _ => rfl) rfl q2127 q2129 qs69 q127 q2130 hf hl dX17_isText_122 (fun x145 h146 hf => ?_)
                          refine v_aload_n C 1 dX17_isText_125 rfl rfl ?_
                          refine v_callV (stk := fun b => .int b :: []) C (ct_X17_readsOften _ a0) rfl ⟨rfl, nd_X17_readsOften⟩ rfl (Nat.le_of_ble_eq_true rfl) (Nat.le_of_ble_eq_true rfl) [] (Nat.le_of_ble_eq_true rfl) (fun _ => rfl) rfl q2119 q2121 qs67 q127 q2122 hf hl dX17_isText_126 (fun x147 h148 hf => ?_)
                          refine v_istore_n (ls' := [(2, _), (3, _), (0, _), (1, _)]) C dX17_isText_129 rfl (by decide) rfl ?_
                          refine v_goto (tgt := 165) C dX17_isText_130 (by decide) ?_
                          obtain ⟨e1, rfl⟩ := mret_inv hf
                          simp only [Prod.mk.injEq] at e1
                          obtain ⟨rfl, rfl⟩ := e1
                          exact v_sub (ls' := _) [2, 3, 0] rfl Jh86
                    · refine v_aload_n C 1 dX17_isText_88 rfl rfl ?_
                      refine v_callV (stk := fun b => .int b :: []) C (ct_X17_readsFactor _ a0) rfl ⟨rfl, nd_X17_readsFactor⟩ rfl (Nat.le_of_ble_eq_true rfl) (Nat.le_of_ble_eq_true rfl) [] (Nat.le_of_ble_eq_true rfl) (fun _ => rfl) rfl q2080 q2082 qs60 q127 q2083 hf hl dX17_isText_89 (fun x149 h150 hf => ?_)
                      refine v_istore_n (ls' := [(2, _), (3, _), (0, _), (1, _)]) C dX17_isText_92 rfl (by decide) rfl ?_
                      refine v_iconst (x := 0) C dX17_isText_93 (by decide) ?_
                      refine v_istore_n (ls' := [(1, _), (2, _), (3, _), (0, _)]) C dX17_isText_94 rfl (by decide) rfl ?_
                      refine v_goto (tgt := 165) C dX17_isText_95 (by decide) ?_
                      obtain ⟨e1, rfl⟩ := mret_inv hf
                      simp only [Prod.mk.injEq] at e1
                      obtain ⟨rfl, rfl⟩ := e1
                      exact v_sub (ls' := _) [3, 0, 1] rfl Jh86
                  · refine v_aload_n C 1 dX17_isText_57 rfl rfl ?_
                    refine v_dup C dX17_isText_58 rfl ?_
                    refine v_gI (Cn := RX17) (T := TX17) (N := 37) C hf in_X17 rfl (by decide) q1814 rfl dX17_isText_59 (fun x151 hf => ?_)
                    refine v_iconst (x := 1) C dX17_isText_62 (by decide) ?_
                    refine v_iadd C dX17_isText_63 ?_
                    refine v_putv (Cn := RX17) (T := TX17) (N := 37) (ty0 := tyX17) C hf in_X17 tyX17_ok nmX17 rfl (by decide) q1814 rfl rfl rfl rfl dX17_isText_64 (fun h152 hf => ?_)
                    refine v_aload_n C 1 dX17_isText_67 rfl rfl ?_
                    refine v_dup C dX17_isText_68 rfl ?_
                    refine v_gI (Cn := RX17) (T := TX17) (N := 37) C hf in_X17 rfl (by decide) q1818 rfl dX17_isText_69 (fun x153 hf => ?_)
                    refine v_iconst (x := 1) C dX17_isText_72 (by decide) ?_
                    refine v_iadd C dX17_isText_73 ?_
                    refine v_putv (Cn := RX17) (T := TX17) (N := 37) (ty0 := tyX17) C hf in_X17 tyX17_ok nmX17 rfl (by decide) q1818 rfl rfl rfl rfl dX17_isText_74 (fun h154 hf => ?_)
                    refine v_aload_n C 1 dX17_isText_77 rfl rfl ?_
                    refine v_callV (stk := fun _ => []) C (ct_X17_begins _ a0) rfl ⟨rfl, nd_X17_begins⟩ rfl (Nat.le_of_ble_eq_true rfl) (Nat.le_of_ble_eq_true rfl) [] (Nat.le_of_ble_eq_true rfl) (fun _ => rfl) rfl q2072 q2074 qs58 q127 q2075 hf hl dX17_isText_78 (fun x155 h156 hf => ?_)
                    refine v_goto (tgt := 165) C dX17_isText_81 (by decide) ?_
                    obtain ⟨e1, rfl⟩ := mret_inv hf
                    simp only [Prod.mk.injEq] at e1
                    obtain ⟨rfl, rfl⟩ := e1
                    exact v_sub (ls' := _) [1, 2, 3] rfl Jh86
  unfold f_X17_isText at hf
  refine v_aload_n C 0 dX17_isText_0 rfl rfl ?_
  refine v_iconst (x := 0) C dX17_isText_1 (by decide) ?_
  refine v_putv (Cn := RX17) (T := TX17) (N := 37) (ty0 := tyX17) C hf in_X17 tyX17_ok nmX17 rfl (by decide) q1814 rfl rfl rfl rfl dX17_isText_2 (fun h1 hf => ?_)
  refine v_aload_n C 0 dX17_isText_5 rfl rfl ?_
  refine v_iconst (x := 0) C dX17_isText_6 (by decide) ?_
  refine v_putv (Cn := RX17) (T := TX17) (N := 37) (ty0 := tyX17) C hf in_X17 tyX17_ok nmX17 rfl (by decide) q1818 rfl rfl rfl rfl dX17_isText_7 (fun h2 hf => ?_)
  refine v_aload_n C 0 dX17_isText_10 rfl rfl ?_
  refine v_callV (stk := fun _ => []) C (ct_X17_begins _ a0) rfl ⟨rfl, nd_X17_begins⟩ rfl (Nat.le_of_ble_eq_true rfl) (Nat.le_of_ble_eq_true rfl) [] (Nat.le_of_ble_eq_true rfl) (fun _ => rfl) rfl q2072 q2074 qs58 q127 q2075 hf hl dX17_isText_11 (fun x3 h4 hf => ?_)
  refine v_iconst (x := 1) C dX17_isText_14 (by decide) ?_
  refine v_istore_n (ls' := [(1, _), (0, _)]) C dX17_isText_15 rfl (by decide) rfl ?_
  refine v_iconst (x := 1) C dX17_isText_16 (by decide) ?_
  refine v_istore_n (ls' := [(2, _), (1, _), (0, _)]) C dX17_isText_17 rfl (by decide) rfl ?_
  obtain ⟨x157, h158, eh158, hf, hlh158⟩ := mb_inv hf hl
  refine v_sub (ls' := _) [2, 1, 0] rfl (L18 a0 FU (1 : Int32) (1 : Int32) _ _ _ eh158 hlh158 ?_)
  refine v_iload_n C 1 dX17_isText_168 rfl rfl ?_
  obtain ⟨x159, h160, hAh160, hf, hlh160⟩ := mb_inv hf hl
  refine v_cut (h1 := h160) (pc1 := 184) (ls1 := []) (st1 := [.int x159]) ?_ (fun Jh160 => ?_)
  · clear hAh160 hlh160
    exact v_zret C E hf dX17_isText_184
  · clear hf
    have hf := hAh160
    have hl := hlh160
    refine v_if_eq C hf (tgt := 183) dX17_isText_169 (by decide) (fun c169 hf => ?_) (fun c169 hf => ?_)
    · refine v_iconst (x := 0) C dX17_isText_183 (by decide) ?_
      obtain ⟨e1, rfl⟩ := mret_inv hf
      subst e1
      exact v_sub (ls' := _) [] rfl Jh160
    · refine v_aload_n C 0 dX17_isText_172 rfl rfl ?_
      refine v_gI (Cn := RX17) (T := TX17) (N := 37) C hf in_X17 rfl (by decide) q1818 rfl dX17_isText_173 (fun x161 hf => ?_)
      refine v_if_ne C hf (tgt := 183) dX17_isText_176 (by decide) (fun c176 hf => ?_) (fun c176 hf => ?_)
      · refine v_iconst (x := 0) C dX17_isText_183 (by decide) ?_
        obtain ⟨e1, rfl⟩ := mret_inv hf
        subst e1
        exact v_sub (ls' := _) [] rfl Jh160
      · refine v_iconst (x := 1) C dX17_isText_179 (by decide) ?_
        refine v_goto (tgt := 184) C dX17_isText_180 (by decide) ?_
        obtain ⟨e1, rfl⟩ := mret_inv hf
        subst e1
        exact v_sub (ls' := _) [] rfl Jh160
def f_X17_group (a0 : Nat) (i1 : Int32) (i2 : Int32) : hM Int32 :=
  mb (f_X17_isGroup i1) fun x1 => mi (x1 = 0) (mret (-1 : Int32)) (mb (f_X17_in i2.toInt64 (0 : Int64) (4 : Int64)) fun x3 => mi (¬ x3 = 0) (mb (mat a0 15 (f_X17_allKeep a0 i1)) fun x5 => mi (¬ x5 = 0) (mi (i2 = 0) (mb (mat a0 15 (f_X17_builds a0 i1 (0 : Int32))) fun _ => mb (mat a0 15 (f_X17_manyFrom a0 (0 : Int32))) fun x9 => mret x9) (mi (i2 = 1) (mb (mat a0 15 (f_X17_orbitsOfPlaces a0 i1)) fun x11 => mret x11) (mi (i2 = 2) (mb (mi (¬ i2 = (2 : Int32)) (mret (12 : Int32)) (mret (8 : Int32))) fun x13 => mb (mat a0 15 (f_X17_orbitsOfWords a0 i1 x13)) fun x15 => mret x15) (mi (i2 = 3) (mb (mi (¬ i2 = (2 : Int32)) (mret (12 : Int32)) (mret (8 : Int32))) fun x17 => mb (mat a0 15 (f_X17_orbitsOfWords a0 i1 x17)) fun x19 => mret x19) (mi (i2 = 4) (mb (mat a0 15 (f_X17_orbitsOfSextets a0 i1)) fun x21 => mret x21) (mb (mi (¬ i2 = (2 : Int32)) (mret (12 : Int32)) (mret (8 : Int32))) fun x23 => mb (mat a0 15 (f_X17_orbitsOfWords a0 i1 x23)) fun x25 => mret x25)))))) (mret (-2 : Int32))) (mret (-1 : Int32)))
theorem nd_X17_group : yX17_group.cls ≠ "java/lang/invoke/MethodHandle" ∧ yX17_group.cls ≠ "java/lang/invoke/VarHandle" ∧ (parseMethodDescriptor yX17_group.desc).map (fun d => d.parameters.length) = some 2 := by decide +kernel
set_option maxHeartbeats 4000000 in
theorem ct_X17_group (l : Launch) (a0 : Nat) (i1 : Int32) (i2 : Int32) : CT l yX17_group cX17_group 3 (some .int) 5 119 rvI [.ref a0, .int i1, .int i2] (f_X17_group a0 i1 i2) := by
  refine CT_of (ls := [(0, .ref a0), (1, .int i1), (2, .int i2)]) (by decide) (Nat.le_of_ble_eq_true rfl) rfl ?_
  intro X h he z hX hf C E hnm hh
  have hl := hle.rf he
  subst hX
  unfold f_X17_group at hf
  refine v_iload_n C 1 dX17_group_0 rfl rfl ?_
  refine v_callS (stk := fun b => .int b :: []) C (ct_X17_isGroup _ i1) nd_X17_isGroup rfl (Nat.le_of_ble_eq_true rfl) (Nat.le_of_ble_eq_true rfl) [] (Nat.le_of_ble_eq_true rfl) (fun _ => rfl) rfl q2139 q2140 q127 q2141 hf hl dX17_group_1 (fun x1 h2 hf => ?_)
  refine v_if_eq C hf (tgt := 19) dX17_group_4 (by decide) (fun c4 hf => ?_) (fun c4 hf => ?_)
  · refine v_iconst (x := (-1)) C dX17_group_19 (by decide) ?_
    exact v_iret C E hf dX17_group_20
  · refine v_iload_n C 2 dX17_group_7 rfl rfl ?_
    refine v_i2l C dX17_group_8 ?_
    refine v_lconst (x := 0) C dX17_group_9 (by decide) ?_
    refine v_ldc2 (x := 4) C q1992 dX17_group_10 ?_
    refine v_callS (stk := fun b => .int b :: []) C (ct_X17_in _ i2.toInt64 (0 : Int64) (4 : Int64)) nd_X17_in rfl (Nat.le_of_ble_eq_true rfl) (Nat.le_of_ble_eq_true rfl) [] (Nat.le_of_ble_eq_true rfl) (fun _ => rfl) rfl q1779 q1780 q127 q1781 hf hl dX17_group_13 (fun x3 h4 hf => ?_)
    refine v_if_ne C hf (tgt := 21) dX17_group_16 (by decide) (fun c16 hf => ?_) (fun c16 hf => ?_)
    · refine v_aload_n C 0 dX17_group_21 rfl rfl ?_
      refine v_iload_n C 1 dX17_group_22 rfl rfl ?_
      refine v_callV (stk := fun b => .int b :: []) C (ct_X17_allKeep _ a0 i1) rfl ⟨rfl, nd_X17_allKeep⟩ rfl (Nat.le_of_ble_eq_true rfl) (Nat.le_of_ble_eq_true rfl) [] (Nat.le_of_ble_eq_true rfl) (fun _ => rfl) rfl q2143 q2145 qs71 q127 q2146 hf hl dX17_group_23 (fun x5 h6 hf => ?_)
      refine v_if_ne C hf (tgt := 32) dX17_group_26 (by decide) (fun c26 hf => ?_) (fun c26 hf => ?_)
      · refine v_iload_n C 2 dX17_group_32 rfl rfl ?_
        by_cases e33_0 : i2 = 0
        · have hf := mi_pos e33_0 hf
          refine v_tswI C (k := 0) e33_0 dX17_group_33 (by decide) (by decide) rfl (tgt := 68) (by decide) ?_
          refine v_aload_n C 0 dX17_group_68 rfl rfl ?_
          refine v_iload_n C 1 dX17_group_69 rfl rfl ?_
          refine v_iconst (x := 0) C dX17_group_70 (by decide) ?_
          refine v_callV (stk := fun _ => []) C (ct_X17_builds _ a0 i1 (0 : Int32)) rfl ⟨rfl, nd_X17_builds⟩ rfl (Nat.le_of_ble_eq_true rfl) (Nat.le_of_ble_eq_true rfl) [] (Nat.le_of_ble_eq_true rfl) (fun _ => rfl) rfl q2147 q2149 qs72 q127 q2150 hf hl dX17_group_71 (fun x7 h8 hf => ?_)
          refine v_aload_n C 0 dX17_group_74 rfl rfl ?_
          refine v_iconst (x := 0) C dX17_group_75 (by decide) ?_
          refine v_callV (stk := fun b => .int b :: []) C (ct_X17_manyFrom _ a0 (0 : Int32)) rfl ⟨rfl, nd_X17_manyFrom⟩ rfl (Nat.le_of_ble_eq_true rfl) (Nat.le_of_ble_eq_true rfl) [] (Nat.le_of_ble_eq_true rfl) (fun _ => rfl) rfl q2175 q2177 qs79 q127 q2178 hf hl dX17_group_76 (fun x9 h10 hf => ?_)
          exact v_iret C E hf dX17_group_79
        have hf := mi_neg e33_0 hf
        by_cases e33_1 : i2 = 1
        · have hf := mi_pos e33_1 hf
          refine v_tswI C (k := 1) e33_1 dX17_group_33 (by decide) (by decide) rfl (tgt := 80) (by decide) ?_
          refine v_aload_n C 0 dX17_group_80 rfl rfl ?_
          refine v_iload_n C 1 dX17_group_81 rfl rfl ?_
          refine v_callV (stk := fun b => .int b :: []) C (ct_X17_orbitsOfPlaces _ a0 i1) rfl ⟨rfl, nd_X17_orbitsOfPlaces⟩ rfl (Nat.le_of_ble_eq_true rfl) (Nat.le_of_ble_eq_true rfl) [] (Nat.le_of_ble_eq_true rfl) (fun _ => rfl) rfl q2179 q2181 qs80 q127 q2182 hf hl dX17_group_82 (fun x11 h12 hf => ?_)
          exact v_iret C E hf dX17_group_85
        have hf := mi_neg e33_1 hf
        by_cases e33_2 : i2 = 2
        · have hf := mi_pos e33_2 hf
          refine v_tswI C (k := 2) e33_2 dX17_group_33 (by decide) (by decide) rfl (tgt := 92) (by decide) ?_
          refine v_aload_n C 0 dX17_group_92 rfl rfl ?_
          refine v_iload_n C 1 dX17_group_93 rfl rfl ?_
          refine v_iload_n C 2 dX17_group_94 rfl rfl ?_
          refine v_iconst (x := 2) C dX17_group_95 (by decide) ?_
          obtain ⟨x13, h14, hAh14, hf, hlh14⟩ := mb_inv hf hl
          refine v_cut (h1 := h14) (pc1 := 106) (ls1 := []) (st1 := [.int x13, .int i1, .ref a0]) ?_ (fun Jh14 => ?_)
          · clear hAh14 hlh14
            refine v_callV (stk := fun b => .int b :: []) C (ct_X17_orbitsOfWords _ a0 i1 x13) rfl ⟨rfl, nd_X17_orbitsOfWords⟩ rfl (Nat.le_of_ble_eq_true rfl) (Nat.le_of_ble_eq_true rfl) [] (Nat.le_of_ble_eq_true rfl) (fun _ => rfl) rfl q2206 q2208 qs86 q127 q2209 hf hl dX17_group_106 (fun x15 h16 hf => ?_)
            exact v_iret C E hf dX17_group_109
          · clear hf
            have hf := hAh14
            have hl := hlh14
            refine v_icmp_ne C hf (tgt := 104) dX17_group_96 (by decide) (fun c96 hf => ?_) (fun c96 hf => ?_)
            · refine v_bipush (x := 12) C dX17_group_104 (by decide) ?_
              obtain ⟨e1, rfl⟩ := mret_inv hf
              subst e1
              exact v_sub (ls' := _) [] rfl Jh14
            · refine v_bipush (x := 8) C dX17_group_99 (by decide) ?_
              refine v_goto (tgt := 106) C dX17_group_101 (by decide) ?_
              obtain ⟨e1, rfl⟩ := mret_inv hf
              subst e1
              exact v_sub (ls' := _) [] rfl Jh14
        have hf := mi_neg e33_2 hf
        by_cases e33_3 : i2 = 3
        · have hf := mi_pos e33_3 hf
          refine v_tswI C (k := 3) e33_3 dX17_group_33 (by decide) (by decide) rfl (tgt := 92) (by decide) ?_
          refine v_aload_n C 0 dX17_group_92 rfl rfl ?_
          refine v_iload_n C 1 dX17_group_93 rfl rfl ?_
          refine v_iload_n C 2 dX17_group_94 rfl rfl ?_
          refine v_iconst (x := 2) C dX17_group_95 (by decide) ?_
          obtain ⟨x17, h18, hAh18, hf, hlh18⟩ := mb_inv hf hl
          refine v_cut (h1 := h18) (pc1 := 106) (ls1 := []) (st1 := [.int x17, .int i1, .ref a0]) ?_ (fun Jh18 => ?_)
          · clear hAh18 hlh18
            refine v_callV (stk := fun b => .int b :: []) C (ct_X17_orbitsOfWords _ a0 i1 x17) rfl ⟨rfl, nd_X17_orbitsOfWords⟩ rfl (Nat.le_of_ble_eq_true rfl) (Nat.le_of_ble_eq_true rfl) [] (Nat.le_of_ble_eq_true rfl) (fun _ => rfl) rfl q2206 q2208 qs86 q127 q2209 hf hl dX17_group_106 (fun x19 h20 hf => ?_)
            exact v_iret C E hf dX17_group_109
          · clear hf
            have hf := hAh18
            have hl := hlh18
            refine v_icmp_ne C hf (tgt := 104) dX17_group_96 (by decide) (fun c96 hf => ?_) (fun c96 hf => ?_)
            · refine v_bipush (x := 12) C dX17_group_104 (by decide) ?_
              obtain ⟨e1, rfl⟩ := mret_inv hf
              subst e1
              exact v_sub (ls' := _) [] rfl Jh18
            · refine v_bipush (x := 8) C dX17_group_99 (by decide) ?_
              refine v_goto (tgt := 106) C dX17_group_101 (by decide) ?_
              obtain ⟨e1, rfl⟩ := mret_inv hf
              subst e1
              exact v_sub (ls' := _) [] rfl Jh18
        have hf := mi_neg e33_3 hf
        by_cases e33_4 : i2 = 4
        · have hf := mi_pos e33_4 hf
          refine v_tswI C (k := 4) e33_4 dX17_group_33 (by decide) (by decide) rfl (tgt := 86) (by decide) ?_
          refine v_aload_n C 0 dX17_group_86 rfl rfl ?_
          refine v_iload_n C 1 dX17_group_87 rfl rfl ?_
          refine v_callV (stk := fun b => .int b :: []) C (ct_X17_orbitsOfSextets _ a0 i1) rfl ⟨rfl, nd_X17_orbitsOfSextets⟩ rfl (Nat.le_of_ble_eq_true rfl) (Nat.le_of_ble_eq_true rfl) [] (Nat.le_of_ble_eq_true rfl) (fun _ => rfl) rfl q2187 q2189 qs82 q127 q2190 hf hl dX17_group_88 (fun x21 h22 hf => ?_)
          exact v_iret C E hf dX17_group_91
        have hf := mi_neg e33_4 hf
        refine v_tswO C (n := 5) (lo := 0) (x := i2) (fun j hj => ?_) dX17_group_33 rfl rfl (tgt := 92) (by decide) ?_
        · rcases (show j = 0 ∨ j = 1 ∨ j = 2 ∨ j = 3 ∨ j = 4 by omega) with rfl | rfl | rfl | rfl | rfl
          · exact e33_0
          · exact e33_1
          · exact e33_2
          · exact e33_3
          · exact e33_4
        refine v_aload_n C 0 dX17_group_92 rfl rfl ?_
        refine v_iload_n C 1 dX17_group_93 rfl rfl ?_
        refine v_iload_n C 2 dX17_group_94 rfl rfl ?_
        refine v_iconst (x := 2) C dX17_group_95 (by decide) ?_
        obtain ⟨x23, h24, hAh24, hf, hlh24⟩ := mb_inv hf hl
        refine v_cut (h1 := h24) (pc1 := 106) (ls1 := []) (st1 := [.int x23, .int i1, .ref a0]) ?_ (fun Jh24 => ?_)
        · clear hAh24 hlh24
          refine v_callV (stk := fun b => .int b :: []) C (ct_X17_orbitsOfWords _ a0 i1 x23) rfl ⟨rfl, nd_X17_orbitsOfWords⟩ rfl (Nat.le_of_ble_eq_true rfl) (Nat.le_of_ble_eq_true rfl) [] (Nat.le_of_ble_eq_true rfl) (fun _ => rfl) rfl q2206 q2208 qs86 q127 q2209 hf hl dX17_group_106 (fun x25 h26 hf => ?_)
          exact v_iret C E hf dX17_group_109
        · clear hf
          have hf := hAh24
          have hl := hlh24
          refine v_icmp_ne C hf (tgt := 104) dX17_group_96 (by decide) (fun c96 hf => ?_) (fun c96 hf => ?_)
          · refine v_bipush (x := 12) C dX17_group_104 (by decide) ?_
            obtain ⟨e1, rfl⟩ := mret_inv hf
            subst e1
            exact v_sub (ls' := _) [] rfl Jh24
          · refine v_bipush (x := 8) C dX17_group_99 (by decide) ?_
            refine v_goto (tgt := 106) C dX17_group_101 (by decide) ?_
            obtain ⟨e1, rfl⟩ := mret_inv hf
            subst e1
            exact v_sub (ls' := _) [] rfl Jh24
      · refine v_bipush (x := (-2)) C dX17_group_29 (by decide) ?_
        exact v_iret C E hf dX17_group_31
    · refine v_iconst (x := (-1)) C dX17_group_19 (by decide) ?_
      exact v_iret C E hf dX17_group_20
theorem ndx_X18_goOn : ({ cls := "EightBlocks$Letters", name := "goOn", desc := "(I)V" } : Jvm.MethodName).cls ≠ "java/lang/invoke/MethodHandle" ∧ ({ cls := "EightBlocks$Letters", name := "goOn", desc := "(I)V" } : Jvm.MethodName).cls ≠ "java/lang/invoke/VarHandle" ∧ (parseMethodDescriptor ({ cls := "EightBlocks$Letters", name := "goOn", desc := "(I)V" } : Jvm.MethodName).desc).map (fun d => d.parameters.length) = some 1 := by decide +kernel
def f_X18_next (a0 : Nat) : hM Int32 :=
  mb (mat a0 4 (f_X4_text a0 )) fun x1 => mb (mat a0 4 (f_X4_at a0 )) fun x3 => mb (f_X18_behindBlanks x1 x3) fun x5 => mb (mat a0 4 (f_X4_goOn a0 x5)) fun _ => mb (mat a0 4 (f_X18_here a0 )) fun x9 => mret x9
theorem nd_X18_next : yX18_next.cls ≠ "java/lang/invoke/MethodHandle" ∧ yX18_next.cls ≠ "java/lang/invoke/VarHandle" ∧ (parseMethodDescriptor yX18_next.desc).map (fun d => d.parameters.length) = some 0 := by decide +kernel
set_option maxHeartbeats 4000000 in
theorem ct_X18_next (l : Launch) (a0 : Nat) : CT l yX18_next cX18_next 1 (some .int) 5 108 rvI [.ref a0] (f_X18_next a0) := by
  refine CT_of (ls := [(0, .ref a0)]) (by decide) (Nat.le_of_ble_eq_true rfl) rfl ?_
  intro X h he z hX hf C E hnm hh
  have hl := hle.rf he
  subst hX
  unfold f_X18_next at hf
  refine v_aload_n C 0 dX18_next_0 rfl rfl ?_
  refine v_aload_n C 0 dX18_next_1 rfl rfl ?_
  refine v_callF (stk := fun b => .ref b :: [.ref a0]) C (ct_X4_text _ a0 ) rfl ndx_X18_text rfl (Nat.le_of_ble_eq_true rfl) (Nat.le_of_ble_eq_true rfl) [.ref a0] (Nat.le_of_ble_eq_true rfl) (fun _ => rfl) rfl q1168 q1172 q1174 q104 q1176 q1170 q1169 q1175 q1173 q1171 hf hl dX18_next_2 (fun x1 h2 hf => ?_)
  refine v_aload_n C 0 dX18_next_7 rfl rfl ?_
  refine v_callF (stk := fun b => .int b :: [.ref x1, .ref a0]) C (ct_X4_at _ a0 ) rfl ndx_X18_at rfl (Nat.le_of_ble_eq_true rfl) (Nat.le_of_ble_eq_true rfl) [.ref x1, .ref a0] (Nat.le_of_ble_eq_true rfl) (fun _ => rfl) rfl q1178 q1181 q1183 q104 q1185 q1180 q1179 q1184 q1182 q1171 hf hl dX18_next_8 (fun x3 h4 hf => ?_)
  refine v_callS (stk := fun b => .int b :: [.ref a0]) C (ct_X18_behindBlanks _ x1 x3) nd_X18_behindBlanks rfl (Nat.le_of_ble_eq_true rfl) (Nat.le_of_ble_eq_true rfl) [.ref a0] (Nat.le_of_ble_eq_true rfl) (fun _ => rfl) rfl q1186 q1187 q130 q1188 hf hl dX18_next_13 (fun x5 h6 hf => ?_)
  refine v_callF (stk := fun _ => []) C (ct_X4_goOn _ a0 x5) rfl ndx_X18_goOn rfl (Nat.le_of_ble_eq_true rfl) (Nat.le_of_ble_eq_true rfl) [] (Nat.le_of_ble_eq_true rfl) (fun _ => rfl) rfl q1194 q1197 q1199 q104 q1201 q1196 q1195 q1200 q1198 q1171 hf hl dX18_next_16 (fun x7 h8 hf => ?_)
  refine v_aload_n C 0 dX18_next_21 rfl rfl ?_
  refine v_callFD (stk := fun b => .int b :: []) C (ct_X18_here _ a0 ) rfl ndx_X18_here rfl (Nat.le_of_ble_eq_true rfl) (Nat.le_of_ble_eq_true rfl) [] (Nat.le_of_ble_eq_true rfl) (fun _ => rfl) rfl q1203 nw_6 q1205 q1204 q1208 q1171 q1207 q130 q1209 hf hl dX18_next_22 (fun x9 h10 hf => ?_)
  exact v_iret C E hf dX18_next_27
theorem ndx_X18_next : ({ cls := "EightBlocks$Letters", name := "next", desc := "()I" } : Jvm.MethodName).cls ≠ "java/lang/invoke/MethodHandle" ∧ ({ cls := "EightBlocks$Letters", name := "next", desc := "()I" } : Jvm.MethodName).cls ≠ "java/lang/invoke/VarHandle" ∧ (parseMethodDescriptor ({ cls := "EightBlocks$Letters", name := "next", desc := "()I" } : Jvm.MethodName).desc).map (fun d => d.parameters.length) = some 0 := by decide +kernel
def f_X18_isSign (a0 : Nat) (i1 : Int32) : hM Int32 :=
  mb (mat a0 4 (f_X18_next a0 )) fun x1 => mi (x1 = i1) (mb (mat a0 4 (f_X4_at a0 )) fun x3 => mb (mat a0 4 (f_X4_goOn a0 (x3 + (1 : Int32)))) fun _ => mrt .boolean (1 : Int32)) (mrt .boolean (0 : Int32))
theorem nd_X18_isSign : yX18_isSign.cls ≠ "java/lang/invoke/MethodHandle" ∧ yX18_isSign.cls ≠ "java/lang/invoke/VarHandle" ∧ (parseMethodDescriptor yX18_isSign.desc).map (fun d => d.parameters.length) = some 1 := by decide +kernel
set_option maxHeartbeats 4000000 in
theorem ct_X18_isSign (l : Launch) (a0 : Nat) (i1 : Int32) : CT l yX18_isSign cX18_isSign 2 (some .boolean) 6 128 rvI [.ref a0, .int i1] (f_X18_isSign a0 i1) := by
  refine CT_of (ls := [(0, .ref a0), (1, .int i1)]) (by decide) (Nat.le_of_ble_eq_true rfl) rfl ?_
  intro X h he z hX hf C E hnm hh
  have hl := hle.rf he
  subst hX
  unfold f_X18_isSign at hf
  refine v_aload_n C 0 dX18_isSign_0 rfl rfl ?_
  refine v_callFD (stk := fun b => .int b :: []) C (ct_X18_next _ a0 ) rfl ndx_X18_next rfl (Nat.le_of_ble_eq_true rfl) (Nat.le_of_ble_eq_true rfl) [] (Nat.le_of_ble_eq_true rfl) (fun _ => rfl) rfl q1240 nw_21 q1162 q1241 q1165 q1171 q1164 q130 q1166 hf hl dX18_isSign_1 (fun x1 h2 hf => ?_)
  refine v_iload_n C 1 dX18_isSign_6 rfl rfl ?_
  refine v_icmp_eq C hf (tgt := 12) dX18_isSign_7 (by decide) (fun c7 hf => ?_) (fun c7 hf => ?_)
  · refine v_aload_n C 0 dX18_isSign_12 rfl rfl ?_
    refine v_aload_n C 0 dX18_isSign_13 rfl rfl ?_
    refine v_callF (stk := fun b => .int b :: [.ref a0]) C (ct_X4_at _ a0 ) rfl ndx_X18_at rfl (Nat.le_of_ble_eq_true rfl) (Nat.le_of_ble_eq_true rfl) [.ref a0] (Nat.le_of_ble_eq_true rfl) (fun _ => rfl) rfl q1178 q1181 q1183 q104 q1185 q1180 q1179 q1184 q1182 q1171 hf hl dX18_isSign_14 (fun x3 h4 hf => ?_)
    refine v_iconst (x := 1) C dX18_isSign_19 (by decide) ?_
    refine v_iadd C dX18_isSign_20 ?_
    refine v_callF (stk := fun _ => []) C (ct_X4_goOn _ a0 (x3 + (1 : Int32))) rfl ndx_X18_goOn rfl (Nat.le_of_ble_eq_true rfl) (Nat.le_of_ble_eq_true rfl) [] (Nat.le_of_ble_eq_true rfl) (fun _ => rfl) rfl q1194 q1197 q1199 q104 q1201 q1196 q1195 q1200 q1198 q1171 hf hl dX18_isSign_21 (fun x5 h6 hf => ?_)
    refine v_iconst (x := 1) C dX18_isSign_26 (by decide) ?_
    exact v_zret C E hf dX18_isSign_27
  · refine v_iconst (x := 0) C dX18_isSign_10 (by decide) ?_
    exact v_zret C E hf dX18_isSign_11
def d_X19_many (a : Nat) : hM Int32 := mb (gC a) fun c => mi (c = 16) (mat a 16 (f_X20_many a )) (mi (c = 17) (mat a 17 (f_X21_many a )) (mi (c = 18) (mat a 18 (f_X22_many a )) (mfail)))
theorem ndx_X19_many : ({ cls := "EightBlocks$Things", name := "many", desc := "()I" } : Jvm.MethodName).cls ≠ "java/lang/invoke/MethodHandle" ∧ ({ cls := "EightBlocks$Things", name := "many", desc := "()I" } : Jvm.MethodName).cls ≠ "java/lang/invoke/VarHandle" ∧ (parseMethodDescriptor ({ cls := "EightBlocks$Things", name := "many", desc := "()I" } : Jvm.MethodName).desc).map (fun d => d.parameters.length) = some 0 := by decide +kernel
theorem v_d_X19_many {X : hX} {own : String} {cc : ByteArray} {nL : Nat} {ret : Option FieldType} {he : Hp} {F L : Nat} {h hr : Hp} {pc : Nat} {ls : List (Nat × Value)} {st : List Value} {α : Type} {v : α} (C : Cx X own cc nL ret he F L) {index cnt : Nat} (a : Nat) {k : Int32 → hM α} (rest : List Value) (hF : 1 ≤ F) (hL : 20 ≤ L) (hcat : (rest.map fun v => v.category).sum ≤ 8) (hst : st = .ref a :: rest) (w1 : Jvm.Cond.methodLink own index ({ cls := "EightBlocks$Things", name := "many", desc := "()I" } : Jvm.MethodName) ∈ lw_all) (hf : (mb (d_X19_many a ) k).1 h = some (v, hr)) (hl : hle hr he) (d : decode cc pc = .ok (.invokeinterface index cnt, 5)) (kk : ∀ (b : Int32) (h1 : Hp), (k b).1 h1 = some (v, hr) → V X h1 (pc + 5) ls (.int b :: rest)) : V X h pc ls st := by
  unfold d_X19_many at hf
  obtain ⟨c, hf⟩ := dsp_inv hf
  rcases mb_mi hf with ⟨_, hf⟩ | ⟨_, hf⟩
  · exact v_callF (stk := fun b => .int b :: rest) C (ct_X20_many _ a ) rfl ndx_X19_many rfl (Nat.le_trans (Nat.le_of_ble_eq_true rfl) hF) (Nat.le_trans (Nat.le_of_ble_eq_true rfl) hL) rest hcat (fun _ => rfl) hst w1 q1491 q1493 q135 q1495 q1490 q1489 q1494 q1492 q1475 hf hl d kk
  rcases mb_mi hf with ⟨_, hf⟩ | ⟨_, hf⟩
  · exact v_callF (stk := fun b => .int b :: rest) C (ct_X21_many _ a ) rfl ndx_X19_many rfl (Nat.le_trans (Nat.le_of_ble_eq_true rfl) hF) (Nat.le_trans (Nat.le_of_ble_eq_true rfl) hL) rest hcat (fun _ => rfl) hst w1 q1497 q1499 q136 q1501 q1490 q1489 q1500 q1498 q1496 hf hl d kk
  rcases mb_mi hf with ⟨_, hf⟩ | ⟨_, hf⟩
  · exact v_callF (stk := fun b => .int b :: rest) C (ct_X22_many _ a ) rfl ndx_X19_many rfl (Nat.le_trans (Nat.le_of_ble_eq_true rfl) hF) (Nat.le_trans (Nat.le_of_ble_eq_true rfl) hL) rest hcat (fun _ => rfl) hst w1 q1503 q1505 q137 q1507 q1490 q1489 q1506 q1504 q1502 hf hl d kk
  exact mb_fail hf
def d_X19_isThere (a : Nat) (i1 : Int32) : hM Int32 := mb (gC a) fun c => mi (c = 16) (mat a 16 (f_X19_isThere a i1)) (mi (c = 17) (mat a 17 (f_X19_isThere a i1)) (mi (c = 18) (mat a 18 (f_X22_isThere a i1)) (mfail)))
theorem ndx_X19_isThere : ({ cls := "EightBlocks$Things", name := "isThere", desc := "(I)Z" } : Jvm.MethodName).cls ≠ "java/lang/invoke/MethodHandle" ∧ ({ cls := "EightBlocks$Things", name := "isThere", desc := "(I)Z" } : Jvm.MethodName).cls ≠ "java/lang/invoke/VarHandle" ∧ (parseMethodDescriptor ({ cls := "EightBlocks$Things", name := "isThere", desc := "(I)Z" } : Jvm.MethodName).desc).map (fun d => d.parameters.length) = some 1 := by decide +kernel
theorem v_d_X19_isThere {X : hX} {own : String} {cc : ByteArray} {nL : Nat} {ret : Option FieldType} {he : Hp} {F L : Nat} {h hr : Hp} {pc : Nat} {ls : List (Nat × Value)} {st : List Value} {α : Type} {v : α} (C : Cx X own cc nL ret he F L) {index cnt : Nat} (a : Nat) (i1 : Int32) {k : Int32 → hM α} (rest : List Value) (hF : 1 ≤ F) (hL : 21 ≤ L) (hcat : (rest.map fun v => v.category).sum ≤ 8) (hst : st = .int i1 :: .ref a :: rest) (w1 : Jvm.Cond.methodLink own index ({ cls := "EightBlocks$Things", name := "isThere", desc := "(I)Z" } : Jvm.MethodName) ∈ lw_all) (hf : (mb (d_X19_isThere a i1) k).1 h = some (v, hr)) (hl : hle hr he) (d : decode cc pc = .ok (.invokeinterface index cnt, 5)) (kk : ∀ (b : Int32) (h1 : Hp), (k b).1 h1 = some (v, hr) → V X h1 (pc + 5) ls (.int b :: rest)) : V X h pc ls st := by
  unfold d_X19_isThere at hf
  obtain ⟨c, hf⟩ := dsp_inv hf
  rcases mb_mi hf with ⟨_, hf⟩ | ⟨_, hf⟩
  · exact v_callFD (stk := fun b => .int b :: rest) C (ct_X19_isThere _ a i1) rfl ndx_X19_isThere rfl (Nat.le_trans (Nat.le_of_ble_eq_true rfl) hF) (Nat.le_trans (Nat.le_of_ble_eq_true rfl) hL) rest hcat (fun _ => rfl) hst w1 nw_4 q1511 q1510 q1514 q1475 q1513 q134 q1515 hf hl d kk
  rcases mb_mi hf with ⟨_, hf⟩ | ⟨_, hf⟩
  · exact v_callFD (stk := fun b => .int b :: rest) C (ct_X19_isThere _ a i1) rfl ndx_X19_isThere rfl (Nat.le_trans (Nat.le_of_ble_eq_true rfl) hF) (Nat.le_trans (Nat.le_of_ble_eq_true rfl) hL) rest hcat (fun _ => rfl) hst w1 nw_5 q1511 q1510 q1514 q1496 q1513 q134 q1515 hf hl d kk
  rcases mb_mi hf with ⟨_, hf⟩ | ⟨_, hf⟩
  · exact v_callF (stk := fun b => .int b :: rest) C (ct_X22_isThere _ a i1) rfl ndx_X19_isThere rfl (Nat.le_trans (Nat.le_of_ble_eq_true rfl) hF) (Nat.le_trans (Nat.le_of_ble_eq_true rfl) hL) rest hcat (fun _ => rfl) hst w1 q1517 q1519 q137 q1521 q1511 q1510 q1520 q1518 q1502 hf hl d kk
  exact mb_fail hf
def l_X19_parts_10 (a0 : Nat) (a1 : Nat) (a2 : Nat) (i3 : Int32) : Nat → Int32 → Int32 → hM (Int32)
  | 0, _, _ => mfail
  | n + 1, i4, i5 => mb (d_X19_many a0) fun x3 => mi (x3 ≤ i5) (mret i4) (mb (d_X19_isThere a0 i5) fun x5 => mb (mi (x5 = 0) (mret i4) (mb (gR a1 9 0) fun x9 => mb (aI 2 x9 i5) fun x10 => mi (¬ x10 = 0) (mret i4) (mb (mat a1 9 (f_X9_spread a1 a0 i5 a2 i3)) fun x11 => mret (i4 + (1 : Int32))))) fun x7 => l_X19_parts_10 a0 a1 a2 i3 n x7 (i5 + (1 : Int32)))
def f_X19_parts (a0 : Nat) (a1 : Nat) (a2 : Nat) (i3 : Int32) : hM Int32 :=
  mb (mat a1 9 (f_X9_clear a1)) fun _ => mb (l_X19_parts_10 a0 a1 a2 i3 FU (0 : Int32) (0 : Int32)) fun x13 => mret x13
theorem nd_X19_parts : yX19_parts.cls ≠ "java/lang/invoke/MethodHandle" ∧ yX19_parts.cls ≠ "java/lang/invoke/VarHandle" ∧ (parseMethodDescriptor yX19_parts.desc).map (fun d => d.parameters.length) = some 3 := by decide +kernel
set_option maxHeartbeats 4000000 in
theorem ct_X19_parts (l : Launch) (a0 : Nat) (a1 : Nat) (a2 : Nat) (i3 : Int32) : CT l yX19_parts cX19_parts 6 (some .int) 6 138 rvI [.ref a0, .ref a1, .ref a2, .int i3] (f_X19_parts a0 a1 a2 i3) := by
  refine CT_of (ls := [(0, .ref a0), (1, .ref a1), (2, .ref a2), (3, .int i3)]) (by decide) (Nat.le_of_ble_eq_true rfl) rfl ?_
  intro X h he z hX hf C E hnm hh
  have hl := hle.rf he
  subst hX
  have L10 : ∀ (a0 : Nat) (a1 : Nat) (a2 : Nat) (i3 : Int32) (n : Nat) (i4 : Int32) (i5 : Int32) (h h1 : Hp) (o : Int32), (l_X19_parts_10 a0 a1 a2 i3 n i4 i5).1 h = some (o, h1) → hle h1 he → V X h1 61 [(4, .int o)] [] → V X h 10 [(0, .ref a0), (1, .ref a1), (2, .ref a2), (3, .int i3), (4, .int i4), (5, .int i5)] [] := by
    intro a0 a1 a2 i3 n
    induction n with
    | zero => intro i4 i5 h h1 o hf; exact mfail_inv hf
    | succ n ih =>
      intro i4 i5 h h1 o hf hl J
      rw [l_X19_parts_10] at hf
      refine v_iload C 5 dX19_parts_10 rfl ?_
      refine v_aload_n C 0 dX19_parts_12 rfl rfl ?_
      refine v_d_X19_many C a0  [.int i5] (Nat.le_of_ble_eq_true rfl) (Nat.le_of_ble_eq_true rfl) (Nat.le_of_ble_eq_true rfl) rfl q1488 hf hl dX19_parts_13 (fun x3 h4 hf => ?_)
      refine v_icmp_ge C hf (tgt := 61) dX19_parts_18 (by decide) (fun c18 hf => ?_) (fun c18 hf => ?_)
      · obtain ⟨e1, rfl⟩ := mret_inv hf
        subst e1
        exact v_sub (ls' := _) [4] rfl J
      · refine v_aload_n C 0 dX19_parts_21 rfl rfl ?_
        refine v_iload C 5 dX19_parts_22 rfl ?_
        refine v_d_X19_isThere C a0 i5 [] (Nat.le_of_ble_eq_true rfl) (Nat.le_of_ble_eq_true rfl) (Nat.le_of_ble_eq_true rfl) rfl q1509 hf hl dX19_parts_24 (fun x5 h6 hf => ?_)
        obtain ⟨x7, h8, hAh8, hf, hlh8⟩ := mb_inv hf hl
        refine v_cut (h1 := h8) (pc1 := 55) (ls1 := [(0, .ref a0), (1, .ref a1), (2, .ref a2), (3, .int i3), (4, .int x7), (5, .int i5)]) (st1 := []) ?_ (fun Jh8 => ?_)
        · clear hAh8 hlh8
          refine v_iinc (ls' := [(5, _), (0, _), (1, _), (2, _), (3, _), (4, _)]) (y := i5 + (1 : Int32)) C 5 dX19_parts_55 rfl rfl (by decide) rfl ?_
          refine v_goto (tgt := 10) C dX19_parts_58 (by decide) ?_
          refine v_sub (ls' := _) [1, 2, 3, 4, 5, 0] rfl (ih x7 (i5 + (1 : Int32)) _ _ _ hf hl J)
        · clear hf
          have hf := hAh8
          have hl := hlh8
          refine v_if_eq C hf (tgt := 55) dX19_parts_29 (by decide) (fun c29 hf => ?_) (fun c29 hf => ?_)
          · obtain ⟨e1, rfl⟩ := mret_inv hf
            subst e1
            exact v_sub (ls' := _) [0, 1, 2, 3, 4, 5] rfl Jh8
          · refine v_aload_n C 1 dX19_parts_32 rfl rfl ?_
            refine v_gRN (Cn := RX9) (T := TX9) (N := 2) C hf in_X9 rfl (by decide) q492 rfl dX19_parts_33 (fun x9 hf => ?_)
            refine v_iload C 5 dX19_parts_36 rfl ?_
            refine v_zaload C hf dX19_parts_38 (fun x10 hf => ?_)
            refine v_if_ne C hf (tgt := 55) dX19_parts_39 (by decide) (fun c39 hf => ?_) (fun c39 hf => ?_)
            · obtain ⟨e1, rfl⟩ := mret_inv hf
              subst e1
              exact v_sub (ls' := _) [0, 1, 2, 3, 4, 5] rfl Jh8
            · refine v_aload_n C 1 dX19_parts_42 rfl rfl ?_
              refine v_aload_n C 0 dX19_parts_43 rfl rfl ?_
              refine v_iload C 5 dX19_parts_44 rfl ?_
              refine v_aload_n C 2 dX19_parts_46 rfl rfl ?_
              refine v_iload_n C 3 dX19_parts_47 rfl rfl ?_
              refine v_callV (stk := fun b => .int b :: []) C (ct_X9_spread _ a1 a0 i5 a2 i3) rfl ⟨rfl, nd_X9_spread⟩ rfl (Nat.le_of_ble_eq_true rfl) (Nat.le_of_ble_eq_true rfl) [] (Nat.le_of_ble_eq_true rfl) (fun _ => rfl) rfl q1522 q1523 q1524 q117 q1525 hf hl dX19_parts_48 (fun x11 h12 hf => ?_)
              refine v_pop C dX19_parts_51 rfl ?_
              refine v_iinc (ls' := [(4, _), (0, _), (1, _), (2, _), (3, _), (5, _)]) (y := i4 + (1 : Int32)) C 4 dX19_parts_52 rfl rfl (by decide) rfl ?_
              obtain ⟨e1, rfl⟩ := mret_inv hf
              subst e1
              exact v_sub (ls' := _) [1, 2, 3, 4, 0, 5] rfl Jh8
  unfold f_X19_parts at hf
  refine v_aload_n C 1 dX19_parts_0 rfl rfl ?_
  refine v_callV (stk := fun _ => []) C (ct_X9_clear _ a1) rfl ⟨rfl, nd_X9_clear⟩ rfl (Nat.le_of_ble_eq_true rfl) (Nat.le_of_ble_eq_true rfl) [] (Nat.le_of_ble_eq_true rfl) (fun _ => rfl) rfl q1480 q1481 q1482 q117 q1483 hf hl dX19_parts_1 (fun x1 h2 hf => ?_)
  refine v_iconst (x := 0) C dX19_parts_4 (by decide) ?_
  refine v_istore (ls' := [(4, _), (0, _), (1, _), (2, _), (3, _)]) C dX19_parts_5 (by decide) rfl ?_
  refine v_iconst (x := 0) C dX19_parts_7 (by decide) ?_
  refine v_istore (ls' := [(5, _), (4, _), (0, _), (1, _), (2, _), (3, _)]) C dX19_parts_8 (by decide) rfl ?_
  obtain ⟨x13, h14, eh14, hf, hlh14⟩ := mb_inv hf hl
  refine v_sub (ls' := _) [2, 3, 4, 5, 1, 0] rfl (L10 a0 a1 a2 i3 FU (0 : Int32) (0 : Int32) _ _ _ eh14 hlh14 ?_)
  refine v_iload C 0 dX19_parts_61 rfl ?_
  exact v_iret C E hf dX19_parts_63
def l_X6_close_5 (a0 : Nat) : Nat → Int32 → Int32 → hM (Unit)
  | 0, _, _ => mfail
  | n + 1, i1, i2 => mi ((9999 : Int32) ≤ i2) (mret ()) (mi (i1 < 0) (mret ()) (mb (mat a0 6 (f_X6_lay a0 i1)) fun _ => mb (mat a0 6 (f_X6_check a0 i1)) fun x3 => mb (mi (0 ≤ x3) (mret x3) (mret (i1 - (1 : Int32)))) fun x5 => l_X6_close_5 a0 n x5 (i2 + (1 : Int32))))
def f_X6_close (a0 : Nat) : hM Unit :=
  mb (l_X6_close_5 a0 FU (23 : Int32) (0 : Int32)) fun x7 => mret ()
theorem nd_X6_close : yX6_close.cls ≠ "java/lang/invoke/MethodHandle" ∧ yX6_close.cls ≠ "java/lang/invoke/VarHandle" ∧ (parseMethodDescriptor yX6_close.desc).map (fun d => d.parameters.length) = some 0 := by decide +kernel
set_option maxHeartbeats 4000000 in
theorem ct_X6_close (l : Launch) (a0 : Nat) : CT l yX6_close cX6_close 4 none 6 133 rv0 [.ref a0] (f_X6_close a0) := by
  refine CT_of (ls := [(0, .ref a0)]) (by decide) (Nat.le_of_ble_eq_true rfl) rfl ?_
  intro X h he z hX hf C E hnm hh
  have hl := hle.rf he
  subst hX
  have L5 : ∀ (a0 : Nat) (n : Nat) (i1 : Int32) (i2 : Int32) (h h1 : Hp) (o : Unit), (l_X6_close_5 a0 n i1 i2).1 h = some (o, h1) → hle h1 he → V X h1 45 [] [] → V X h 5 [(0, .ref a0), (1, .int i1), (2, .int i2)] [] := by
    intro a0 n
    induction n with
    | zero => intro i1 i2 h h1 o hf; exact mfail_inv hf
    | succ n ih =>
      intro i1 i2 h h1 o hf hl J
      rw [l_X6_close_5] at hf
      refine v_iload_n C 2 dX6_close_5 rfl rfl ?_
      refine v_sipush (x := 9999) C dX6_close_6 (by decide) ?_
      refine v_icmp_ge C hf (tgt := 45) dX6_close_9 (by decide) (fun c9 hf => ?_) (fun c9 hf => ?_)
      · obtain ⟨e1, rfl⟩ := mret_inv hf
        subst e1
        exact v_sub (ls' := _) [] rfl J
      · refine v_iload_n C 1 dX6_close_12 rfl rfl ?_
        refine v_if_lt C hf (tgt := 45) dX6_close_13 (by decide) (fun c13 hf => ?_) (fun c13 hf => ?_)
        · obtain ⟨e1, rfl⟩ := mret_inv hf
          subst e1
          exact v_sub (ls' := _) [] rfl J
        · refine v_aload_n C 0 dX6_close_16 rfl rfl ?_
          refine v_iload_n C 1 dX6_close_17 rfl rfl ?_
          refine v_callV (stk := fun _ => []) C (ct_X6_lay _ a0 i1) rfl ⟨rfl, nd_X6_lay⟩ rfl (Nat.le_of_ble_eq_true rfl) (Nat.le_of_ble_eq_true rfl) [] (Nat.le_of_ble_eq_true rfl) (fun _ => rfl) rfl q1405 q1407 qs26 q114 q1408 hf hl dX6_close_18 (fun x1 h2 hf => ?_)
          refine v_aload_n C 0 dX6_close_21 rfl rfl ?_
          refine v_iload_n C 1 dX6_close_22 rfl rfl ?_
          refine v_callV (stk := fun b => .int b :: []) C (ct_X6_check _ a0 i1) rfl ⟨rfl, nd_X6_check⟩ rfl (Nat.le_of_ble_eq_true rfl) (Nat.le_of_ble_eq_true rfl) [] (Nat.le_of_ble_eq_true rfl) (fun _ => rfl) rfl q1421 q1423 qs27 q114 q1424 hf hl dX6_close_23 (fun x3 h4 hf => ?_)
          refine v_istore_n (ls' := [(3, _), (0, _), (1, _), (2, _)]) C dX6_close_26 rfl (by decide) rfl ?_
          refine v_iload_n C 0 dX6_close_27 rfl rfl ?_
          obtain ⟨x5, h6, hAh6, hf, hlh6⟩ := mb_inv hf hl
          refine v_cut (h1 := h6) (pc1 := 38) (ls1 := [(0, .ref a0), (2, .int i2)]) (st1 := [.int x5]) ?_ (fun Jh6 => ?_)
          · clear hAh6 hlh6
            refine v_istore_n (ls' := [(1, _), (0, _), (2, _)]) C dX6_close_38 rfl (by decide) rfl ?_
            refine v_iinc (ls' := [(2, _), (1, _), (0, _)]) (y := i2 + (1 : Int32)) C 2 dX6_close_39 rfl rfl (by decide) rfl ?_
            refine v_goto (tgt := 5) C dX6_close_42 (by decide) ?_
            refine v_sub (ls' := _) [2, 1, 0] rfl (ih x5 (i2 + (1 : Int32)) _ _ _ hf hl J)
          · clear hf
            have hf := hAh6
            have hl := hlh6
            refine v_if_ge C hf (tgt := 37) dX6_close_28 (by decide) (fun c28 hf => ?_) (fun c28 hf => ?_)
            · refine v_iload_n C 0 dX6_close_37 rfl rfl ?_
              obtain ⟨e1, rfl⟩ := mret_inv hf
              subst e1
              exact v_sub (ls' := _) [1, 3] rfl Jh6
            · refine v_iload_n C 2 dX6_close_31 rfl rfl ?_
              refine v_iconst (x := 1) C dX6_close_32 (by decide) ?_
              refine v_isub C dX6_close_33 ?_
              refine v_goto (tgt := 38) C dX6_close_34 (by decide) ?_
              obtain ⟨e1, rfl⟩ := mret_inv hf
              subst e1
              exact v_sub (ls' := _) [1, 3] rfl Jh6
  unfold f_X6_close at hf
  refine v_bipush (x := 23) C dX6_close_0 (by decide) ?_
  refine v_istore_n (ls' := [(1, _), (0, _)]) C dX6_close_2 rfl (by decide) rfl ?_
  refine v_iconst (x := 0) C dX6_close_3 (by decide) ?_
  refine v_istore_n (ls' := [(2, _), (1, _), (0, _)]) C dX6_close_4 rfl (by decide) rfl ?_
  obtain ⟨x7, h8, eh8, hf, hlh8⟩ := mb_inv hf hl
  refine v_sub (ls' := _) [2, 1, 0] rfl (L5 a0 FU (23 : Int32) (0 : Int32) _ _ _ eh8 hlh8 ?_)
  exact v_vret C E hf dX6_close_45
def f_J3_putStringAt (a0 : Nat) (i1 : Int32) (a2 : Nat) : hM Unit :=
  mb (mat a0 19 (f_J3_inflateIfNeededFor a0 a2)) fun _ => mb (gR a0 19 0) fun x3 => mb (gI a0 19 1) fun x4 => mb (mat a2 20 (f_J5_getBytes a2 x3 i1 x4)) fun _ => mret ()
theorem nd_J3_putStringAt : yJ3_putStringAt.cls ≠ "java/lang/invoke/MethodHandle" ∧ yJ3_putStringAt.cls ≠ "java/lang/invoke/VarHandle" ∧ (parseMethodDescriptor yJ3_putStringAt.desc).map (fun d => d.parameters.length) = some 2 := by decide +kernel
set_option maxHeartbeats 4000000 in
theorem ct_J3_putStringAt (l : Launch) (a0 : Nat) (i1 : Int32) (a2 : Nat) : CT l yJ3_putStringAt cJ3_putStringAt 3 none 6 135 rv0 [.ref a0, .int i1, .ref a2] (f_J3_putStringAt a0 i1 a2) := by
  refine CT_of (ls := [(0, .ref a0), (1, .int i1), (2, .ref a2)]) (by decide) (Nat.le_of_ble_eq_true rfl) rfl ?_
  intro X h he z hX hf C E hnm hh
  have hl := hle.rf he
  subst hX
  unfold f_J3_putStringAt at hf
  refine v_aload_n C 0 dJ3_putStringAt_0 rfl rfl ?_
  refine v_aload_n C 2 dJ3_putStringAt_1 rfl rfl ?_
  refine v_callU (stk := fun _ => []) C (ct_J3_inflateIfNeededFor _ a0 a2) rfl ⟨by decide, by decide, nd_J3_inflateIfNeededFor.2.2⟩ rfl (Nat.le_of_ble_eq_true rfl) (Nat.le_of_ble_eq_true rfl) [] (Nat.le_of_ble_eq_true rfl) (fun _ => rfl) rfl q952 q2334 (se_p C ⟨by decide, by decide⟩ q278 q2334 q953 q954) q954 q105 q955 (dc_code C q954 q955) hf hl dJ3_putStringAt_2 (fun x1 h2 hf => ?_)
  refine v_aload_n C 2 dJ3_putStringAt_5 rfl rfl ?_
  refine v_aload_n C 0 dJ3_putStringAt_6 rfl rfl ?_
  refine v_gR (Cn := RJ4) (T := TJ4) (N := 4) C hf in_J4 rfl (by decide) q376 rfl dJ3_putStringAt_7 (fun x3 hf => ?_)
  refine v_iload_n C 1 dJ3_putStringAt_10 rfl rfl ?_
  refine v_aload_n C 0 dJ3_putStringAt_11 rfl rfl ?_
  refine v_gI (Cn := RJ4) (T := TJ4) (N := 4) C hf in_J4 rfl (by decide) q377 rfl dJ3_putStringAt_12 (fun x4 hf => ?_)
  refine v_callV (stk := fun _ => []) C (ct_J5_getBytes _ a2 x3 i1 x4) (show clG[20]? = some (RJ5, TJ5, 4) from rfl) ⟨rfl, nd_J5_getBytes⟩ rfl (Nat.le_of_ble_eq_true rfl) (Nat.le_of_ble_eq_true rfl) [] (Nat.le_of_ble_eq_true rfl) (fun _ => rfl) rfl q976 q977 q978 q107 q979 hf hl dJ3_putStringAt_15 (fun x5 h6 hf => ?_)
  exact v_vret C E hf dJ3_putStringAt_18
def f_J5_init (a0 : Nat) (a1 : Nat) : hM Unit :=
  mb (f_J5_init_2 a0 a1 none) fun _ => mret ()
theorem nd_J5_init : yJ5_init.cls ≠ "java/lang/invoke/MethodHandle" ∧ yJ5_init.cls ≠ "java/lang/invoke/VarHandle" ∧ (parseMethodDescriptor yJ5_init.desc).map (fun d => d.parameters.length) = some 1 := by decide +kernel
set_option maxHeartbeats 4000000 in
theorem ct_J5_init (l : Launch) (a0 : Nat) (a1 : Nat) : CT l yJ5_init cJ5_init 2 none 5 119 rv0 [.ref a0, .ref a1] (f_J5_init a0 a1) := by
  refine CT_of (ls := [(0, .ref a0), (1, .ref a1)]) (by decide) (Nat.le_of_ble_eq_true rfl) rfl ?_
  intro X h he z hX hf C E hnm hh
  have hl := hle.rf he
  subst hX
  unfold f_J5_init at hf
  refine v_aload_n C 0 dJ5_init_0 rfl rfl ?_
  refine v_aload_n C 1 dJ5_init_1 rfl rfl ?_
  refine v_null C dJ5_init_2 ?_
  refine v_callI (stk := fun _ => []) C (ct_J5_init_2 _ a0 a1 none) nd_J5_init_2 rfl (Nat.le_of_ble_eq_true rfl) (Nat.le_of_ble_eq_true rfl) [] (Nat.le_of_ble_eq_true rfl) (fun _ => rfl) rfl rfl q1016 q1017 q107 q1018 hf hl dJ5_init_3 (fun x1 h2 hf => ?_)
  exact v_vret C E hf dJ5_init_6
def f_X0_faultyNext (a0 : Nat) : hM Nat :=
  mb (gR a0 0 4) fun x1 => mb (mat x1 4 (f_X18_next x1)) fun x2 => mb (gR a0 0 4) fun x4 => mb (mat x4 4 (f_X4_at x4)) fun x5 => mb (mat a0 0 (f_X0_faultAt a0 x5)) fun x7 => mret x7
theorem nd_X0_faultyNext : yX0_faultyNext.cls ≠ "java/lang/invoke/MethodHandle" ∧ yX0_faultyNext.cls ≠ "java/lang/invoke/VarHandle" ∧ (parseMethodDescriptor yX0_faultyNext.desc).map (fun d => d.parameters.length) = some 0 := by decide +kernel
set_option maxHeartbeats 4000000 in
theorem ct_X0_faultyNext (l : Launch) (a0 : Nat) : CT l yX0_faultyNext cX0_faultyNext 1 (some (.object "EightBlocks$Fault")) 6 128 rvR [.ref a0] (f_X0_faultyNext a0) := by
  refine CT_of (ls := [(0, .ref a0)]) (by decide) (Nat.le_of_ble_eq_true rfl) rfl ?_
  intro X h he z hX hf C E hnm hh
  have hl := hle.rf he
  subst hX
  unfold f_X0_faultyNext at hf
  refine v_aload_n C 0 dX0_faultyNext_0 rfl rfl ?_
  refine v_gR (Cn := RX0) (T := TX0) (N := 16) C hf in_X0 rfl (by decide) q696 rfl dX0_faultyNext_1 (fun x1 hf => ?_)
  refine v_callD (x := ({ cls := "EightBlocks$Tape", name := "next", desc := "()I" } : Jvm.MethodName)) (stk := fun b => .int b :: []) C (ct_X18_next _ x1) rfl nd_X18_next rfl (Nat.le_of_ble_eq_true rfl) (Nat.le_of_ble_eq_true rfl) [] (Nat.le_of_ble_eq_true rfl) (fun _ => rfl) rfl nw_22 nw_23 nw_24 q1162 q1164 q130 q1166 hf hl dX0_faultyNext_4 (fun x2 h3 hf => ?_)
  refine v_pop C dX0_faultyNext_7 rfl ?_
  refine v_aload_n C 0 dX0_faultyNext_8 rfl rfl ?_
  refine v_aload_n C 0 dX0_faultyNext_9 rfl rfl ?_
  refine v_gR (Cn := RX0) (T := TX0) (N := 16) C hf in_X0 rfl (by decide) q696 rfl dX0_faultyNext_10 (fun x4 hf => ?_)
  refine v_callV (stk := fun b => .int b :: [.ref a0]) C (ct_X4_at _ x4) rfl ⟨rfl, nd_X4_at⟩ rfl (Nat.le_of_ble_eq_true rfl) (Nat.le_of_ble_eq_true rfl) [.ref a0] (Nat.le_of_ble_eq_true rfl) (fun _ => rfl) rfl q1222 q1183 q2340 q104 q1185 hf hl dX0_faultyNext_13 (fun x5 h6 hf => ?_)
  refine v_callV (stk := fun b => .ref b :: []) C (ct_X0_faultAt _ a0 x5) rfl ⟨rfl, nd_X0_faultAt⟩ rfl (Nat.le_of_ble_eq_true rfl) (Nat.le_of_ble_eq_true rfl) [] (Nat.le_of_ble_eq_true rfl) (fun _ => rfl) rfl q1228 q1230 qs16 q96 q1231 hf hl dX0_faultyNext_16 (fun x7 h8 hf => ?_)
  exact v_aret C E hf (Or.inl ⟨_, rfl⟩) dX0_faultyNext_19
def l_X0_layChain_14 (a0 : Nat) (i1 : Int32) : Nat → Int32 → hM (Unit)
  | 0, _ => mfail
  | n + 1, i3 => mi ((4 : Int32) ≤ i3) (mret ()) (mb (f_X0_has i1 i3) fun x5 => mb (mi (x5 = 0) (mret ()) (mb (gR a0 0 6) fun x8 => mb (gR a0 0 3) fun x9 => mb (gR x9 2 0) fun x10 => mb (aR 6 x10 i3) fun x11 => mb (mat x8 6 (f_X6_add x8 x11)) fun _ => mret ())) fun _ => l_X0_layChain_14 a0 i1 n (i3 + (1 : Int32)))
def f_X0_layChain (a0 : Nat) (i1 : Int32) (i2 : Int32) : hM Unit :=
  mb (gR a0 0 6) fun x1 => mb (gR a0 0 8) fun x2 => mb (mat x1 6 (f_X6_begin x1 x2 i2)) fun _ => mb (l_X0_layChain_14 a0 i1 FU (0 : Int32)) fun x14 => mb (gR a0 0 6) fun x16 => mb (mat x16 6 (f_X6_close x16)) fun _ => mret ()
theorem nd_X0_layChain : yX0_layChain.cls ≠ "java/lang/invoke/MethodHandle" ∧ yX0_layChain.cls ≠ "java/lang/invoke/VarHandle" ∧ (parseMethodDescriptor yX0_layChain.desc).map (fun d => d.parameters.length) = some 2 := by decide +kernel
set_option maxHeartbeats 4000000 in
theorem ct_X0_layChain (l : Launch) (a0 : Nat) (i1 : Int32) (i2 : Int32) : CT l yX0_layChain cX0_layChain 4 none 7 156 rv0 [.ref a0, .int i1, .int i2] (f_X0_layChain a0 i1 i2) := by
  refine CT_of (ls := [(0, .ref a0), (1, .int i1), (2, .int i2)]) (by decide) (Nat.le_of_ble_eq_true rfl) rfl ?_
  intro X h he z hX hf C E hnm hh
  have hl := hle.rf he
  subst hX
  have L14 : ∀ (a0 : Nat) (i1 : Int32) (n : Nat) (i3 : Int32) (h h1 : Hp) (o : Unit), (l_X0_layChain_14 a0 i1 n i3).1 h = some (o, h1) → hle h1 he → V X h1 49 [(0, .ref a0)] [] → V X h 14 [(0, .ref a0), (1, .int i1), (3, .int i3)] [] := by
    intro a0 i1 n
    induction n with
    | zero => intro i3 h h1 o hf; exact mfail_inv hf
    | succ n ih =>
      intro i3 h h1 o hf hl J
      rw [l_X0_layChain_14] at hf
      refine v_iload_n C 2 dX0_layChain_14 rfl rfl ?_
      refine v_iconst (x := 4) C dX0_layChain_15 (by decide) ?_
      refine v_icmp_ge C hf (tgt := 49) dX0_layChain_16 (by decide) (fun c16 hf => ?_) (fun c16 hf => ?_)
      · obtain ⟨e1, rfl⟩ := mret_inv hf
        subst e1
        exact v_sub (ls' := _) [0] rfl J
      · refine v_iload_n C 1 dX0_layChain_19 rfl rfl ?_
        refine v_iload_n C 2 dX0_layChain_20 rfl rfl ?_
        refine v_callS (stk := fun b => .int b :: []) C (ct_X0_has _ i1 i3) nd_X0_has rfl (Nat.le_of_ble_eq_true rfl) (Nat.le_of_ble_eq_true rfl) [] (Nat.le_of_ble_eq_true rfl) (fun _ => rfl) rfl q1259 q164 q96 q165 hf hl dX0_layChain_21 (fun x5 h6 hf => ?_)
        obtain ⟨_u, h7, hAh7, hf, hlh7⟩ := mb_inv hf hl
        refine v_cut (h1 := h7) (pc1 := 43) (ls1 := [(0, .ref a0), (1, .int i1), (3, .int i3)]) (st1 := []) ?_ (fun Jh7 => ?_)
        · clear hAh7 hlh7
          refine v_iinc (ls' := [(3, _), (0, _), (1, _)]) (y := i3 + (1 : Int32)) C 2 dX0_layChain_43 rfl rfl (by decide) rfl ?_
          refine v_goto (tgt := 14) C dX0_layChain_46 (by decide) ?_
          refine v_sub (ls' := _) [1, 2, 0] rfl (ih (i3 + (1 : Int32)) _ _ _ hf hl J)
        · clear hf
          have hf := hAh7
          have hl := hlh7
          refine v_if_eq C hf (tgt := 43) dX0_layChain_24 (by decide) (fun c24 hf => ?_) (fun c24 hf => ?_)
          · obtain ⟨e1, rfl⟩ := mret_inv hf
            exact v_sub (ls' := _) [0, 1, 2] rfl Jh7
          · refine v_aload_n C 0 dX0_layChain_27 rfl rfl ?_
            refine v_gR (Cn := RX0) (T := TX0) (N := 16) C hf in_X0 rfl (by decide) q698 rfl dX0_layChain_28 (fun x8 hf => ?_)
            refine v_aload_n C 0 dX0_layChain_31 rfl rfl ?_
            refine v_gR (Cn := RX0) (T := TX0) (N := 16) C hf in_X0 rfl (by decide) q695 rfl dX0_layChain_32 (fun x9 hf => ?_)
            refine v_gRN (Cn := RX2) (T := TX2) (N := 3) C hf in_X2 rfl (by decide) q259 rfl dX0_layChain_35 (fun x10 hf => ?_)
            refine v_iload_n C 2 dX0_layChain_38 rfl rfl ?_
            refine v_aaload C hf (by decide) rfl dX0_layChain_39 (fun x11 hf => ?_)
            refine v_callV (stk := fun _ => []) C (ct_X6_add _ x8 x11) rfl ⟨rfl, nd_X6_add⟩ rfl (Nat.le_of_ble_eq_true rfl) (Nat.le_of_ble_eq_true rfl) [] (Nat.le_of_ble_eq_true rfl) (fun _ => rfl) rfl q1391 q1392 q1393 q114 q1394 hf hl dX0_layChain_40 (fun x12 h13 hf => ?_)
            obtain ⟨e1, rfl⟩ := mret_inv hf
            exact v_sub (ls' := _) [0, 1, 2] rfl Jh7
  unfold f_X0_layChain at hf
  refine v_aload_n C 0 dX0_layChain_0 rfl rfl ?_
  refine v_gR (Cn := RX0) (T := TX0) (N := 16) C hf in_X0 rfl (by decide) q698 rfl dX0_layChain_1 (fun x1 hf => ?_)
  refine v_aload_n C 0 dX0_layChain_4 rfl rfl ?_
  refine v_gR (Cn := RX0) (T := TX0) (N := 16) C hf in_X0 rfl (by decide) q700 rfl dX0_layChain_5 (fun x2 hf => ?_)
  refine v_iload_n C 2 dX0_layChain_8 rfl rfl ?_
  refine v_callV (stk := fun _ => []) C (ct_X6_begin _ x1 x2 i2) rfl ⟨rfl, nd_X6_begin⟩ rfl (Nat.le_of_ble_eq_true rfl) (Nat.le_of_ble_eq_true rfl) [] (Nat.le_of_ble_eq_true rfl) (fun _ => rfl) rfl q1386 q1387 q1388 q114 q1389 hf hl dX0_layChain_9 (fun x3 h4 hf => ?_)
  refine v_iconst (x := 0) C dX0_layChain_12 (by decide) ?_
  refine v_istore_n (ls' := [(3, _), (0, _), (1, _), (2, _)]) C dX0_layChain_13 rfl (by decide) rfl ?_
  obtain ⟨x14, h15, eh15, hf, hlh15⟩ := mb_inv hf hl
  refine v_sub (ls' := _) [1, 2, 0] rfl (L14 a0 i1 FU (0 : Int32) _ _ _ eh15 hlh15 ?_)
  refine v_aload_n C 0 dX0_layChain_49 rfl rfl ?_
  refine v_gR (Cn := RX0) (T := TX0) (N := 16) C hf in_X0 rfl (by decide) q698 rfl dX0_layChain_50 (fun x16 hf => ?_)
  refine v_callV (stk := fun _ => []) C (ct_X6_close _ x16) rfl ⟨rfl, nd_X6_close⟩ rfl (Nat.le_of_ble_eq_true rfl) (Nat.le_of_ble_eq_true rfl) [] (Nat.le_of_ble_eq_true rfl) (fun _ => rfl) rfl q1401 q1402 q1403 q114 q1404 hf hl dX0_layChain_53 (fun x17 h18 hf => ?_)
  exact v_vret C E hf dX0_layChain_56
def l_X0_leaving_5 (a0 : Nat) (i1 : Int32) (i2 : Int32) : Nat → Int32 → Int32 → hM (Int32)
  | 0, _, _ => mfail
  | n + 1, i3, i4 => mi ((24 : Int32) ≤ i4) (mret i3) (mb (f_X0_has i2 i4) fun x1 => mb (mi (x1 = 0) (mret i3) (mb (gR a0 0 8) fun x5 => mb (sI 1 x5 i3 i4) fun _ => mret (i3 + (1 : Int32)))) fun x3 => l_X0_leaving_5 a0 i1 i2 n x3 (i4 + (1 : Int32)))
def f_X0_leaving (a0 : Nat) (i1 : Int32) (i2 : Int32) : hM Int32 :=
  mb (l_X0_leaving_5 a0 i1 i2 FU (0 : Int32) (0 : Int32)) fun x7 => mb (mat a0 0 (f_X0_layChain a0 i1 x7)) fun _ => mb (gR a0 0 6) fun x11 => mb (mat x11 6 (f_X6_order x11 x7)) fun x12 => mret x12
theorem nd_X0_leaving : yX0_leaving.cls ≠ "java/lang/invoke/MethodHandle" ∧ yX0_leaving.cls ≠ "java/lang/invoke/VarHandle" ∧ (parseMethodDescriptor yX0_leaving.desc).map (fun d => d.parameters.length) = some 2 := by decide +kernel
set_option maxHeartbeats 4000000 in
theorem ct_X0_leaving (l : Launch) (a0 : Nat) (i1 : Int32) (i2 : Int32) : CT l yX0_leaving cX0_leaving 5 (some .int) 8 179 rvI [.ref a0, .int i1, .int i2] (f_X0_leaving a0 i1 i2) := by
  refine CT_of (ls := [(0, .ref a0), (1, .int i1), (2, .int i2)]) (by decide) (Nat.le_of_ble_eq_true rfl) rfl ?_
  intro X h he z hX hf C E hnm hh
  have hl := hle.rf he
  subst hX
  have L5 : ∀ (a0 : Nat) (i1 : Int32) (i2 : Int32) (n : Nat) (i3 : Int32) (i4 : Int32) (h h1 : Hp) (o : Int32), (l_X0_leaving_5 a0 i1 i2 n i3 i4).1 h = some (o, h1) → hle h1 he → V X h1 38 [(0, .ref a0), (1, .int i1), (3, .int o)] [] → V X h 5 [(0, .ref a0), (1, .int i1), (2, .int i2), (3, .int i3), (4, .int i4)] [] := by
    intro a0 i1 i2 n
    induction n with
    | zero => intro i3 i4 h h1 o hf; exact mfail_inv hf
    | succ n ih =>
      intro i3 i4 h h1 o hf hl J
      rw [l_X0_leaving_5] at hf
      refine v_iload C 4 dX0_leaving_5 rfl ?_
      refine v_bipush (x := 24) C dX0_leaving_7 (by decide) ?_
      refine v_icmp_ge C hf (tgt := 38) dX0_leaving_9 (by decide) (fun c9 hf => ?_) (fun c9 hf => ?_)
      · obtain ⟨e1, rfl⟩ := mret_inv hf
        subst e1
        exact v_sub (ls' := _) [0, 1, 3] rfl J
      · refine v_iload_n C 2 dX0_leaving_12 rfl rfl ?_
        refine v_iload C 4 dX0_leaving_13 rfl ?_
        refine v_callS (stk := fun b => .int b :: []) C (ct_X0_has _ i2 i4) nd_X0_has rfl (Nat.le_of_ble_eq_true rfl) (Nat.le_of_ble_eq_true rfl) [] (Nat.le_of_ble_eq_true rfl) (fun _ => rfl) rfl q1259 q164 q96 q165 hf hl dX0_leaving_15 (fun x1 h2 hf => ?_)
        obtain ⟨x3, h4, hAh4, hf, hlh4⟩ := mb_inv hf hl
        refine v_cut (h1 := h4) (pc1 := 32) (ls1 := [(0, .ref a0), (1, .int i1), (2, .int i2), (3, .int x3), (4, .int i4)]) (st1 := []) ?_ (fun Jh4 => ?_)
        · clear hAh4 hlh4
          refine v_iinc (ls' := [(4, _), (0, _), (1, _), (2, _), (3, _)]) (y := i4 + (1 : Int32)) C 4 dX0_leaving_32 rfl rfl (by decide) rfl ?_
          refine v_goto (tgt := 5) C dX0_leaving_35 (by decide) ?_
          refine v_sub (ls' := _) [1, 2, 3, 4, 0] rfl (ih x3 (i4 + (1 : Int32)) _ _ _ hf hl J)
        · clear hf
          have hf := hAh4
          have hl := hlh4
          refine v_if_eq C hf (tgt := 32) dX0_leaving_18 (by decide) (fun c18 hf => ?_) (fun c18 hf => ?_)
          · obtain ⟨e1, rfl⟩ := mret_inv hf
            subst e1
            exact v_sub (ls' := _) [0, 1, 2, 3, 4] rfl Jh4
          · refine v_aload_n C 0 dX0_leaving_21 rfl rfl ?_
            refine v_gR (Cn := RX0) (T := TX0) (N := 16) C hf in_X0 rfl (by decide) q700 rfl dX0_leaving_22 (fun x5 hf => ?_)
            refine v_iload_n C 3 dX0_leaving_25 rfl rfl ?_
            refine v_iload C 4 dX0_leaving_26 rfl ?_
            refine v_iastore C hf dX0_leaving_28 (fun h6 hf => ?_)
            refine v_iinc (ls' := [(3, _), (0, _), (1, _), (2, _), (4, _)]) (y := i3 + (1 : Int32)) C 3 dX0_leaving_29 rfl rfl (by decide) rfl ?_
            obtain ⟨e1, rfl⟩ := mret_inv hf
            subst e1
            exact v_sub (ls' := _) [1, 2, 3, 0, 4] rfl Jh4
  unfold f_X0_leaving at hf
  refine v_iconst (x := 0) C dX0_leaving_0 (by decide) ?_
  refine v_istore_n (ls' := [(3, _), (0, _), (1, _), (2, _)]) C dX0_leaving_1 rfl (by decide) rfl ?_
  refine v_iconst (x := 0) C dX0_leaving_2 (by decide) ?_
  refine v_istore (ls' := [(4, _), (3, _), (0, _), (1, _), (2, _)]) C dX0_leaving_3 (by decide) rfl ?_
  obtain ⟨x7, h8, eh8, hf, hlh8⟩ := mb_inv hf hl
  refine v_sub (ls' := _) [2, 3, 4, 1, 0] rfl (L5 a0 i1 i2 FU (0 : Int32) (0 : Int32) _ _ _ eh8 hlh8 ?_)
  refine v_aload_n C 0 dX0_leaving_38 rfl rfl ?_
  refine v_iload_n C 1 dX0_leaving_39 rfl rfl ?_
  refine v_iload_n C 2 dX0_leaving_40 rfl rfl ?_
  refine v_callV (stk := fun _ => []) C (ct_X0_layChain _ a0 i1 x7) rfl ⟨rfl, nd_X0_layChain⟩ rfl (Nat.le_of_ble_eq_true rfl) (Nat.le_of_ble_eq_true rfl) [] (Nat.le_of_ble_eq_true rfl) (fun _ => rfl) rfl q1382 q1384 qs24 q96 q1385 hf hl dX0_leaving_41 (fun x9 h10 hf => ?_)
  refine v_aload_n C 0 dX0_leaving_44 rfl rfl ?_
  refine v_gR (Cn := RX0) (T := TX0) (N := 16) C hf in_X0 rfl (by decide) q698 rfl dX0_leaving_45 (fun x11 hf => ?_)
  refine v_iload_n C 2 dX0_leaving_48 rfl rfl ?_
  refine v_callV (stk := fun b => .int b :: []) C (ct_X6_order _ x11 x7) rfl ⟨rfl, nd_X6_order⟩ rfl (Nat.le_of_ble_eq_true rfl) (Nat.le_of_ble_eq_true rfl) [] (Nat.le_of_ble_eq_true rfl) (fun _ => rfl) rfl q1434 q1435 q1436 q114 q1437 hf hl dX0_leaving_49 (fun x12 h13 hf => ?_)
  exact v_iret C E hf dX0_leaving_52
def f_X0_holds (a0 : Nat) (i1 : Int32) (i2 : Int32) : hM Int32 :=
  mb (f_X0_isMoves i1) fun x1 => mi (x1 = 0) (mret (-1 : Int32)) (mb (f_X0_isMove i2) fun x3 => mi (¬ x3 = 0) (mb (mat a0 0 (f_X0_keepAll a0 i1)) fun x5 => mi (¬ x5 = 0) (mb (mat a0 0 (f_X0_layChain a0 i1 (0 : Int32))) fun _ => mb (gR a0 0 6) fun x9 => mb (gR a0 0 3) fun x10 => mb (gR x10 2 0) fun x11 => mb (aR 6 x11 i2) fun x12 => mb (mat x9 6 (f_X6_isMade x9 x12)) fun x13 => mb (mi (x13 = 0) (mret (0 : Int32)) (mret (1 : Int32))) fun x15 => mret x15) (mret (-2 : Int32))) (mret (-1 : Int32)))
theorem nd_X0_holds : yX0_holds.cls ≠ "java/lang/invoke/MethodHandle" ∧ yX0_holds.cls ≠ "java/lang/invoke/VarHandle" ∧ (parseMethodDescriptor yX0_holds.desc).map (fun d => d.parameters.length) = some 2 := by decide +kernel
set_option maxHeartbeats 4000000 in
theorem ct_X0_holds (l : Launch) (a0 : Nat) (i1 : Int32) (i2 : Int32) : CT l yX0_holds cX0_holds 3 (some .int) 8 179 rvI [.ref a0, .int i1, .int i2] (f_X0_holds a0 i1 i2) := by
  refine CT_of (ls := [(0, .ref a0), (1, .int i1), (2, .int i2)]) (by decide) (Nat.le_of_ble_eq_true rfl) rfl ?_
  intro X h he z hX hf C E hnm hh
  have hl := hle.rf he
  subst hX
  unfold f_X0_holds at hf
  refine v_iload_n C 1 dX0_holds_0 rfl rfl ?_
  refine v_callS (stk := fun b => .int b :: []) C (ct_X0_isMoves _ i1) nd_X0_isMoves rfl (Nat.le_of_ble_eq_true rfl) (Nat.le_of_ble_eq_true rfl) [] (Nat.le_of_ble_eq_true rfl) (fun _ => rfl) rfl q1370 q1371 q96 q1372 hf hl dX0_holds_1 (fun x1 h2 hf => ?_)
  refine v_if_eq C hf (tgt := 14) dX0_holds_4 (by decide) (fun c4 hf => ?_) (fun c4 hf => ?_)
  · refine v_iconst (x := (-1)) C dX0_holds_14 (by decide) ?_
    exact v_iret C E hf dX0_holds_15
  · refine v_iload_n C 2 dX0_holds_7 rfl rfl ?_
    refine v_callS (stk := fun b => .int b :: []) C (ct_X0_isMove _ i2) nd_X0_isMove rfl (Nat.le_of_ble_eq_true rfl) (Nat.le_of_ble_eq_true rfl) [] (Nat.le_of_ble_eq_true rfl) (fun _ => rfl) rfl q812 q813 q96 q814 hf hl dX0_holds_8 (fun x3 h4 hf => ?_)
    refine v_if_ne C hf (tgt := 16) dX0_holds_11 (by decide) (fun c11 hf => ?_) (fun c11 hf => ?_)
    · refine v_aload_n C 0 dX0_holds_16 rfl rfl ?_
      refine v_iload_n C 1 dX0_holds_17 rfl rfl ?_
      refine v_callV (stk := fun b => .int b :: []) C (ct_X0_keepAll _ a0 i1) rfl ⟨rfl, nd_X0_keepAll⟩ rfl (Nat.le_of_ble_eq_true rfl) (Nat.le_of_ble_eq_true rfl) [] (Nat.le_of_ble_eq_true rfl) (fun _ => rfl) rfl q1374 q1376 qs22 q96 q1377 hf hl dX0_holds_18 (fun x5 h6 hf => ?_)
      refine v_if_ne C hf (tgt := 27) dX0_holds_21 (by decide) (fun c21 hf => ?_) (fun c21 hf => ?_)
      · refine v_aload_n C 0 dX0_holds_27 rfl rfl ?_
        refine v_iload_n C 1 dX0_holds_28 rfl rfl ?_
        refine v_iconst (x := 0) C dX0_holds_29 (by decide) ?_
        refine v_callV (stk := fun _ => []) C (ct_X0_layChain _ a0 i1 (0 : Int32)) rfl ⟨rfl, nd_X0_layChain⟩ rfl (Nat.le_of_ble_eq_true rfl) (Nat.le_of_ble_eq_true rfl) [] (Nat.le_of_ble_eq_true rfl) (fun _ => rfl) rfl q1382 q1384 qs24 q96 q1385 hf hl dX0_holds_30 (fun x7 h8 hf => ?_)
        refine v_aload_n C 0 dX0_holds_33 rfl rfl ?_
        refine v_gR (Cn := RX0) (T := TX0) (N := 16) C hf in_X0 rfl (by decide) q698 rfl dX0_holds_34 (fun x9 hf => ?_)
        refine v_aload_n C 0 dX0_holds_37 rfl rfl ?_
        refine v_gR (Cn := RX0) (T := TX0) (N := 16) C hf in_X0 rfl (by decide) q695 rfl dX0_holds_38 (fun x10 hf => ?_)
        refine v_gRN (Cn := RX2) (T := TX2) (N := 3) C hf in_X2 rfl (by decide) q259 rfl dX0_holds_41 (fun x11 hf => ?_)
        refine v_iload_n C 2 dX0_holds_44 rfl rfl ?_
        refine v_aaload C hf (by decide) rfl dX0_holds_45 (fun x12 hf => ?_)
        refine v_callV (stk := fun b => .int b :: []) C (ct_X6_isMade _ x9 x12) rfl ⟨rfl, nd_X6_isMade⟩ rfl (Nat.le_of_ble_eq_true rfl) (Nat.le_of_ble_eq_true rfl) [] (Nat.le_of_ble_eq_true rfl) (fun _ => rfl) rfl q1580 q1581 q1582 q114 q1583 hf hl dX0_holds_46 (fun x13 h14 hf => ?_)
        obtain ⟨x15, h16, hAh16, hf, hlh16⟩ := mb_inv hf hl
        refine v_cut (h1 := h16) (pc1 := 57) (ls1 := []) (st1 := [.int x15]) ?_ (fun Jh16 => ?_)
        · clear hAh16 hlh16
          exact v_iret C E hf dX0_holds_57
        · clear hf
          have hf := hAh16
          have hl := hlh16
          refine v_if_eq C hf (tgt := 56) dX0_holds_49 (by decide) (fun c49 hf => ?_) (fun c49 hf => ?_)
          · refine v_iconst (x := 0) C dX0_holds_56 (by decide) ?_
            obtain ⟨e1, rfl⟩ := mret_inv hf
            subst e1
            exact v_sub (ls' := _) [] rfl Jh16
          · refine v_iconst (x := 1) C dX0_holds_52 (by decide) ?_
            refine v_goto (tgt := 57) C dX0_holds_53 (by decide) ?_
            obtain ⟨e1, rfl⟩ := mret_inv hf
            subst e1
            exact v_sub (ls' := _) [] rfl Jh16
      · refine v_bipush (x := (-2)) C dX0_holds_24 (by decide) ?_
        exact v_iret C E hf dX0_holds_26
    · refine v_iconst (x := (-1)) C dX0_holds_14 (by decide) ?_
      exact v_iret C E hf dX0_holds_15
def f_X0_count (a0 : Nat) (i1 : Int32) : hM Int32 :=
  mb (mi (i1 = 0) (mb (gR a0 0 3) fun x3 => mb (gI x3 2 1) fun x4 => mret x4) (mi (i1 = 1) (mb (gI a0 0 10) fun x5 => mret x5) (mi (i1 = 2) (mb (mat a0 0 (f_X0_keeping a0)) fun x6 => mret x6) (mi (i1 = 3) (mb (gI a0 0 14) fun x8 => mi (x8 = 0) (mret (0 : Int32)) (mret (1 : Int32))) (mret (-1 : Int32)))))) fun x1 => mret x1
theorem nd_X0_count : yX0_count.cls ≠ "java/lang/invoke/MethodHandle" ∧ yX0_count.cls ≠ "java/lang/invoke/VarHandle" ∧ (parseMethodDescriptor yX0_count.desc).map (fun d => d.parameters.length) = some 1 := by decide +kernel
set_option maxHeartbeats 4000000 in
theorem ct_X0_count (l : Launch) (a0 : Nat) (i1 : Int32) : CT l yX0_count cX0_count 2 (some .int) 6 132 rvI [.ref a0, .int i1] (f_X0_count a0 i1) := by
  refine CT_of (ls := [(0, .ref a0), (1, .int i1)]) (by decide) (Nat.le_of_ble_eq_true rfl) rfl ?_
  intro X h he z hX hf C E hnm hh
  have hl := hle.rf he
  subst hX
  unfold f_X0_count at hf
  refine v_iload_n C 1 dX0_count_0 rfl rfl ?_
  obtain ⟨x1, h2, hAh2, hf, hlh2⟩ := mb_inv hf hl
  refine v_cut (h1 := h2) (pc1 := 72) (ls1 := []) (st1 := [.int x1]) ?_ (fun Jh2 => ?_)
  · clear hAh2 hlh2
    exact v_iret C E hf dX0_count_72
  · clear hf
    have hf := hAh2
    have hl := hlh2
    by_cases e1_0 : i1 = 0
    · have hf := mi_pos e1_0 hf
      refine v_tswI C (k := 0) e1_0 dX0_count_1 (by decide) (by decide) rfl (tgt := 32) (by decide) ?_
      refine v_aload_n C 0 dX0_count_32 rfl rfl ?_
      refine v_gR (Cn := RX0) (T := TX0) (N := 16) C hf in_X0 rfl (by decide) q695 rfl dX0_count_33 (fun x3 hf => ?_)
      refine v_gIN (Cn := RX2) (T := TX2) (N := 3) C hf in_X2 rfl (by decide) q261 rfl dX0_count_36 (fun x4 hf => ?_)
      refine v_goto (tgt := 72) C dX0_count_39 (by decide) ?_
      obtain ⟨e1, rfl⟩ := mret_inv hf
      subst e1
      exact v_sub (ls' := _) [] rfl Jh2
    have hf := mi_neg e1_0 hf
    by_cases e1_1 : i1 = 1
    · have hf := mi_pos e1_1 hf
      refine v_tswI C (k := 1) e1_1 dX0_count_1 (by decide) (by decide) rfl (tgt := 42) (by decide) ?_
      refine v_aload_n C 0 dX0_count_42 rfl rfl ?_
      refine v_gI (Cn := RX0) (T := TX0) (N := 16) C hf in_X0 rfl (by decide) q702 rfl dX0_count_43 (fun x5 hf => ?_)
      refine v_goto (tgt := 72) C dX0_count_46 (by decide) ?_
      obtain ⟨e1, rfl⟩ := mret_inv hf
      subst e1
      exact v_sub (ls' := _) [] rfl Jh2
    have hf := mi_neg e1_1 hf
    by_cases e1_2 : i1 = 2
    · have hf := mi_pos e1_2 hf
      refine v_tswI C (k := 2) e1_2 dX0_count_1 (by decide) (by decide) rfl (tgt := 49) (by decide) ?_
      refine v_aload_n C 0 dX0_count_49 rfl rfl ?_
      refine v_callV (stk := fun b => .int b :: []) C (ct_X0_keeping _ a0) rfl ⟨rfl, nd_X0_keeping⟩ rfl (Nat.le_of_ble_eq_true rfl) (Nat.le_of_ble_eq_true rfl) [] (Nat.le_of_ble_eq_true rfl) (fun _ => rfl) rfl q1625 q1627 qs32 q96 q1628 hf hl dX0_count_50 (fun x6 h7 hf => ?_)
      refine v_goto (tgt := 72) C dX0_count_53 (by decide) ?_
      obtain ⟨e1, rfl⟩ := mret_inv hf
      subst e1
      exact v_sub (ls' := _) [] rfl Jh2
    have hf := mi_neg e1_2 hf
    by_cases e1_3 : i1 = 3
    · have hf := mi_pos e1_3 hf
      refine v_tswI C (k := 3) e1_3 dX0_count_1 (by decide) (by decide) rfl (tgt := 56) (by decide) ?_
      refine v_aload_n C 0 dX0_count_56 rfl rfl ?_
      refine v_gI (Cn := RX0) (T := TX0) (N := 16) C hf in_X0 rfl (by decide) q706 rfl dX0_count_57 (fun x8 hf => ?_)
      refine v_if_eq C hf (tgt := 67) dX0_count_60 (by decide) (fun c60 hf => ?_) (fun c60 hf => ?_)
      · refine v_iconst (x := 0) C dX0_count_67 (by decide) ?_
        refine v_goto (tgt := 72) C dX0_count_68 (by decide) ?_
        obtain ⟨e1, rfl⟩ := mret_inv hf
        subst e1
        exact v_sub (ls' := _) [] rfl Jh2
      · refine v_iconst (x := 1) C dX0_count_63 (by decide) ?_
        refine v_goto (tgt := 72) C dX0_count_64 (by decide) ?_
        obtain ⟨e1, rfl⟩ := mret_inv hf
        subst e1
        exact v_sub (ls' := _) [] rfl Jh2
    have hf := mi_neg e1_3 hf
    refine v_tswO C (n := 4) (lo := 0) (x := i1) (fun j hj => ?_) dX0_count_1 rfl rfl (tgt := 71) (by decide) ?_
    · rcases (show j = 0 ∨ j = 1 ∨ j = 2 ∨ j = 3 by omega) with rfl | rfl | rfl | rfl
      · exact e1_0
      · exact e1_1
      · exact e1_2
      · exact e1_3
    refine v_iconst (x := (-1)) C dX0_count_71 (by decide) ?_
    obtain ⟨e1, rfl⟩ := mret_inv hf
    subst e1
    exact v_sub (ls' := _) [] rfl Jh2
def l_X0_found_15 (a0 : Nat) (i1 : Int32) (a2 : Nat) (i3 : Int32) (i4 : Int32) (a5 : Nat) : Nat → Int32 → Int32 → Int32 → hM (Int32)
  | 0, _, _, _ => mfail
  | n + 1, i6, i7, i8 => mi (i4 ≤ i8) (mret i7) (mb (mat a2 10 (f_X10_get a2 (i3 + ((2 : Int32) * i8)))) fun x3 => mb (mat a2 10 (f_X10_get a2 ((i3 + ((2 : Int32) * i8)) + (1 : Int32)))) fun x5 => mb (f_X0_has i6 x3.toInt32) fun x7 => mb (mi (¬ x7 = 0) (mret (i6, i7)) (mb (gR a0 0 8) fun x12 => mb (sI 1 x12 i7 x3.toInt32) fun _ => mb (sI 1 a5 i7 x5.toInt32) fun _ => mret (i6 ||| ((1 : Int32) <<< (x3.toInt32 &&& 31)), i7 + (1 : Int32)))) fun ⟨x9, x10⟩ => l_X0_found_15 a0 i1 a2 i3 i4 a5 n x9 x10 (i8 + (1 : Int32)))
def l_X0_found_117 (a0 : Nat) (a2 : Nat) (i3 : Int32) (i4 : Int32) (i7 : Int32) (q8 : Option Nat) : Nat → Int32 → hM ((Unit) ⊕ (Int32))
  | 0, _ => mfail
  | n + 1, i9 => mi (i4 ≤ i9) (mret (Sum.inl ())) (mq q8 (mret (Sum.inl ())) (fun y22 => mb (mat a2 10 (f_X10_get a2 (i3 + ((2 : Int32) * i9)))) fun x23 => mb (mat y22 3 (f_X3_to y22 x23.toInt32)) fun x25 => mb (mat a2 10 (f_X10_get a2 ((i3 + ((2 : Int32) * i9)) + (1 : Int32)))) fun x27 => mi ((lg_cmp x25.toInt64 x27) = 0) (l_X0_found_117 a0 a2 i3 i4 i7 q8 n (i9 + (1 : Int32))) (mret (Sum.inr (0 : Int32)))))
def f_X0_found (a0 : Nat) (i1 : Int32) (a2 : Nat) (i3 : Int32) (i4 : Int32) : hM Int32 :=
  mb (newA 1 (8 : Int32)) fun x1 => mb (l_X0_found_15 a0 i1 a2 i3 i4 x1 FU (0 : Int32) (0 : Int32) (0 : Int32)) fun x15 => mb (mat a0 0 (f_X0_layChain a0 i1 x15)) fun _ => mb (gR a0 0 6) fun x19 => mb (mat x19 6 (f_X6_first x19 x1 x15)) fun x20 => mbs (l_X0_found_117 a0 a2 i3 i4 x15 x20 FU (0 : Int32)) (fun x29 => mq x20 (mret (0 : Int32)) (fun y31 => mb (gR a0 0 3) fun x32 => mb (gR x32 2 0) fun x33 => mb (aR 6 x33 (4 : Int32)) fun x34 => mb (mat x34 3 (f_X3_take x34 y31)) fun x35 => mb (gR a0 0 6) fun x37 => mb (mat x37 6 (f_X6_order x37 x15)) fun x38 => mret x38)) id
theorem nd_X0_found : yX0_found.cls ≠ "java/lang/invoke/MethodHandle" ∧ yX0_found.cls ≠ "java/lang/invoke/VarHandle" ∧ (parseMethodDescriptor yX0_found.desc).map (fun d => d.parameters.length) = some 4 := by decide +kernel
set_option maxHeartbeats 4000000 in
theorem ct_X0_found (l : Launch) (a0 : Nat) (i1 : Int32) (a2 : Nat) (i3 : Int32) (i4 : Int32) : CT l yX0_found cX0_found 11 (some .int) 8 179 rvI [.ref a0, .int i1, .ref a2, .int i3, .int i4] (f_X0_found a0 i1 a2 i3 i4) := by
  refine CT_of (ls := [(0, .ref a0), (1, .int i1), (2, .ref a2), (3, .int i3), (4, .int i4)]) (by decide) (Nat.le_of_ble_eq_true rfl) rfl ?_
  intro X h he z hX hf C E hnm hh
  have hl := hle.rf he
  subst hX
  have L15 : ∀ (a0 : Nat) (i1 : Int32) (a2 : Nat) (i3 : Int32) (i4 : Int32) (a5 : Nat) (n : Nat) (i6 : Int32) (i7 : Int32) (i8 : Int32) (h h1 : Hp) (o : Int32), (l_X0_found_15 a0 i1 a2 i3 i4 a5 n i6 i7 i8).1 h = some (o, h1) → hle h1 he → V X h1 94 [(0, .ref a0), (1, .int i1), (2, .ref a2), (3, .int i3), (4, .int i4), (5, .ref a5), (7, .int o)] [] → V X h 15 [(0, .ref a0), (1, .int i1), (2, .ref a2), (3, .int i3), (4, .int i4), (5, .ref a5), (6, .int i6), (7, .int i7), (8, .int i8)] [] := by
    intro a0 i1 a2 i3 i4 a5 n
    induction n with
    | zero => intro i6 i7 i8 h h1 o hf; exact mfail_inv hf
    | succ n ih =>
      intro i6 i7 i8 h h1 o hf hl J
      rw [l_X0_found_15] at hf
      refine v_iload C 8 dX0_found_15 rfl ?_
      refine v_iload C 4 dX0_found_17 rfl ?_
      refine v_icmp_ge C hf (tgt := 94) dX0_found_19 (by decide) (fun c19 hf => ?_) (fun c19 hf => ?_)
      · obtain ⟨e1, rfl⟩ := mret_inv hf
        subst e1
        exact v_sub (ls' := _) [0, 1, 2, 3, 4, 5, 7] rfl J
      · refine v_aload_n C 2 dX0_found_22 rfl rfl ?_
        refine v_iload_n C 3 dX0_found_23 rfl rfl ?_
        refine v_iconst (x := 2) C dX0_found_24 (by decide) ?_
        refine v_iload C 8 dX0_found_25 rfl ?_
        refine v_imul C dX0_found_27 ?_
        refine v_iadd C dX0_found_28 ?_
        refine v_callV (stk := fun b => .long b :: []) C (ct_X10_get _ a2 (i3 + ((2 : Int32) * i8))) rfl ⟨rfl, nd_X10_get⟩ rfl (Nat.le_of_ble_eq_true rfl) (Nat.le_of_ble_eq_true rfl) [] (Nat.le_of_ble_eq_true rfl) (fun _ => rfl) rfl q1664 q1665 q1666 q118 q1667 hf hl dX0_found_29 (fun x3 h4 hf => ?_)
        refine v_l2i C dX0_found_32 ?_
        refine v_istore (ls' := [(9, _), (0, _), (1, _), (2, _), (3, _), (4, _), (5, _), (6, _), (7, _), (8, _)]) C dX0_found_33 (by decide) rfl ?_
        refine v_aload_n C 3 dX0_found_35 rfl rfl ?_
        refine v_iload_n C 4 dX0_found_36 rfl rfl ?_
        refine v_iconst (x := 2) C dX0_found_37 (by decide) ?_
        refine v_iload C 9 dX0_found_38 rfl ?_
        refine v_imul C dX0_found_40 ?_
        refine v_iadd C dX0_found_41 ?_
        refine v_iconst (x := 1) C dX0_found_42 (by decide) ?_
        refine v_iadd C dX0_found_43 ?_
        refine v_callV (stk := fun b => .long b :: []) C (ct_X10_get _ a2 ((i3 + ((2 : Int32) * i8)) + (1 : Int32))) rfl ⟨rfl, nd_X10_get⟩ rfl (Nat.le_of_ble_eq_true rfl) (Nat.le_of_ble_eq_true rfl) [] (Nat.le_of_ble_eq_true rfl) (fun _ => rfl) rfl q1664 q1665 q1666 q118 q1667 hf hl dX0_found_44 (fun x5 h6 hf => ?_)
        refine v_l2i C dX0_found_47 ?_
        refine v_istore (ls' := [(10, _), (9, _), (0, _), (1, _), (2, _), (3, _), (4, _), (5, _), (6, _), (7, _), (8, _)]) C dX0_found_48 (by decide) rfl ?_
        refine v_iload C 8 dX0_found_50 rfl ?_
        refine v_iload C 1 dX0_found_52 rfl ?_
        refine v_callS (stk := fun b => .int b :: []) C (ct_X0_has _ i6 x3.toInt32) nd_X0_has rfl (Nat.le_of_ble_eq_true rfl) (Nat.le_of_ble_eq_true rfl) [] (Nat.le_of_ble_eq_true rfl) (fun _ => rfl) rfl q1259 q164 q96 q165 hf hl dX0_found_54 (fun x7 h8 hf => ?_)
        obtain ⟨⟨x9, x10⟩, h11, hAh11, hf, hlh11⟩ := mb_inv hf hl
        refine v_cut (h1 := h11) (pc1 := 88) (ls1 := [(0, .ref a0), (1, .int i1), (2, .ref a2), (3, .int i3), (4, .int i4), (5, .ref a5), (6, .int x9), (7, .int x10), (8, .int i8)]) (st1 := []) ?_ (fun Jh11 => ?_)
        · clear hAh11 hlh11
          refine v_iinc (ls' := [(8, _), (0, _), (1, _), (2, _), (3, _), (4, _), (5, _), (6, _), (7, _)]) (y := i8 + (1 : Int32)) C 8 dX0_found_88 rfl rfl (by decide) rfl ?_
          refine v_goto (tgt := 15) C dX0_found_91 (by decide) ?_
          refine v_sub (ls' := _) [1, 2, 3, 4, 5, 6, 7, 8, 0] rfl (ih x9 x10 (i8 + (1 : Int32)) _ _ _ hf hl J)
        · clear hf
          have hf := hAh11
          have hl := hlh11
          refine v_if_ne C hf (tgt := 88) dX0_found_57 (by decide) (fun c57 hf => ?_) (fun c57 hf => ?_)
          · obtain ⟨e1, rfl⟩ := mret_inv hf
            simp only [Prod.mk.injEq] at e1
            obtain ⟨rfl, rfl⟩ := e1
            exact v_sub (ls' := _) [2, 3, 4, 5, 6, 7, 8, 9, 10] rfl Jh11
          · refine v_aload_n C 2 dX0_found_60 rfl rfl ?_
            refine v_gR (Cn := RX0) (T := TX0) (N := 16) C hf in_X0 rfl (by decide) q700 rfl dX0_found_61 (fun x12 hf => ?_)
            refine v_iload C 9 dX0_found_64 rfl ?_
            refine v_iload C 1 dX0_found_66 rfl ?_
            refine v_iastore C hf dX0_found_68 (fun h13 hf => ?_)
            refine v_aload C 7 dX0_found_69 rfl ?_
            refine v_iload C 9 dX0_found_71 rfl ?_
            refine v_iload C 0 dX0_found_73 rfl ?_
            refine v_iastore C hf dX0_found_75 (fun h14 hf => ?_)
            refine v_iinc (ls' := [(7, _), (10, _), (9, _), (0, _), (1, _), (2, _), (3, _), (4, _), (5, _), (6, _), (8, _)]) (y := i7 + (1 : Int32)) C 9 dX0_found_76 rfl rfl (by decide) rfl ?_
            refine v_iload C 9 dX0_found_79 rfl ?_
            refine v_iconst (x := 1) C dX0_found_81 (by decide) ?_
            refine v_iload C 2 dX0_found_82 rfl ?_
            refine v_ishl C dX0_found_84 ?_
            refine v_ior C dX0_found_85 ?_
            refine v_istore (ls' := [(6, _), (7, _), (10, _), (9, _), (0, _), (1, _), (2, _), (3, _), (4, _), (5, _), (8, _)]) C dX0_found_86 (by decide) rfl ?_
            obtain ⟨e1, rfl⟩ := mret_inv hf
            simp only [Prod.mk.injEq] at e1
            obtain ⟨rfl, rfl⟩ := e1
            exact v_sub (ls' := _) [4, 5, 6, 7, 8, 9, 0, 1, 10] rfl Jh11
  have L117 : ∀ (a0 : Nat) (a2 : Nat) (i3 : Int32) (i4 : Int32) (i7 : Int32) (q8 : Option Nat) (n : Nat) (i9 : Int32) (h h1 : Hp) (o : (Unit) ⊕ (Int32)), (l_X0_found_117 a0 a2 i3 i4 i7 q8 n i9).1 h = some (o, h1) → hle h1 he → (∀ b, o = Sum.inl b → V X h1 170 [(0, .ref a0), (7, .int i7), (8, va_rf q8)] []) → (∀ c, o = Sum.inr c → (mret c).1 h1 = some (z, he)) → V X h 117 [(0, .ref a0), (2, .ref a2), (3, .int i3), (4, .int i4), (7, .int i7), (8, va_rf q8), (9, .int i9)] [] := by
    intro a0 a2 i3 i4 i7 q8 n
    induction n with
    | zero => intro i9 h h1 o hf; exact mfail_inv hf
    | succ n ih =>
      intro i9 h h1 o hf hl J hret
      rw [l_X0_found_117] at hf
      refine v_iload C 6 dX0_found_117 rfl ?_
      refine v_iload C 3 dX0_found_119 rfl ?_
      refine v_icmp_ge C hf (tgt := 170) dX0_found_121 (by decide) (fun c121 hf => ?_) (fun c121 hf => ?_)
      · obtain ⟨e1, rfl⟩ := mret_inv hf
        subst e1
        exact v_sub (ls' := _) [0, 4, 5] rfl (J _ rfl)
      · refine v_aloadQ C 5 dX0_found_124 rfl ?_
        refine v_ifnullq C hf (tgt := 170) dX0_found_126 (by decide) (fun c126 hf => ?_) (fun y22 c126 hf => ?_)
        · obtain ⟨e1, rfl⟩ := mret_inv hf
          subst e1
          exact v_sub (ls' := _) [0, 4, 5] rfl (J _ rfl)
        · subst c126
          refine v_aload C 5 dX0_found_129 rfl ?_
          refine v_aload_n C 1 dX0_found_131 rfl rfl ?_
          refine v_iload_n C 2 dX0_found_132 rfl rfl ?_
          refine v_iconst (x := 2) C dX0_found_133 (by decide) ?_
          refine v_iload C 6 dX0_found_134 rfl ?_
          refine v_imul C dX0_found_136 ?_
          refine v_iadd C dX0_found_137 ?_
          refine v_callV (stk := fun b => .long b :: [.ref y22]) C (ct_X10_get _ a2 (i3 + ((2 : Int32) * i9))) rfl ⟨rfl, nd_X10_get⟩ rfl (Nat.le_of_ble_eq_true rfl) (Nat.le_of_ble_eq_true rfl) [.ref y22] (Nat.le_of_ble_eq_true rfl) (fun _ => rfl) rfl q1664 q1665 q1666 q118 q1667 hf hl dX0_found_138 (fun x23 h24 hf => ?_)
          refine v_l2i C dX0_found_141 ?_
          refine v_callV (stk := fun b => .int b :: []) C (ct_X3_to _ y22 x23.toInt32) rfl ⟨rfl, nd_X3_to⟩ rfl (Nat.le_of_ble_eq_true rfl) (Nat.le_of_ble_eq_true rfl) [] (Nat.le_of_ble_eq_true rfl) (fun _ => rfl) rfl q820 q646 q2328 q103 q648 hf hl dX0_found_142 (fun x25 h26 hf => ?_)
          refine v_i2l C dX0_found_145 ?_
          refine v_aload_n C 1 dX0_found_146 rfl rfl ?_
          refine v_iload_n C 2 dX0_found_147 rfl rfl ?_
          refine v_iconst (x := 2) C dX0_found_148 (by decide) ?_
          refine v_iload C 6 dX0_found_149 rfl ?_
          refine v_imul C dX0_found_151 ?_
          refine v_iadd C dX0_found_152 ?_
          refine v_iconst (x := 1) C dX0_found_153 (by decide) ?_
          refine v_iadd C dX0_found_154 ?_
          refine v_callV (stk := fun b => .long b :: [.long x25.toInt64]) C (ct_X10_get _ a2 ((i3 + ((2 : Int32) * i9)) + (1 : Int32))) rfl ⟨rfl, nd_X10_get⟩ rfl (Nat.le_of_ble_eq_true rfl) (Nat.le_of_ble_eq_true rfl) [.long x25.toInt64] (Nat.le_of_ble_eq_true rfl) (fun _ => rfl) rfl q1664 q1665 q1666 q118 q1667 hf hl dX0_found_155 (fun x27 h28 hf => ?_)
          refine v_lcmp C dX0_found_158 ?_
          refine v_if_eq C hf (tgt := 164) dX0_found_159 (by decide) (fun c159 hf => ?_) (fun c159 hf => ?_)
          · refine v_iinc (ls' := [(9, _), (0, _), (2, _), (3, _), (4, _), (7, _), (8, _)]) (y := i9 + (1 : Int32)) C 6 dX0_found_164 rfl rfl (by decide) rfl ?_
            refine v_goto (tgt := 117) C dX0_found_167 (by decide) ?_
            refine v_sub (ls' := _) [1, 2, 3, 4, 5, 6, 0] rfl (ih (i9 + (1 : Int32)) _ _ _ hf hl J hret)
          · refine v_iconst (x := 0) C dX0_found_162 (by decide) ?_
            exact v_iret C E (mret_up hf hret) dX0_found_163
  unfold f_X0_found at hf
  refine v_bipush (x := 8) C dX0_found_0 (by decide) ?_
  refine v_newarrayint C hf hl q234 dX0_found_2 (fun x1 h2 hf => ?_)
  refine v_astore (ls' := [(5, _), (0, _), (1, _), (2, _), (3, _), (4, _)]) C dX0_found_4 (by decide) rfl ?_
  refine v_iconst (x := 0) C dX0_found_6 (by decide) ?_
  refine v_istore (ls' := [(6, _), (5, _), (0, _), (1, _), (2, _), (3, _), (4, _)]) C dX0_found_7 (by decide) rfl ?_
  refine v_iconst (x := 0) C dX0_found_9 (by decide) ?_
  refine v_istore (ls' := [(7, _), (6, _), (5, _), (0, _), (1, _), (2, _), (3, _), (4, _)]) C dX0_found_10 (by decide) rfl ?_
  refine v_iconst (x := 0) C dX0_found_12 (by decide) ?_
  refine v_istore (ls' := [(8, _), (7, _), (6, _), (5, _), (0, _), (1, _), (2, _), (3, _), (4, _)]) C dX0_found_13 (by decide) rfl ?_
  obtain ⟨x15, h16, eh16, hf, hlh16⟩ := mb_inv hf hl
  refine v_sub (ls' := _) [4, 5, 6, 7, 8, 3, 2, 1, 0] rfl (L15 a0 i1 a2 i3 i4 x1 FU (0 : Int32) (0 : Int32) (0 : Int32) _ _ _ eh16 hlh16 ?_)
  refine v_aload_n C 0 dX0_found_94 rfl rfl ?_
  refine v_iload_n C 1 dX0_found_95 rfl rfl ?_
  refine v_iload C 6 dX0_found_96 rfl ?_
  refine v_callV (stk := fun _ => []) C (ct_X0_layChain _ a0 i1 x15) rfl ⟨rfl, nd_X0_layChain⟩ rfl (Nat.le_of_ble_eq_true rfl) (Nat.le_of_ble_eq_true rfl) [] (Nat.le_of_ble_eq_true rfl) (fun _ => rfl) rfl q1382 q1384 qs24 q96 q1385 hf hl dX0_found_98 (fun x17 h18 hf => ?_)
  refine v_aload_n C 0 dX0_found_101 rfl rfl ?_
  refine v_gR (Cn := RX0) (T := TX0) (N := 16) C hf in_X0 rfl (by decide) q698 rfl dX0_found_102 (fun x19 hf => ?_)
  refine v_aload C 5 dX0_found_105 rfl ?_
  refine v_iload C 6 dX0_found_107 rfl ?_
  refine v_callV (stk := fun b => va_rf b :: []) C (ct_X6_first _ x19 x1 x15) rfl ⟨rfl, nd_X6_first⟩ rfl (Nat.le_of_ble_eq_true rfl) (Nat.le_of_ble_eq_true rfl) [] (Nat.le_of_ble_eq_true rfl) (fun _ => rfl) rfl q1672 q1673 q1674 q114 q1675 hf hl dX0_found_109 (fun x20 h21 hf => ?_)
  refine v_astoreQ (ls' := [(8, _), (0, _), (1, _), (2, _), (3, _), (4, _), (5, _), (7, _)]) C dX0_found_112 (by decide) rfl ?_
  refine v_iconst (x := 0) C dX0_found_114 (by decide) ?_
  refine v_istore (ls' := [(9, .int (0 : Int32)), (8, va_rf x20), (0, .ref a0), (1, .int i1), (2, .ref a2), (3, .int i3), (4, .int i4), (5, .ref x1), (7, .int x15)]) C dX0_found_115 (by decide) (by generalize x20 = q9; cases q9 <;> rfl) ?_
  obtain ⟨ox29, h30, eh30, hlh30, hkh30, hrh30⟩ := mbs_inv hf hl
  refine v_sub (ls' := _) [2, 4, 5, 6, 8, 1, 0] rfl (L117 a0 a2 i3 i4 x15 x20 FU (0 : Int32) _ _ _ eh30 hlh30 (fun x29 eo => ?_) hrh30)
  have hf := hkh30 x29 eo
  clear hkh30 hrh30
  refine v_aloadQ C 2 dX0_found_170 rfl ?_
  refine v_ifnonnullq C hf (tgt := 177) dX0_found_172 (by decide) (fun y31 c172 hf => ?_) (fun c172 hf => ?_)
  · subst c172
    refine v_aload_n C 0 dX0_found_177 rfl rfl ?_
    refine v_gR (Cn := RX0) (T := TX0) (N := 16) C hf in_X0 rfl (by decide) q695 rfl dX0_found_178 (fun x32 hf => ?_)
    refine v_gRN (Cn := RX2) (T := TX2) (N := 3) C hf in_X2 rfl (by decide) q259 rfl dX0_found_181 (fun x33 hf => ?_)
    refine v_iconst (x := 4) C dX0_found_184 (by decide) ?_
    refine v_aaload C hf (by decide) rfl dX0_found_185 (fun x34 hf => ?_)
    refine v_aload C 2 dX0_found_186 rfl ?_
    refine v_callV (stk := fun b => .ref b :: []) C (ct_X3_take _ x34 y31) rfl ⟨rfl, nd_X3_take⟩ rfl (Nat.le_of_ble_eq_true rfl) (Nat.le_of_ble_eq_true rfl) [] (Nat.le_of_ble_eq_true rfl) (fun _ => rfl) rfl q635 q636 q637 q103 q638 hf hl dX0_found_188 (fun x35 h36 hf => ?_)
    refine v_pop C dX0_found_191 rfl ?_
    refine v_aload_n C 0 dX0_found_192 rfl rfl ?_
    refine v_gR (Cn := RX0) (T := TX0) (N := 16) C hf in_X0 rfl (by decide) q698 rfl dX0_found_193 (fun x37 hf => ?_)
    refine v_iload C 1 dX0_found_196 rfl ?_
    refine v_callV (stk := fun b => .int b :: []) C (ct_X6_order _ x37 x15) rfl ⟨rfl, nd_X6_order⟩ rfl (Nat.le_of_ble_eq_true rfl) (Nat.le_of_ble_eq_true rfl) [] (Nat.le_of_ble_eq_true rfl) (fun _ => rfl) rfl q1434 q1435 q1436 q114 q1437 hf hl dX0_found_198 (fun x38 h39 hf => ?_)
    exact v_iret C E hf dX0_found_201
  · refine v_iconst (x := 0) C dX0_found_175 (by decide) ?_
    exact v_iret C E hf dX0_found_176
def l_X17_read_62 (a0 : Nat) (i1 : Int32) : Nat → Int32 → Int32 → hM (Int32)
  | 0, _, _ => mfail
  | n + 1, i4, i5 => mi ((24 : Int32) ≤ i5) (mret i4) (mb (mat a0 15 (f_X17_to a0 i1 i5)) fun x12 => mb (gR a0 15 12) fun x14 => mb (aI 1 x14 i5) fun x15 => mb (mi (x12 = x15) (mret (0 : Int32)) (mret (1 : Int32))) fun x16 => mb (gR a0 15 0) fun x18 => mb (gR a0 15 12) fun x19 => mb (aI 1 x19 i5) fun x20 => mb (sI 1 x18 (((24 : Int32) * i1) + i5) x20) fun _ => l_X17_read_62 a0 i1 n (i4 + x16) (i5 + (1 : Int32)))
def f_X17_read (a0 : Nat) (i1 : Int32) : hM Int32 :=
  mb (f_X17_in i1.toInt64 (0 : Int64) (3 : Int64)) fun x1 => mi (¬ x1 = 0) (mb (mat a0 15 (f_X17_isText a0)) fun x3 => mb (mat a0 15 (f_X17_here a0)) fun x5 => mb (mi (¬ x5 = 0) (mb (gI a0 15 10) fun x24 => mret x24) (mb (gI a0 15 9) fun x25 => mret x25)) fun x7 => mb (pF a0 15 9 (.int (0 : Int32))) fun _ => mi (¬ x3 = 0) (mb (mat a0 15 (f_X17_notes a0)) fun _ => mb (l_X17_read_62 a0 i1 FU (0 : Int32) (0 : Int32)) fun x22 => mret x22) (mret ((-20 : Int32) - x7))) (mret (-1 : Int32))
theorem nd_X17_read : yX17_read.cls ≠ "java/lang/invoke/MethodHandle" ∧ yX17_read.cls ≠ "java/lang/invoke/VarHandle" ∧ (parseMethodDescriptor yX17_read.desc).map (fun d => d.parameters.length) = some 1 := by decide +kernel
set_option maxHeartbeats 4000000 in
theorem ct_X17_read (l : Launch) (a0 : Nat) (i1 : Int32) : CT l yX17_read cX17_read 6 (some .int) 7 160 rvI [.ref a0, .int i1] (f_X17_read a0 i1) := by
  refine CT_of (ls := [(0, .ref a0), (1, .int i1)]) (by decide) (Nat.le_of_ble_eq_true rfl) rfl ?_
  intro X h he z hX hf C E hnm hh
  have hl := hle.rf he
  subst hX
  have L62 : ∀ (a0 : Nat) (i1 : Int32) (n : Nat) (i4 : Int32) (i5 : Int32) (h h1 : Hp) (o : Int32), (l_X17_read_62 a0 i1 n i4 i5).1 h = some (o, h1) → hle h1 he → V X h1 121 [(4, .int o)] [] → V X h 62 [(0, .ref a0), (1, .int i1), (4, .int i4), (5, .int i5)] [] := by
    intro a0 i1 n
    induction n with
    | zero => intro i4 i5 h h1 o hf; exact mfail_inv hf
    | succ n ih =>
      intro i4 i5 h h1 o hf hl J
      rw [l_X17_read_62] at hf
      refine v_iload C 3 dX17_read_62 rfl ?_
      refine v_bipush (x := 24) C dX17_read_64 (by decide) ?_
      refine v_icmp_ge C hf (tgt := 121) dX17_read_66 (by decide) (fun c66 hf => ?_) (fun c66 hf => ?_)
      · obtain ⟨e1, rfl⟩ := mret_inv hf
        subst e1
        exact v_sub (ls' := _) [2] rfl J
      · refine v_iload C 2 dX17_read_69 rfl ?_
        refine v_aload_n C 0 dX17_read_71 rfl rfl ?_
        refine v_iload_n C 1 dX17_read_72 rfl rfl ?_
        refine v_iload C 3 dX17_read_73 rfl ?_
        refine v_callV (stk := fun b => .int b :: [.int i4]) C (ct_X17_to _ a0 i1 i5) rfl ⟨rfl, nd_X17_to⟩ rfl (Nat.le_of_ble_eq_true rfl) (Nat.le_of_ble_eq_true rfl) [.int i4] (Nat.le_of_ble_eq_true rfl) (fun _ => rfl) rfl q1997 q1999 qs45 q127 q2000 hf hl dX17_read_75 (fun x12 h13 hf => ?_)
        refine v_aload_n C 0 dX17_read_78 rfl rfl ?_
        refine v_gR (Cn := RX17) (T := TX17) (N := 37) C hf in_X17 rfl (by decide) q1816 rfl dX17_read_79 (fun x14 hf => ?_)
        refine v_iload C 3 dX17_read_82 rfl ?_
        refine v_iaload C hf dX17_read_84 (fun x15 hf => ?_)
        obtain ⟨x16, h17, hAh17, hf, hlh17⟩ := mb_inv hf hl
        refine v_cut (h1 := h17) (pc1 := 93) (ls1 := [(0, .ref a0), (1, .int i1), (5, .int i5)]) (st1 := [.int x16, .int i4]) ?_ (fun Jh17 => ?_)
        · clear hAh17 hlh17
          refine v_iadd C dX17_read_93 ?_
          refine v_istore (ls' := [(4, _), (0, _), (1, _), (5, _)]) C dX17_read_94 (by decide) rfl ?_
          refine v_aload_n C 1 dX17_read_96 rfl rfl ?_
          refine v_gR (Cn := RX17) (T := TX17) (N := 37) C hf in_X17 rfl (by decide) q1804 rfl dX17_read_97 (fun x18 hf => ?_)
          refine v_bipush (x := 24) C dX17_read_100 (by decide) ?_
          refine v_iload_n C 2 dX17_read_102 rfl rfl ?_
          refine v_imul C dX17_read_103 ?_
          refine v_iload C 3 dX17_read_104 rfl ?_
          refine v_iadd C dX17_read_106 ?_
          refine v_aload_n C 1 dX17_read_107 rfl rfl ?_
          refine v_gR (Cn := RX17) (T := TX17) (N := 37) C hf in_X17 rfl (by decide) q1816 rfl dX17_read_108 (fun x19 hf => ?_)
          refine v_iload C 3 dX17_read_111 rfl ?_
          refine v_iaload C hf dX17_read_113 (fun x20 hf => ?_)
          refine v_iastore C hf dX17_read_114 (fun h21 hf => ?_)
          refine v_iinc (ls' := [(5, _), (4, _), (0, _), (1, _)]) (y := i5 + (1 : Int32)) C 3 dX17_read_115 rfl rfl (by decide) rfl ?_
          refine v_goto (tgt := 62) C dX17_read_118 (by decide) ?_
          refine v_sub (ls' := _) [2, 3, 1, 0] rfl (ih (i4 + x16) (i5 + (1 : Int32)) _ _ _ hf hl J)
        · clear hf
          have hf := hAh17
          have hl := hlh17
          refine v_icmp_eq C hf (tgt := 92) dX17_read_85 (by decide) (fun c85 hf => ?_) (fun c85 hf => ?_)
          · refine v_iconst (x := 0) C dX17_read_92 (by decide) ?_
            obtain ⟨e1, rfl⟩ := mret_inv hf
            subst e1
            exact v_sub (ls' := _) [0, 1, 3] rfl Jh17
          · refine v_iconst (x := 1) C dX17_read_88 (by decide) ?_
            refine v_goto (tgt := 93) C dX17_read_89 (by decide) ?_
            obtain ⟨e1, rfl⟩ := mret_inv hf
            subst e1
            exact v_sub (ls' := _) [0, 1, 3] rfl Jh17
  unfold f_X17_read at hf
  refine v_iload_n C 1 dX17_read_0 rfl rfl ?_
  refine v_i2l C dX17_read_1 ?_
  refine v_lconst (x := 0) C dX17_read_2 (by decide) ?_
  refine v_ldc2 (x := 3) C q2067 dX17_read_3 ?_
  refine v_callS (stk := fun b => .int b :: []) C (ct_X17_in _ i1.toInt64 (0 : Int64) (3 : Int64)) nd_X17_in rfl (Nat.le_of_ble_eq_true rfl) (Nat.le_of_ble_eq_true rfl) [] (Nat.le_of_ble_eq_true rfl) (fun _ => rfl) rfl q1779 q1780 q127 q1781 hf hl dX17_read_6 (fun x1 h2 hf => ?_)
  refine v_if_ne C hf (tgt := 14) dX17_read_9 (by decide) (fun c9 hf => ?_) (fun c9 hf => ?_)
  · refine v_aload_n C 0 dX17_read_14 rfl rfl ?_
    refine v_callV (stk := fun b => .int b :: []) C (ct_X17_isText _ a0) rfl ⟨rfl, nd_X17_isText⟩ rfl (Nat.le_of_ble_eq_true rfl) (Nat.le_of_ble_eq_true rfl) [] (Nat.le_of_ble_eq_true rfl) (fun _ => rfl) rfl q2068 q2070 qs57 q127 q2071 hf hl dX17_read_15 (fun x3 h4 hf => ?_)
    refine v_istore_n (ls' := [(2, _), (0, _), (1, _)]) C dX17_read_18 rfl (by decide) rfl ?_
    refine v_aload_n C 1 dX17_read_19 rfl rfl ?_
    refine v_callV (stk := fun b => .int b :: []) C (ct_X17_here _ a0) rfl ⟨rfl, nd_X17_here⟩ rfl (Nat.le_of_ble_eq_true rfl) (Nat.le_of_ble_eq_true rfl) [] (Nat.le_of_ble_eq_true rfl) (fun _ => rfl) rfl q2076 q2078 qs59 q127 q2079 hf hl dX17_read_20 (fun x5 h6 hf => ?_)
    obtain ⟨x7, h8, hAh8, hf, hlh8⟩ := mb_inv hf hl
    refine v_cut (h1 := h8) (pc1 := 37) (ls1 := [(0, .ref a0), (1, .int i1), (2, .int x3)]) (st1 := [.int x7]) ?_ (fun Jh8 => ?_)
    · clear hAh8 hlh8
      refine v_istore_n (ls' := [(3, _), (0, _), (1, _), (2, _)]) C dX17_read_37 rfl (by decide) rfl ?_
      refine v_aload_n C 1 dX17_read_38 rfl rfl ?_
      refine v_iconst (x := 0) C dX17_read_39 (by decide) ?_
      refine v_putv (Cn := RX17) (T := TX17) (N := 37) (ty0 := tyX17) C hf in_X17 tyX17_ok nmX17 rfl (by decide) q1813 rfl rfl rfl rfl dX17_read_40 (fun h9 hf => ?_)
      refine v_iload_n C 3 dX17_read_43 rfl rfl ?_
      refine v_if_ne C hf (tgt := 52) dX17_read_44 (by decide) (fun c44 hf => ?_) (fun c44 hf => ?_)
      · refine v_aload_n C 1 dX17_read_52 rfl rfl ?_
        refine v_callV (stk := fun _ => []) C (ct_X17_notes _ a0) rfl ⟨rfl, nd_X17_notes⟩ rfl (Nat.le_of_ble_eq_true rfl) (Nat.le_of_ble_eq_true rfl) [] (Nat.le_of_ble_eq_true rfl) (fun _ => rfl) rfl q2131 q2133 qs70 q127 q2134 hf hl dX17_read_53 (fun x10 h11 hf => ?_)
        refine v_iconst (x := 0) C dX17_read_56 (by decide) ?_
        refine v_istore (ls' := [(4, _), (3, _), (0, _), (1, _), (2, _)]) C dX17_read_57 (by decide) rfl ?_
        refine v_iconst (x := 0) C dX17_read_59 (by decide) ?_
        refine v_istore (ls' := [(5, _), (4, _), (3, _), (0, _), (1, _), (2, _)]) C dX17_read_60 (by decide) rfl ?_
        obtain ⟨x22, h23, eh23, hf, hlh23⟩ := mb_inv hf hl
        refine v_sub (ls' := _) [3, 4, 1, 0] rfl (L62 a0 i1 FU (0 : Int32) (0 : Int32) _ _ _ eh23 hlh23 ?_)
        refine v_iload C 0 dX17_read_121 rfl ?_
        exact v_iret C E hf dX17_read_123
      · refine v_bipush (x := (-20)) C dX17_read_47 (by decide) ?_
        refine v_iload_n C 0 dX17_read_49 rfl rfl ?_
        refine v_isub C dX17_read_50 ?_
        exact v_iret C E hf dX17_read_51
    · clear hf
      have hf := hAh8
      have hl := hlh8
      refine v_if_ne C hf (tgt := 33) dX17_read_23 (by decide) (fun c23 hf => ?_) (fun c23 hf => ?_)
      · refine v_aload_n C 1 dX17_read_33 rfl rfl ?_
        refine v_gI (Cn := RX17) (T := TX17) (N := 37) C hf in_X17 rfl (by decide) q1814 rfl dX17_read_34 (fun x24 hf => ?_)
        obtain ⟨e1, rfl⟩ := mret_inv hf
        subst e1
        exact v_sub (ls' := _) [1, 2, 0] rfl Jh8
      · refine v_aload_n C 1 dX17_read_26 rfl rfl ?_
        refine v_gI (Cn := RX17) (T := TX17) (N := 37) C hf in_X17 rfl (by decide) q1813 rfl dX17_read_27 (fun x25 hf => ?_)
        refine v_goto (tgt := 37) C dX17_read_30 (by decide) ?_
        obtain ⟨e1, rfl⟩ := mret_inv hf
        subst e1
        exact v_sub (ls' := _) [1, 2, 0] rfl Jh8
  · refine v_iconst (x := (-1)) C dX17_read_12 (by decide) ?_
    exact v_iret C E hf dX17_read_13
def f_J3_append (a0 : Nat) (a1 : Nat) : hM Nat :=
  mb (mat a1 20 (f_J5_length a1)) fun x1 => mb (gI a0 19 3) fun x3 => mb (mat a0 19 (f_J3_ensureCapacityInternal a0 (x3 + x1))) fun _ => mb (gI a0 19 3) fun x6 => mb (mat a0 19 (f_J3_putStringAt a0 x6 a1)) fun _ => mb (gI a0 19 3) fun x9 => mb (pF a0 19 3 (.int (x9 + x1))) fun _ => mret a0
theorem nd_J3_append : yJ3_append.cls ≠ "java/lang/invoke/MethodHandle" ∧ yJ3_append.cls ≠ "java/lang/invoke/VarHandle" ∧ (parseMethodDescriptor yJ3_append.desc).map (fun d => d.parameters.length) = some 1 := by decide +kernel
set_option maxHeartbeats 4000000 in
theorem ct_J3_append (l : Launch) (a0 : Nat) (a1 : Nat) : CT l yJ3_append cJ3_append 3 (some (.object "java/lang/AbstractStringBuilder")) 7 157 rvR [.ref a0, .ref a1] (f_J3_append a0 a1) := by
  refine CT_of (ls := [(0, .ref a0), (1, .ref a1)]) (by decide) (Nat.le_of_ble_eq_true rfl) rfl ?_
  intro X h he z hX hf C E hnm hh
  have hl := hle.rf he
  subst hX
  unfold f_J3_append at hf
  refine v_aload_n C 1 dJ3_append_0 rfl rfl ?_
  refine v_ifnonnullR C dJ3_append_1 (tgt := 9) (by decide) ?_
  refine v_aload_n C 1 dJ3_append_9 rfl rfl ?_
  refine v_callV (stk := fun b => .int b :: []) C (ct_J5_length _ a1) (show clG[20]? = some (RJ5, TJ5, 4) from rfl) ⟨rfl, nd_J5_length⟩ rfl (Nat.le_of_ble_eq_true rfl) (Nat.le_of_ble_eq_true rfl) [] (Nat.le_of_ble_eq_true rfl) (fun _ => rfl) rfl q940 q941 q942 q107 q943 hf hl dJ3_append_10 (fun x1 h2 hf => ?_)
  refine v_istore_n (ls' := [(2, _), (0, _), (1, _)]) C dJ3_append_13 rfl (by decide) rfl ?_
  refine v_aload_n C 1 dJ3_append_14 rfl rfl ?_
  refine v_aload_n C 1 dJ3_append_15 rfl rfl ?_
  refine v_gI (Cn := RJ4) (T := TJ4) (N := 4) C hf in_J4 rfl (by decide) q380 rfl dJ3_append_16 (fun x3 hf => ?_)
  refine v_iload_n C 0 dJ3_append_19 rfl rfl ?_
  refine v_iadd C dJ3_append_20 ?_
  refine v_callU (stk := fun _ => []) C (ct_J3_ensureCapacityInternal _ a0 (x3 + x1)) rfl ⟨by decide, by decide, nd_J3_ensureCapacityInternal.2.2⟩ rfl (Nat.le_of_ble_eq_true rfl) (Nat.le_of_ble_eq_true rfl) [] (Nat.le_of_ble_eq_true rfl) (fun _ => rfl) rfl q885 q2331 (se_p C ⟨by decide, by decide⟩ q278 q2331 q886 q887) q887 q105 q888 (dc_code C q887 q888) hf hl dJ3_append_21 (fun x4 h5 hf => ?_)
  refine v_aload_n C 1 dJ3_append_24 rfl rfl ?_
  refine v_aload_n C 1 dJ3_append_25 rfl rfl ?_
  refine v_gI (Cn := RJ4) (T := TJ4) (N := 4) C hf in_J4 rfl (by decide) q380 rfl dJ3_append_26 (fun x6 hf => ?_)
  refine v_aload_n C 2 dJ3_append_29 rfl rfl ?_
  refine v_callU (stk := fun _ => []) C (ct_J3_putStringAt _ a0 x6 a1) rfl ⟨by decide, by decide, nd_J3_putStringAt.2.2⟩ rfl (Nat.le_of_ble_eq_true rfl) (Nat.le_of_ble_eq_true rfl) [] (Nat.le_of_ble_eq_true rfl) (fun _ => rfl) rfl q948 q2333 (se_p C ⟨by decide, by decide⟩ q278 q2333 q949 q950) q950 q105 q951 (dc_code C q950 q951) hf hl dJ3_append_30 (fun x7 h8 hf => ?_)
  refine v_aload_n C 1 dJ3_append_33 rfl rfl ?_
  refine v_dup C dJ3_append_34 rfl ?_
  refine v_gI (Cn := RJ4) (T := TJ4) (N := 4) C hf in_J4 rfl (by decide) q380 rfl dJ3_append_35 (fun x9 hf => ?_)
  refine v_iload_n C 0 dJ3_append_38 rfl rfl ?_
  refine v_iadd C dJ3_append_39 ?_
  refine v_putv (Cn := RJ4) (T := TJ4) (N := 4) (ty0 := tyJ4) C hf in_J4 tyJ4_ok nmJ4 rfl (by decide) q380 rfl rfl rfl rfl dJ3_append_40 (fun h10 hf => ?_)
  refine v_aload_n C 1 dJ3_append_43 rfl rfl ?_
  exact v_aret C E hf (Or.inl ⟨_, rfl⟩) dJ3_append_44
def f_J4_append (a0 : Nat) (a1 : Nat) : hM Nat :=
  mb (mat a0 19 (f_J3_append a0 a1)) fun x1 => mret a0
theorem nd_J4_append : yJ4_append.cls ≠ "java/lang/invoke/MethodHandle" ∧ yJ4_append.cls ≠ "java/lang/invoke/VarHandle" ∧ (parseMethodDescriptor yJ4_append.desc).map (fun d => d.parameters.length) = some 1 := by decide +kernel
set_option maxHeartbeats 4000000 in
theorem ct_J4_append (l : Launch) (a0 : Nat) (a1 : Nat) : CT l yJ4_append cJ4_append 2 (some (.object "java/lang/StringBuilder")) 8 179 rvR [.ref a0, .ref a1] (f_J4_append a0 a1) := by
  refine CT_of (ls := [(0, .ref a0), (1, .ref a1)]) (by decide) (Nat.le_of_ble_eq_true rfl) rfl ?_
  intro X h he z hX hf C E hnm hh
  have hl := hle.rf he
  subst hX
  unfold f_J4_append at hf
  refine v_aload_n C 0 dJ4_append_0 rfl rfl ?_
  refine v_aload_n C 1 dJ4_append_1 rfl rfl ?_
  refine v_callSU (stk := fun b => .ref b :: []) C (ct_J3_append _ a0 a1) rfl ⟨by decide, nd_J3_append.2.2⟩ rfl (Nat.le_of_ble_eq_true rfl) (Nat.le_of_ble_eq_true rfl) [] (Nat.le_of_ble_eq_true rfl) (fun _ => rfl) rfl q878 q2329 q389 q879 q105 q880 hf hl dJ4_append_2 (fun x1 h2 hf => ?_)
  refine v_pop C dJ4_append_5 rfl ?_
  refine v_aload_n C 0 dJ4_append_6 rfl rfl ?_
  exact v_aret C E hf (Or.inl ⟨_, rfl⟩) dJ4_append_7
def f_J4_toString (a0 : Nat) : hM Nat :=
  mb (newO 20 4 [.null, .int 0, .int 0, .int 0]) fun x1 => mb (f_J5_init x1 a0) fun _ => mret x1
theorem nd_J4_toString : yJ4_toString.cls ≠ "java/lang/invoke/MethodHandle" ∧ yJ4_toString.cls ≠ "java/lang/invoke/VarHandle" ∧ (parseMethodDescriptor yJ4_toString.desc).map (fun d => d.parameters.length) = some 0 := by decide +kernel
set_option maxHeartbeats 4000000 in
theorem ct_J4_toString (l : Launch) (a0 : Nat) : CT l yJ4_toString cJ4_toString 1 (some (.object "java/lang/String")) 6 140 rvR [.ref a0] (f_J4_toString a0) := by
  refine CT_of (ls := [(0, .ref a0)]) (by decide) (Nat.le_of_ble_eq_true rfl) rfl ?_
  intro X h he z hX hf C E hnm hh
  have hl := hle.rf he
  subst hX
  unfold f_J4_toString at hf
  refine v_new (Cn := RJ5) (T := TJ5) (N := 4) (ty0 := tyJ5) C hf hl in_J5 tyJ5_ok rfl q1011 q1012 q107 dvJ5 dJ4_toString_0 (fun x1 h2 hf => ?_)
  refine v_dup C dJ4_toString_3 rfl ?_
  refine v_aload_n C 0 dJ4_toString_4 rfl rfl ?_
  refine v_callI (stk := fun _ => [.ref x1]) C (ct_J5_init _ x1 a0) nd_J5_init rfl (Nat.le_of_ble_eq_true rfl) (Nat.le_of_ble_eq_true rfl) [.ref x1] (Nat.le_of_ble_eq_true rfl) (fun _ => rfl) rfl rfl q1013 q1014 q107 q1015 hf hl dJ4_toString_5 (fun x3 h4 hf => ?_)
  exact v_aret C E hf (Or.inl ⟨_, rfl⟩) dJ4_toString_8
def f_X0_order (a0 : Nat) (i1 : Int32) : hM Int32 :=
  mb (mat a0 0 (f_X0_layChain a0 i1 (0 : Int32))) fun _ => mb (gR a0 0 6) fun x3 => mb (mat x3 6 (f_X6_order x3 (0 : Int32))) fun x4 => mret x4
theorem nd_X0_order : yX0_order.cls ≠ "java/lang/invoke/MethodHandle" ∧ yX0_order.cls ≠ "java/lang/invoke/VarHandle" ∧ (parseMethodDescriptor yX0_order.desc).map (fun d => d.parameters.length) = some 1 := by decide +kernel
set_option maxHeartbeats 4000000 in
theorem ct_X0_order (l : Launch) (a0 : Nat) (i1 : Int32) : CT l yX0_order cX0_order 2 (some .int) 8 179 rvI [.ref a0, .int i1] (f_X0_order a0 i1) := by
  refine CT_of (ls := [(0, .ref a0), (1, .int i1)]) (by decide) (Nat.le_of_ble_eq_true rfl) rfl ?_
  intro X h he z hX hf C E hnm hh
  have hl := hle.rf he
  subst hX
  unfold f_X0_order at hf
  refine v_aload_n C 0 dX0_order_0 rfl rfl ?_
  refine v_iload_n C 1 dX0_order_1 rfl rfl ?_
  refine v_iconst (x := 0) C dX0_order_2 (by decide) ?_
  refine v_callV (stk := fun _ => []) C (ct_X0_layChain _ a0 i1 (0 : Int32)) rfl ⟨rfl, nd_X0_layChain⟩ rfl (Nat.le_of_ble_eq_true rfl) (Nat.le_of_ble_eq_true rfl) [] (Nat.le_of_ble_eq_true rfl) (fun _ => rfl) rfl q1382 q1384 qs24 q96 q1385 hf hl dX0_order_3 (fun x1 h2 hf => ?_)
  refine v_aload_n C 0 dX0_order_6 rfl rfl ?_
  refine v_gR (Cn := RX0) (T := TX0) (N := 16) C hf in_X0 rfl (by decide) q698 rfl dX0_order_7 (fun x3 hf => ?_)
  refine v_iconst (x := 0) C dX0_order_10 (by decide) ?_
  refine v_callV (stk := fun b => .int b :: []) C (ct_X6_order _ x3 (0 : Int32)) rfl ⟨rfl, nd_X6_order⟩ rfl (Nat.le_of_ble_eq_true rfl) (Nat.le_of_ble_eq_true rfl) [] (Nat.le_of_ble_eq_true rfl) (fun _ => rfl) rfl q1434 q1435 q1436 q114 q1437 hf hl dX0_order_11 (fun x4 h5 hf => ?_)
  exact v_iret C E hf dX0_order_14
def f_X0_turning (a0 : Nat) (i1 : Int32) (i2 : Int32) : hM Int32 :=
  mb (newO 17 1 [.null]) fun x1 => mb (gR a0 0 0) fun x3 => mb (gR x3 1 2) fun x4 => mb (f_X21_init x1 x4) fun _ => mb (gR a0 0 7) fun x7 => mb (mat x7 9 (f_X9_clear x7)) fun _ => mb (gR a0 0 7) fun x10 => mb (mat x1 17 (f_X21_at x1 i2)) fun x11 => mb (gR a0 0 3) fun x13 => mb (mat x10 9 (f_X9_spread x10 x1 x11 x13 i1)) fun x14 => mb (mat a0 0 (f_X0_order a0 i1)) fun x16 => mb (mdiv x16 x14) fun x18 => mret x18
theorem nd_X0_turning : yX0_turning.cls ≠ "java/lang/invoke/MethodHandle" ∧ yX0_turning.cls ≠ "java/lang/invoke/VarHandle" ∧ (parseMethodDescriptor yX0_turning.desc).map (fun d => d.parameters.length) = some 2 := by decide +kernel
set_option maxHeartbeats 4000000 in
theorem ct_X0_turning (l : Launch) (a0 : Nat) (i1 : Int32) (i2 : Int32) : CT l yX0_turning cX0_turning 5 (some .int) 9 200 rvI [.ref a0, .int i1, .int i2] (f_X0_turning a0 i1 i2) := by
  refine CT_of (ls := [(0, .ref a0), (1, .int i1), (2, .int i2)]) (by decide) (Nat.le_of_ble_eq_true rfl) rfl ?_
  intro X h he z hX hf C E hnm hh
  have hl := hle.rf he
  subst hX
  unfold f_X0_turning at hf
  refine v_new (Cn := RX21) (T := TX21) (N := 1) (ty0 := tyX21) C hf hl in_X21 tyX21_ok rfl q1571 q1449 q136 dvX21 dX0_turning_0 (fun x1 h2 hf => ?_)
  refine v_dup C dX0_turning_3 rfl ?_
  refine v_aload_n C 0 dX0_turning_4 rfl rfl ?_
  refine v_gR (Cn := RX0) (T := TX0) (N := 16) C hf in_X0 rfl (by decide) q692 rfl dX0_turning_5 (fun x3 hf => ?_)
  refine v_gRN (Cn := RX1) (T := TX1) (N := 10) C hf in_X1 rfl (by decide) q199 rfl dX0_turning_8 (fun x4 hf => ?_)
  refine v_callI (stk := fun _ => [.ref x1]) C (ct_X21_init _ x1 x4) nd_X21_init rfl (Nat.le_of_ble_eq_true rfl) (Nat.le_of_ble_eq_true rfl) [.ref x1] (Nat.le_of_ble_eq_true rfl) (fun _ => rfl) rfl rfl q1572 q1451 q136 q1452 hf hl dX0_turning_11 (fun x5 h6 hf => ?_)
  refine v_astore_n (ls' := [(3, _), (0, _), (1, _), (2, _)]) C dX0_turning_14 rfl (by decide) rfl ?_
  refine v_aload_n C 1 dX0_turning_15 rfl rfl ?_
  refine v_gR (Cn := RX0) (T := TX0) (N := 16) C hf in_X0 rfl (by decide) q699 rfl dX0_turning_16 (fun x7 hf => ?_)
  refine v_callV (stk := fun _ => []) C (ct_X9_clear _ x7) rfl ⟨rfl, nd_X9_clear⟩ rfl (Nat.le_of_ble_eq_true rfl) (Nat.le_of_ble_eq_true rfl) [] (Nat.le_of_ble_eq_true rfl) (fun _ => rfl) rfl q1573 q1481 q1482 q117 q1483 hf hl dX0_turning_19 (fun x8 h9 hf => ?_)
  refine v_aload_n C 1 dX0_turning_22 rfl rfl ?_
  refine v_gR (Cn := RX0) (T := TX0) (N := 16) C hf in_X0 rfl (by decide) q699 rfl dX0_turning_23 (fun x10 hf => ?_)
  refine v_aload_n C 0 dX0_turning_26 rfl rfl ?_
  refine v_aload_n C 0 dX0_turning_27 rfl rfl ?_
  refine v_iload_n C 3 dX0_turning_28 rfl rfl ?_
  refine v_callV (stk := fun b => .int b :: [.ref x1, .ref x10]) C (ct_X21_at _ x1 i2) rfl ⟨rfl, nd_X21_at⟩ rfl (Nat.le_of_ble_eq_true rfl) (Nat.le_of_ble_eq_true rfl) [.ref x1, .ref x10] (Nat.le_of_ble_eq_true rfl) (fun _ => rfl) rfl q1574 q1543 q1544 q136 q1545 hf hl dX0_turning_29 (fun x11 h12 hf => ?_)
  refine v_aload_n C 1 dX0_turning_32 rfl rfl ?_
  refine v_gR (Cn := RX0) (T := TX0) (N := 16) C hf in_X0 rfl (by decide) q695 rfl dX0_turning_33 (fun x13 hf => ?_)
  refine v_iload_n C 2 dX0_turning_36 rfl rfl ?_
  refine v_callV (stk := fun b => .int b :: []) C (ct_X9_spread _ x10 x1 x11 x13 i1) rfl ⟨rfl, nd_X9_spread⟩ rfl (Nat.le_of_ble_eq_true rfl) (Nat.le_of_ble_eq_true rfl) [] (Nat.le_of_ble_eq_true rfl) (fun _ => rfl) rfl q1575 q1523 q1524 q117 q1525 hf hl dX0_turning_37 (fun x14 h15 hf => ?_)
  refine v_istore (ls' := [(4, _), (3, _), (0, _), (1, _), (2, _)]) C dX0_turning_40 (by decide) rfl ?_
  refine v_aload_n C 2 dX0_turning_42 rfl rfl ?_
  refine v_iload_n C 3 dX0_turning_43 rfl rfl ?_
  refine v_callV (stk := fun b => .int b :: []) C (ct_X0_order _ a0 i1) rfl ⟨rfl, nd_X0_order⟩ rfl (Nat.le_of_ble_eq_true rfl) (Nat.le_of_ble_eq_true rfl) [] (Nat.le_of_ble_eq_true rfl) (fun _ => rfl) rfl q1378 q1380 qs23 q96 q1381 hf hl dX0_turning_44 (fun x16 h17 hf => ?_)
  refine v_iload C 0 dX0_turning_47 rfl ?_
  refine v_idiv C hf dX0_turning_49 (fun x18 hf => ?_)
  exact v_iret C E hf dX0_turning_50
def f_X0_retrace (a0 : Nat) (i1 : Int32) (i2 : Int32) (i3 : Int32) (i4 : Int32) (i5 : Int32) : hM Int32 :=
  mb (f_X0_isMoves i1) fun x1 => mi (x1 = 0) (mret (-1 : Int32)) (mb (f_X0_isSheet i2 i3) fun x3 => mi (x3 = 0) (mret (-1 : Int32)) (mb (f_X0_isIn i5.toInt64 (1 : Int64) (8 : Int64)) fun x5 => mi (¬ x5 = 0) (mb (mat a0 0 (f_X0_lacks a0 i2 i3 i4 ((2 : Int32) * i5))) fun x7 => mi (0 ≤ x7) (mb (mat a0 0 (f_X0_keepAll a0 i1)) fun x9 => mb (mi (x9 = 0) (mret (-2 : Int32)) (mb (gR a0 0 15) fun x13 => mb (aR 9 x13 i2) fun x14 => mb (mat a0 0 (f_X0_isGood a0 x14 i4 ((2 : Int32) * i5))) fun x15 => mi (x15 = 0) (mret (-2 : Int32)) (mb (gR a0 0 15) fun x17 => mb (aR 9 x17 i2) fun x18 => mb (mat a0 0 (f_X0_found a0 i1 x18 i4 i5)) fun x19 => mret x19))) fun x11 => mret x11) (mret x7)) (mret (-1 : Int32))))
theorem nd_X0_retrace : yX0_retrace.cls ≠ "java/lang/invoke/MethodHandle" ∧ yX0_retrace.cls ≠ "java/lang/invoke/VarHandle" ∧ (parseMethodDescriptor yX0_retrace.desc).map (fun d => d.parameters.length) = some 5 := by decide +kernel
set_option maxHeartbeats 4000000 in
theorem ct_X0_retrace (l : Launch) (a0 : Nat) (i1 : Int32) (i2 : Int32) (i3 : Int32) (i4 : Int32) (i5 : Int32) : CT l yX0_retrace cX0_retrace 7 (some .int) 9 209 rvI [.ref a0, .int i1, .int i2, .int i3, .int i4, .int i5] (f_X0_retrace a0 i1 i2 i3 i4 i5) := by
  refine CT_of (ls := [(0, .ref a0), (1, .int i1), (2, .int i2), (3, .int i3), (4, .int i4), (5, .int i5)]) (by decide) (Nat.le_of_ble_eq_true rfl) rfl ?_
  intro X h he z hX hf C E hnm hh
  have hl := hle.rf he
  subst hX
  unfold f_X0_retrace at hf
  refine v_iload_n C 1 dX0_retrace_0 rfl rfl ?_
  refine v_callS (stk := fun b => .int b :: []) C (ct_X0_isMoves _ i1) nd_X0_isMoves rfl (Nat.le_of_ble_eq_true rfl) (Nat.le_of_ble_eq_true rfl) [] (Nat.le_of_ble_eq_true rfl) (fun _ => rfl) rfl q1370 q1371 q96 q1372 hf hl dX0_retrace_1 (fun x1 h2 hf => ?_)
  refine v_if_eq C hf (tgt := 28) dX0_retrace_4 (by decide) (fun c4 hf => ?_) (fun c4 hf => ?_)
  · refine v_iconst (x := (-1)) C dX0_retrace_28 (by decide) ?_
    exact v_iret C E hf dX0_retrace_29
  · refine v_iload_n C 2 dX0_retrace_7 rfl rfl ?_
    refine v_iload_n C 3 dX0_retrace_8 rfl rfl ?_
    refine v_callS (stk := fun b => .int b :: []) C (ct_X0_isSheet _ i2 i3) nd_X0_isSheet rfl (Nat.le_of_ble_eq_true rfl) (Nat.le_of_ble_eq_true rfl) [] (Nat.le_of_ble_eq_true rfl) (fun _ => rfl) rfl q1641 q1642 q96 q1643 hf hl dX0_retrace_9 (fun x3 h4 hf => ?_)
    refine v_if_eq C hf (tgt := 28) dX0_retrace_12 (by decide) (fun c12 hf => ?_) (fun c12 hf => ?_)
    · refine v_iconst (x := (-1)) C dX0_retrace_28 (by decide) ?_
      exact v_iret C E hf dX0_retrace_29
    · refine v_iload C 5 dX0_retrace_15 rfl ?_
      refine v_i2l C dX0_retrace_17 ?_
      refine v_lconst (x := 1) C dX0_retrace_18 (by decide) ?_
      refine v_ldc2 (x := 8) C q807 dX0_retrace_19 ?_
      refine v_callS (stk := fun b => .int b :: []) C (ct_X0_isIn _ i5.toInt64 (1 : Int64) (8 : Int64)) nd_X0_isIn rfl (Nat.le_of_ble_eq_true rfl) (Nat.le_of_ble_eq_true rfl) [] (Nat.le_of_ble_eq_true rfl) (fun _ => rfl) rfl q749 q750 q96 q751 hf hl dX0_retrace_22 (fun x5 h6 hf => ?_)
      refine v_if_ne C hf (tgt := 30) dX0_retrace_25 (by decide) (fun c25 hf => ?_) (fun c25 hf => ?_)
      · refine v_aload_n C 0 dX0_retrace_30 rfl rfl ?_
        refine v_iload_n C 2 dX0_retrace_31 rfl rfl ?_
        refine v_iload_n C 3 dX0_retrace_32 rfl rfl ?_
        refine v_iload C 4 dX0_retrace_33 rfl ?_
        refine v_iconst (x := 2) C dX0_retrace_35 (by decide) ?_
        refine v_iload C 5 dX0_retrace_36 rfl ?_
        refine v_imul C dX0_retrace_38 ?_
        refine v_callV (stk := fun b => .int b :: []) C (ct_X0_lacks _ a0 i2 i3 i4 ((2 : Int32) * i5)) rfl ⟨rfl, nd_X0_lacks⟩ rfl (Nat.le_of_ble_eq_true rfl) (Nat.le_of_ble_eq_true rfl) [] (Nat.le_of_ble_eq_true rfl) (fun _ => rfl) rfl q1644 q1646 qs33 q96 q1647 hf hl dX0_retrace_39 (fun x7 h8 hf => ?_)
        refine v_istore (ls' := [(6, _), (0, _), (1, _), (2, _), (3, _), (4, _), (5, _)]) C dX0_retrace_42 (by decide) rfl ?_
        refine v_iload C 0 dX0_retrace_44 rfl ?_
        refine v_if_ge C hf (tgt := 52) dX0_retrace_46 (by decide) (fun c46 hf => ?_) (fun c46 hf => ?_)
        · refine v_aload_n C 1 dX0_retrace_52 rfl rfl ?_
          refine v_iload_n C 2 dX0_retrace_53 rfl rfl ?_
          refine v_callV (stk := fun b => .int b :: []) C (ct_X0_keepAll _ a0 i1) rfl ⟨rfl, nd_X0_keepAll⟩ rfl (Nat.le_of_ble_eq_true rfl) (Nat.le_of_ble_eq_true rfl) [] (Nat.le_of_ble_eq_true rfl) (fun _ => rfl) rfl q1374 q1376 qs22 q96 q1377 hf hl dX0_retrace_54 (fun x9 h10 hf => ?_)
          obtain ⟨x11, h12, hAh12, hf, hlh12⟩ := mb_inv hf hl
          refine v_cut (h1 := h12) (pc1 := 99) (ls1 := []) (st1 := [.int x11]) ?_ (fun Jh12 => ?_)
          · clear hAh12 hlh12
            exact v_iret C E hf dX0_retrace_99
          · clear hf
            have hf := hAh12
            have hl := hlh12
            refine v_if_eq C hf (tgt := 97) dX0_retrace_57 (by decide) (fun c57 hf => ?_) (fun c57 hf => ?_)
            · refine v_bipush (x := (-2)) C dX0_retrace_97 (by decide) ?_
              obtain ⟨e1, rfl⟩ := mret_inv hf
              subst e1
              exact v_sub (ls' := _) [] rfl Jh12
            · refine v_aload_n C 1 dX0_retrace_60 rfl rfl ?_
              refine v_aload_n C 1 dX0_retrace_61 rfl rfl ?_
              refine v_gR (Cn := RX0) (T := TX0) (N := 16) C hf in_X0 rfl (by decide) q707 rfl dX0_retrace_62 (fun x13 hf => ?_)
              refine v_iload_n C 3 dX0_retrace_65 rfl rfl ?_
              refine v_aaload C hf (by decide) rfl dX0_retrace_66 (fun x14 hf => ?_)
              refine v_iload C 5 dX0_retrace_67 rfl ?_
              refine v_iconst (x := 2) C dX0_retrace_69 (by decide) ?_
              refine v_iload C 6 dX0_retrace_70 rfl ?_
              refine v_imul C dX0_retrace_72 ?_
              refine v_callV (stk := fun b => .int b :: []) C (ct_X0_isGood _ a0 x14 i4 ((2 : Int32) * i5)) rfl ⟨rfl, nd_X0_isGood⟩ rfl (Nat.le_of_ble_eq_true rfl) (Nat.le_of_ble_eq_true rfl) [] (Nat.le_of_ble_eq_true rfl) (fun _ => rfl) rfl q1660 q1662 qs34 q96 q1663 hf hl dX0_retrace_73 (fun x15 h16 hf => ?_)
              refine v_if_eq C hf (tgt := 97) dX0_retrace_76 (by decide) (fun c76 hf => ?_) (fun c76 hf => ?_)
              · refine v_bipush (x := (-2)) C dX0_retrace_97 (by decide) ?_
                obtain ⟨e1, rfl⟩ := mret_inv hf
                subst e1
                exact v_sub (ls' := _) [] rfl Jh12
              · refine v_aload_n C 1 dX0_retrace_79 rfl rfl ?_
                refine v_iload_n C 2 dX0_retrace_80 rfl rfl ?_
                refine v_aload_n C 1 dX0_retrace_81 rfl rfl ?_
                refine v_gR (Cn := RX0) (T := TX0) (N := 16) C hf in_X0 rfl (by decide) q707 rfl dX0_retrace_82 (fun x17 hf => ?_)
                refine v_iload_n C 3 dX0_retrace_85 rfl rfl ?_
                refine v_aaload C hf (by decide) rfl dX0_retrace_86 (fun x18 hf => ?_)
                refine v_iload C 5 dX0_retrace_87 rfl ?_
                refine v_iload C 6 dX0_retrace_89 rfl ?_
                refine v_callV (stk := fun b => .int b :: []) C (ct_X0_found _ a0 i1 x18 i4 i5) rfl ⟨rfl, nd_X0_found⟩ rfl (Nat.le_of_ble_eq_true rfl) (Nat.le_of_ble_eq_true rfl) [] (Nat.le_of_ble_eq_true rfl) (fun _ => rfl) rfl q1668 q1670 qs35 q96 q1671 hf hl dX0_retrace_91 (fun x19 h20 hf => ?_)
                refine v_goto (tgt := 99) C dX0_retrace_94 (by decide) ?_
                obtain ⟨e1, rfl⟩ := mret_inv hf
                subst e1
                exact v_sub (ls' := _) [] rfl Jh12
        · refine v_iload C 0 dX0_retrace_49 rfl ?_
          exact v_iret C E hf dX0_retrace_51
      · refine v_iconst (x := (-1)) C dX0_retrace_28 (by decide) ?_
        exact v_iret C E hf dX0_retrace_29
def l_X3_text_45 (a0 : Nat) (a1 : Nat) (i3 : Int32) (i4 : Int32) : Nat → Int32 → Int32 → Int32 → hM (Int32)
  | 0, _, _, _ => mfail
  | n + 1, i2, i5, i6 => mi (i4 ≤ i6) (mret i2) (mi (i4 ≤ (1 : Int32)) (mret i2) (mb (newO 19 4 [.null, .int 0, .int 0, .int 0]) fun x9 => mb (f_J4_init_2 x9) fun _ => mb (mi (¬ i6 = 0) (mb (mcn 11) fun x25 => mret x25) (mb (mcn 10) fun x26 => mret x26)) fun x13 => mb (mat x9 19 (f_J4_append x9 x13)) fun x15 => mb (mat x15 19 (f_J4_append_2 x15 i5)) fun x17 => mb (mat x17 19 (f_J4_toString x17)) fun x19 => mb (mat a1 19 (f_J4_append a1 x19)) fun x21 => mb (gR a0 3 0) fun x23 => mb (aI 0 x23 i5) fun x24 => l_X3_text_45 a0 a1 i3 i4 n (i2 ||| ((1 : Int32) <<< (i5 &&& 31))) x24 (i6 + (1 : Int32))))
def l_X3_text_14 (a0 : Nat) (a1 : Nat) : Nat → Int32 → Int32 → hM (Unit)
  | 0, _, _ => mfail
  | n + 1, i2, i3 => mi ((24 : Int32) ≤ i3) (mret ()) (mb (f_X0_has i2 i3) fun x5 => mb (mi (x5 = 0) (mb (mat a0 3 (f_X11_round a0 i3)) fun x35 => mret x35) (mret (1 : Int32))) fun x7 => mb (l_X3_text_45 a0 a1 i3 x7 FU i2 i3 (0 : Int32)) fun x27 => mb (mi (x7 ≤ (1 : Int32)) (mb (mcn 13) fun x33 => mret x33) (mb (mcn 12) fun x34 => mret x34)) fun x29 => mb (mat a1 19 (f_J4_append a1 x29)) fun x31 => l_X3_text_14 a0 a1 n x27 (i3 + (1 : Int32)))
def f_X3_text (a0 : Nat) : hM Nat :=
  mb (newO 19 4 [.null, .int 0, .int 0, .int 0]) fun x1 => mb (f_J4_init x1 (100 : Int32)) fun _ => mb (l_X3_text_14 a0 x1 FU (0 : Int32) (0 : Int32)) fun x37 => mb (mat x1 19 (f_J4_toString x1)) fun x39 => mret x39
theorem nd_X3_text : yX3_text.cls ≠ "java/lang/invoke/MethodHandle" ∧ yX3_text.cls ≠ "java/lang/invoke/VarHandle" ∧ (parseMethodDescriptor yX3_text.desc).map (fun d => d.parameters.length) = some 0 := by decide +kernel
set_option maxHeartbeats 4000000 in
theorem ct_X3_text (l : Launch) (a0 : Nat) : CT l yX3_text cX3_text 7 (some (.object "java/lang/String")) 9 200 rvR [.ref a0] (f_X3_text a0) := by
  refine CT_of (ls := [(0, .ref a0)]) (by decide) (Nat.le_of_ble_eq_true rfl) rfl ?_
  intro X h he z hX hf C E hnm hh
  have hl := hle.rf he
  subst hX
  have L45 : ∀ (a0 : Nat) (a1 : Nat) (i3 : Int32) (i4 : Int32) (n : Nat) (i2 : Int32) (i5 : Int32) (i6 : Int32) (h h1 : Hp) (o : Int32), (l_X3_text_45 a0 a1 i3 i4 n i2 i5 i6).1 h = some (o, h1) → hle h1 he → V X h1 115 [(0, .ref a0), (1, .ref a1), (2, .int o), (3, .int i3), (4, .int i4)] [] → V X h 45 [(0, .ref a0), (1, .ref a1), (2, .int i2), (3, .int i3), (4, .int i4), (5, .int i5), (6, .int i6)] [] := by
    intro a0 a1 i3 i4 n
    induction n with
    | zero => intro i2 i5 i6 h h1 o hf; exact mfail_inv hf
    | succ n ih =>
      intro i2 i5 i6 h h1 o hf hl J
      rw [l_X3_text_45] at hf
      refine v_iload C 6 dX3_text_45 rfl ?_
      refine v_iload C 4 dX3_text_47 rfl ?_
      refine v_icmp_ge C hf (tgt := 115) dX3_text_49 (by decide) (fun c49 hf => ?_) (fun c49 hf => ?_)
      · obtain ⟨e1, rfl⟩ := mret_inv hf
        subst e1
        exact v_sub (ls' := _) [0, 1, 2, 3, 4] rfl J
      · refine v_iload C 4 dX3_text_52 rfl ?_
        refine v_iconst (x := 1) C dX3_text_54 (by decide) ?_
        refine v_icmp_le C hf (tgt := 115) dX3_text_55 (by decide) (fun c55 hf => ?_) (fun c55 hf => ?_)
        · obtain ⟨e1, rfl⟩ := mret_inv hf
          subst e1
          exact v_sub (ls' := _) [0, 1, 2, 3, 4] rfl J
        · refine v_aload_n C 1 dX3_text_58 rfl rfl ?_
          refine v_new (Cn := RJ4) (T := TJ4) (N := 4) (ty0 := tyJ4) C hf hl in_J4 tyJ4_ok rfl q867 q278 q106 dvJ4 dX3_text_59 (fun x9 h10 hf => ?_)
          refine v_dup C dX3_text_62 rfl ?_
          refine v_callI (stk := fun _ => [.ref x9, .ref a1]) C (ct_J4_init_2 _ x9) nd_J4_init_2 rfl (Nat.le_of_ble_eq_true rfl) (Nat.le_of_ble_eq_true rfl) [.ref x9, .ref a1] (Nat.le_of_ble_eq_true rfl) (fun _ => rfl) rfl rfl q869 q870 q106 q871 hf hl dX3_text_63 (fun x11 h12 hf => ?_)
          refine v_iload C 6 dX3_text_66 rfl ?_
          obtain ⟨x13, h14, hAh14, hf, hlh14⟩ := mb_inv hf hl
          refine v_cut (h1 := h14) (pc1 := 78) (ls1 := [(0, .ref a0), (1, .ref a1), (2, .int i2), (3, .int i3), (4, .int i4), (5, .int i5), (6, .int i6)]) (st1 := [.ref x13, .ref x9, .ref a1]) ?_ (fun Jh14 => ?_)
          · clear hAh14 hlh14
            refine v_callV (stk := fun b => .ref b :: [.ref a1]) C (ct_J4_append _ x9 x13) rfl ⟨rfl, nd_J4_append⟩ rfl (Nat.le_of_ble_eq_true rfl) (Nat.le_of_ble_eq_true rfl) [.ref a1] (Nat.le_of_ble_eq_true rfl) (fun _ => rfl) rfl q874 q875 q876 q106 q877 hf hl dX3_text_78 (fun x15 h16 hf => ?_)
            refine v_iload C 5 dX3_text_81 rfl ?_
            refine v_callV (stk := fun b => .ref b :: [.ref a1]) C (ct_J4_append_2 _ x15 i5) rfl ⟨rfl, nd_J4_append_2⟩ rfl (Nat.le_of_ble_eq_true rfl) (Nat.le_of_ble_eq_true rfl) [.ref a1] (Nat.le_of_ble_eq_true rfl) (fun _ => rfl) rfl q982 q983 q984 q106 q985 hf hl dX3_text_83 (fun x17 h18 hf => ?_)
            refine v_callV (stk := fun b => .ref b :: [.ref a1]) C (ct_J4_toString _ x17) rfl ⟨rfl, nd_J4_toString⟩ rfl (Nat.le_of_ble_eq_true rfl) (Nat.le_of_ble_eq_true rfl) [.ref a1] (Nat.le_of_ble_eq_true rfl) (fun _ => rfl) rfl q1007 q1008 q1009 q106 q1010 hf hl dX3_text_86 (fun x19 h20 hf => ?_)
            refine v_callV (stk := fun b => .ref b :: []) C (ct_J4_append _ a1 x19) rfl ⟨rfl, nd_J4_append⟩ rfl (Nat.le_of_ble_eq_true rfl) (Nat.le_of_ble_eq_true rfl) [] (Nat.le_of_ble_eq_true rfl) (fun _ => rfl) rfl q874 q875 q876 q106 q877 hf hl dX3_text_89 (fun x21 h22 hf => ?_)
            refine v_pop C dX3_text_92 rfl ?_
            refine v_iload_n C 2 dX3_text_93 rfl rfl ?_
            refine v_iconst (x := 1) C dX3_text_94 (by decide) ?_
            refine v_iload C 5 dX3_text_95 rfl ?_
            refine v_ishl C dX3_text_97 ?_
            refine v_ior C dX3_text_98 ?_
            refine v_istore_n (ls' := [(2, _), (0, _), (1, _), (3, _), (4, _), (5, _), (6, _)]) C dX3_text_99 rfl (by decide) rfl ?_
            refine v_aload_n C 1 dX3_text_100 rfl rfl ?_
            refine v_gR (Cn := RX3) (T := TX3) (N := 2) C hf in_X3 rfl (by decide) q248 rfl dX3_text_101 (fun x23 hf => ?_)
            refine v_iload C 5 dX3_text_104 rfl ?_
            refine v_baload C hf dX3_text_106 (fun x24 hf => ?_)
            refine v_istore (ls' := [(5, _), (2, _), (0, _), (1, _), (3, _), (4, _), (6, _)]) C dX3_text_107 (by decide) rfl ?_
            refine v_iinc (ls' := [(6, _), (5, _), (2, _), (0, _), (1, _), (3, _), (4, _)]) (y := i6 + (1 : Int32)) C 6 dX3_text_109 rfl rfl (by decide) rfl ?_
            refine v_goto (tgt := 45) C dX3_text_112 (by decide) ?_
            refine v_sub (ls' := _) [3, 4, 2, 5, 6, 1, 0] rfl (ih (i2 ||| ((1 : Int32) <<< (i5 &&& 31))) x24 (i6 + (1 : Int32)) _ _ _ hf hl J)
          · clear hf
            have hf := hAh14
            have hl := hlh14
            refine v_if_ne C hf (tgt := 76) dX3_text_68 (by decide) (fun c68 hf => ?_) (fun c68 hf => ?_)
            · refine v_ldcS C hf rfl q873 dX3_text_76 (fun x25 hf => ?_)
              obtain ⟨e1, rfl⟩ := mret_inv hf
              subst e1
              exact v_sub (ls' := _) [0, 1, 2, 3, 4, 5, 6] rfl Jh14
            · refine v_ldcS C hf rfl q872 dX3_text_71 (fun x26 hf => ?_)
              refine v_goto (tgt := 78) C dX3_text_73 (by decide) ?_
              obtain ⟨e1, rfl⟩ := mret_inv hf
              subst e1
              exact v_sub (ls' := _) [0, 1, 2, 3, 4, 5, 6] rfl Jh14
  have L14 : ∀ (a0 : Nat) (a1 : Nat) (n : Nat) (i2 : Int32) (i3 : Int32) (h h1 : Hp) (o : Unit), (l_X3_text_14 a0 a1 n i2 i3).1 h = some (o, h1) → hle h1 he → V X h1 139 [(1, .ref a1)] [] → V X h 14 [(0, .ref a0), (1, .ref a1), (2, .int i2), (3, .int i3)] [] := by
    intro a0 a1 n
    induction n with
    | zero => intro i2 i3 h h1 o hf; exact mfail_inv hf
    | succ n ih =>
      intro i2 i3 h h1 o hf hl J
      rw [l_X3_text_14] at hf
      refine v_iload_n C 3 dX3_text_14 rfl rfl ?_
      refine v_bipush (x := 24) C dX3_text_15 (by decide) ?_
      refine v_icmp_ge C hf (tgt := 139) dX3_text_17 (by decide) (fun c17 hf => ?_) (fun c17 hf => ?_)
      · obtain ⟨e1, rfl⟩ := mret_inv hf
        subst e1
        exact v_sub (ls' := _) [1] rfl J
      · refine v_iload_n C 2 dX3_text_20 rfl rfl ?_
        refine v_iload_n C 3 dX3_text_21 rfl rfl ?_
        refine v_callSN (stk := fun b => .int b :: []) C (ct_X0_has _ i2 i3) nd_X0_has rfl (Nat.le_of_ble_eq_true rfl) (Nat.le_of_ble_eq_true rfl) [] (Nat.le_of_ble_eq_true rfl) (fun _ => rfl) rfl q845 q164 q96 q165 hf hl dX3_text_22 (fun x5 h6 hf => ?_)
        obtain ⟨x7, h8, hAh8, hf, hlh8⟩ := mb_inv hf hl
        refine v_cut (h1 := h8) (pc1 := 37) (ls1 := [(0, .ref a0), (1, .ref a1), (2, .int i2), (3, .int i3)]) (st1 := [.int x7]) ?_ (fun Jh8 => ?_)
        · clear hAh8 hlh8
          refine v_istore (ls' := [(4, _), (0, _), (1, _), (2, _), (3, _)]) C dX3_text_37 (by decide) rfl ?_
          refine v_iload_n C 4 dX3_text_39 rfl rfl ?_
          refine v_istore (ls' := [(5, _), (4, _), (0, _), (1, _), (2, _), (3, _)]) C dX3_text_40 (by decide) rfl ?_
          refine v_iconst (x := 0) C dX3_text_42 (by decide) ?_
          refine v_istore (ls' := [(6, _), (5, _), (4, _), (0, _), (1, _), (2, _), (3, _)]) C dX3_text_43 (by decide) rfl ?_
          obtain ⟨x27, h28, eh28, hf, hlh28⟩ := mb_inv hf hl
          refine v_sub (ls' := _) [3, 4, 5, 6, 2, 1, 0] rfl (L45 a0 a1 i3 x7 FU i2 i3 (0 : Int32) _ _ _ eh28 hlh28 ?_)
          refine v_aload_n C 1 dX3_text_115 rfl rfl ?_
          refine v_iload C 4 dX3_text_116 rfl ?_
          refine v_iconst (x := 1) C dX3_text_118 (by decide) ?_
          obtain ⟨x29, h30, hAh30, hf, hlh30⟩ := mb_inv hf hl
          refine v_cut (h1 := h30) (pc1 := 129) (ls1 := [(0, .ref a0), (1, .ref a1), (2, .int x27), (3, .int i3)]) (st1 := [.ref x29, .ref a1]) ?_ (fun Jh30 => ?_)
          · clear hAh30 hlh30
            refine v_callV (stk := fun b => .ref b :: []) C (ct_J4_append _ a1 x29) rfl ⟨rfl, nd_J4_append⟩ rfl (Nat.le_of_ble_eq_true rfl) (Nat.le_of_ble_eq_true rfl) [] (Nat.le_of_ble_eq_true rfl) (fun _ => rfl) rfl q874 q875 q876 q106 q877 hf hl dX3_text_129 (fun x31 h32 hf => ?_)
            refine v_pop C dX3_text_132 rfl ?_
            refine v_iinc (ls' := [(3, _), (0, _), (1, _), (2, _)]) (y := i3 + (1 : Int32)) C 3 dX3_text_133 rfl rfl (by decide) rfl ?_
            refine v_goto (tgt := 14) C dX3_text_136 (by decide) ?_
            refine v_sub (ls' := _) [1, 2, 3, 0] rfl (ih x27 (i3 + (1 : Int32)) _ _ _ hf hl J)
          · clear hf
            have hf := hAh30
            have hl := hlh30
            refine v_icmp_le C hf (tgt := 127) dX3_text_119 (by decide) (fun c119 hf => ?_) (fun c119 hf => ?_)
            · refine v_ldcS C hf rfl q1067 dX3_text_127 (fun x33 hf => ?_)
              obtain ⟨e1, rfl⟩ := mret_inv hf
              subst e1
              exact v_sub (ls' := _) [0, 1, 2, 3] rfl Jh30
            · refine v_ldcS C hf rfl q1066 dX3_text_122 (fun x34 hf => ?_)
              refine v_goto (tgt := 129) C dX3_text_124 (by decide) ?_
              obtain ⟨e1, rfl⟩ := mret_inv hf
              subst e1
              exact v_sub (ls' := _) [0, 1, 2, 3] rfl Jh30
        · clear hf
          have hf := hAh8
          have hl := hlh8
          refine v_if_eq C hf (tgt := 32) dX3_text_25 (by decide) (fun c25 hf => ?_) (fun c25 hf => ?_)
          · refine v_aload_n C 0 dX3_text_32 rfl rfl ?_
            refine v_iload_n C 3 dX3_text_33 rfl rfl ?_
            refine v_callD (x := ({ cls := "EightBlocks$Move", name := "round", desc := "(I)I" } : Jvm.MethodName)) (stk := fun b => .int b :: []) C (ct_X11_round _ a0 i3) rfl nd_X11_round rfl (Nat.le_of_ble_eq_true rfl) (Nat.le_of_ble_eq_true rfl) [] (Nat.le_of_ble_eq_true rfl) (fun _ => rfl) rfl nw_11 nw_12 nw_13 q846 q848 q119 q850 hf hl dX3_text_34 (fun x35 h36 hf => ?_)
            obtain ⟨e1, rfl⟩ := mret_inv hf
            subst e1
            exact v_sub (ls' := _) [0, 1, 2, 3] rfl Jh8
          · refine v_iconst (x := 1) C dX3_text_28 (by decide) ?_
            refine v_goto (tgt := 37) C dX3_text_29 (by decide) ?_
            obtain ⟨e1, rfl⟩ := mret_inv hf
            subst e1
            exact v_sub (ls' := _) [0, 1, 2, 3] rfl Jh8
  unfold f_X3_text at hf
  refine v_new (Cn := RJ4) (T := TJ4) (N := 4) (ty0 := tyJ4) C hf hl in_J4 tyJ4_ok rfl q867 q278 q106 dvJ4 dX3_text_0 (fun x1 h2 hf => ?_)
  refine v_dup C dX3_text_3 rfl ?_
  refine v_bipush (x := 100) C dX3_text_4 (by decide) ?_
  refine v_callI (stk := fun _ => [.ref x1]) C (ct_J4_init _ x1 (100 : Int32)) nd_J4_init rfl (Nat.le_of_ble_eq_true rfl) (Nat.le_of_ble_eq_true rfl) [.ref x1] (Nat.le_of_ble_eq_true rfl) (fun _ => rfl) rfl rfl q868 q280 q106 q281 hf hl dX3_text_6 (fun x3 h4 hf => ?_)
  refine v_astore_n (ls' := [(1, _), (0, _)]) C dX3_text_9 rfl (by decide) rfl ?_
  refine v_iconst (x := 0) C dX3_text_10 (by decide) ?_
  refine v_istore_n (ls' := [(2, _), (1, _), (0, _)]) C dX3_text_11 rfl (by decide) rfl ?_
  refine v_iconst (x := 0) C dX3_text_12 (by decide) ?_
  refine v_istore_n (ls' := [(3, _), (2, _), (1, _), (0, _)]) C dX3_text_13 rfl (by decide) rfl ?_
  obtain ⟨x37, h38, eh38, hf, hlh38⟩ := mb_inv hf hl
  refine v_sub (ls' := _) [3, 2, 1, 0] rfl (L14 a0 x1 FU (0 : Int32) (0 : Int32) _ _ _ eh38 hlh38 ?_)
  refine v_aload_n C 0 dX3_text_139 rfl rfl ?_
  refine v_callV (stk := fun b => .ref b :: []) C (ct_J4_toString _ x1) rfl ⟨rfl, nd_J4_toString⟩ rfl (Nat.le_of_ble_eq_true rfl) (Nat.le_of_ble_eq_true rfl) [] (Nat.le_of_ble_eq_true rfl) (fun _ => rfl) rfl q1007 q1008 q1009 q106 q1010 hf hl dX3_text_140 (fun x39 h40 hf => ?_)
  exact v_aret C E hf (Or.inl ⟨_, rfl⟩) dX3_text_143
def f_X0_told (a0 : Nat) (i1 : Int32) (i2 : Int32) : hM Int32 :=
  mb (f_X0_isMove i1) fun x1 => mi (¬ x1 = 0) (mb (gR a0 0 3) fun x3 => mb (gR x3 2 0) fun x4 => mb (aR 6 x4 i1) fun x5 => mb (mi (i2 = 0) (mb (mat a0 0 (f_X0_keeps a0 i1)) fun x8 => mi (x8 = 0) (mret (0 : Int32)) (mret (1 : Int32))) (mi (i2 = 1) (mb (mat x5 3 (f_X3_staying x5)) fun x10 => mret x10) (mi (i2 = 2) (mb (mat x5 3 (f_X3_rings x5 i2)) fun x12 => mret x12) (mi (i2 = 3) (mb (mat x5 3 (f_X3_rings x5 i2)) fun x14 => mret x14) (mi (i2 = 4) (mb (mat x5 3 (f_X3_rings x5 (2 : Int32))) fun x16 => mb (mrem ((24 : Int32) - x16) (2 : Int32)) fun x18 => mret x18) (mi (i2 = 5) (mb (mat a0 0 (f_X0_octadsStaying a0 x5)) fun x19 => mret x19) (mi (i2 = 6) (mb (gR a0 0 3) fun x21 => mb (gI x21 2 1) fun x22 => mb (mat a0 0 (f_X0_whereGoes a0 x22 x5)) fun x23 => mret x23) (mi (i2 = 7) (mb (mat x5 3 (f_X3_text x5)) fun x25 => mb (mat x25 20 (f_J5_length x25)) fun x27 => mret x27) (mret (-1 : Int32)))))))))) fun x6 => mret x6) (mret (-1 : Int32))
theorem nd_X0_told : yX0_told.cls ≠ "java/lang/invoke/MethodHandle" ∧ yX0_told.cls ≠ "java/lang/invoke/VarHandle" ∧ (parseMethodDescriptor yX0_told.desc).map (fun d => d.parameters.length) = some 2 := by decide +kernel
set_option maxHeartbeats 4000000 in
theorem ct_X0_told (l : Launch) (a0 : Nat) (i1 : Int32) (i2 : Int32) : CT l yX0_told cX0_told 4 (some .int) 10 226 rvI [.ref a0, .int i1, .int i2] (f_X0_told a0 i1 i2) := by
  refine CT_of (ls := [(0, .ref a0), (1, .int i1), (2, .int i2)]) (by decide) (Nat.le_of_ble_eq_true rfl) rfl ?_
  intro X h he z hX hf C E hnm hh
  have hl := hle.rf he
  subst hX
  unfold f_X0_told at hf
  refine v_iload_n C 1 dX0_told_0 rfl rfl ?_
  refine v_callS (stk := fun b => .int b :: []) C (ct_X0_isMove _ i1) nd_X0_isMove rfl (Nat.le_of_ble_eq_true rfl) (Nat.le_of_ble_eq_true rfl) [] (Nat.le_of_ble_eq_true rfl) (fun _ => rfl) rfl q812 q813 q96 q814 hf hl dX0_told_1 (fun x1 h2 hf => ?_)
  refine v_if_ne C hf (tgt := 9) dX0_told_4 (by decide) (fun c4 hf => ?_) (fun c4 hf => ?_)
  · refine v_aload_n C 0 dX0_told_9 rfl rfl ?_
    refine v_gR (Cn := RX0) (T := TX0) (N := 16) C hf in_X0 rfl (by decide) q695 rfl dX0_told_10 (fun x3 hf => ?_)
    refine v_gRN (Cn := RX2) (T := TX2) (N := 3) C hf in_X2 rfl (by decide) q259 rfl dX0_told_13 (fun x4 hf => ?_)
    refine v_iload_n C 1 dX0_told_16 rfl rfl ?_
    refine v_aaload C hf (by decide) rfl dX0_told_17 (fun x5 hf => ?_)
    refine v_astore_n (ls' := [(3, _), (0, _), (1, _), (2, _)]) C dX0_told_18 rfl (by decide) rfl ?_
    refine v_iload_n C 3 dX0_told_19 rfl rfl ?_
    obtain ⟨x6, h7, hAh7, hf, hlh7⟩ := mb_inv hf hl
    refine v_cut (h1 := h7) (pc1 := 146) (ls1 := []) (st1 := [.int x6]) ?_ (fun Jh7 => ?_)
    · clear hAh7 hlh7
      exact v_iret C E hf dX0_told_146
    · clear hf
      have hf := hAh7
      have hl := hlh7
      by_cases e20_0 : i2 = 0
      · have hf := mi_pos e20_0 hf
        refine v_tswI C (k := 0) e20_0 dX0_told_20 (by decide) (by decide) rfl (tgt := 68) (by decide) ?_
        refine v_aload_n C 1 dX0_told_68 rfl rfl ?_
        refine v_iload_n C 2 dX0_told_69 rfl rfl ?_
        refine v_callV (stk := fun b => .int b :: []) C (ct_X0_keeps _ a0 i1) rfl ⟨rfl, nd_X0_keeps⟩ rfl (Nat.le_of_ble_eq_true rfl) (Nat.le_of_ble_eq_true rfl) [] (Nat.le_of_ble_eq_true rfl) (fun _ => rfl) rfl q825 q827 qs9 q96 q828 hf hl dX0_told_70 (fun x8 h9 hf => ?_)
        refine v_if_eq C hf (tgt := 80) dX0_told_73 (by decide) (fun c73 hf => ?_) (fun c73 hf => ?_)
        · refine v_iconst (x := 0) C dX0_told_80 (by decide) ?_
          refine v_goto (tgt := 146) C dX0_told_81 (by decide) ?_
          obtain ⟨e1, rfl⟩ := mret_inv hf
          subst e1
          exact v_sub (ls' := _) [] rfl Jh7
        · refine v_iconst (x := 1) C dX0_told_76 (by decide) ?_
          refine v_goto (tgt := 146) C dX0_told_77 (by decide) ?_
          obtain ⟨e1, rfl⟩ := mret_inv hf
          subst e1
          exact v_sub (ls' := _) [] rfl Jh7
      have hf := mi_neg e20_0 hf
      by_cases e20_1 : i2 = 1
      · have hf := mi_pos e20_1 hf
        refine v_tswI C (k := 1) e20_1 dX0_told_20 (by decide) (by decide) rfl (tgt := 84) (by decide) ?_
        refine v_aload_n C 0 dX0_told_84 rfl rfl ?_
        refine v_callV (stk := fun b => .int b :: []) C (ct_X3_staying _ x5) rfl ⟨rfl, nd_X3_staying⟩ rfl (Nat.le_of_ble_eq_true rfl) (Nat.le_of_ble_eq_true rfl) [] (Nat.le_of_ble_eq_true rfl) (fun _ => rfl) rfl q837 q838 q839 q103 q840 hf hl dX0_told_85 (fun x10 h11 hf => ?_)
        refine v_goto (tgt := 146) C dX0_told_88 (by decide) ?_
        obtain ⟨e1, rfl⟩ := mret_inv hf
        subst e1
        exact v_sub (ls' := _) [] rfl Jh7
      have hf := mi_neg e20_1 hf
      by_cases e20_2 : i2 = 2
      · have hf := mi_pos e20_2 hf
        refine v_tswI C (k := 2) e20_2 dX0_told_20 (by decide) (by decide) rfl (tgt := 91) (by decide) ?_
        refine v_aload_n C 0 dX0_told_91 rfl rfl ?_
        refine v_iload_n C 3 dX0_told_92 rfl rfl ?_
        refine v_callV (stk := fun b => .int b :: []) C (ct_X3_rings _ x5 i2) rfl ⟨rfl, nd_X3_rings⟩ rfl (Nat.le_of_ble_eq_true rfl) (Nat.le_of_ble_eq_true rfl) [] (Nat.le_of_ble_eq_true rfl) (fun _ => rfl) rfl q841 q842 q843 q103 q844 hf hl dX0_told_93 (fun x12 h13 hf => ?_)
        refine v_goto (tgt := 146) C dX0_told_96 (by decide) ?_
        obtain ⟨e1, rfl⟩ := mret_inv hf
        subst e1
        exact v_sub (ls' := _) [] rfl Jh7
      have hf := mi_neg e20_2 hf
      by_cases e20_3 : i2 = 3
      · have hf := mi_pos e20_3 hf
        refine v_tswI C (k := 3) e20_3 dX0_told_20 (by decide) (by decide) rfl (tgt := 91) (by decide) ?_
        refine v_aload_n C 0 dX0_told_91 rfl rfl ?_
        refine v_iload_n C 3 dX0_told_92 rfl rfl ?_
        refine v_callV (stk := fun b => .int b :: []) C (ct_X3_rings _ x5 i2) rfl ⟨rfl, nd_X3_rings⟩ rfl (Nat.le_of_ble_eq_true rfl) (Nat.le_of_ble_eq_true rfl) [] (Nat.le_of_ble_eq_true rfl) (fun _ => rfl) rfl q841 q842 q843 q103 q844 hf hl dX0_told_93 (fun x14 h15 hf => ?_)
        refine v_goto (tgt := 146) C dX0_told_96 (by decide) ?_
        obtain ⟨e1, rfl⟩ := mret_inv hf
        subst e1
        exact v_sub (ls' := _) [] rfl Jh7
      have hf := mi_neg e20_3 hf
      by_cases e20_4 : i2 = 4
      · have hf := mi_pos e20_4 hf
        refine v_tswI C (k := 4) e20_4 dX0_told_20 (by decide) (by decide) rfl (tgt := 99) (by decide) ?_
        refine v_bipush (x := 24) C dX0_told_99 (by decide) ?_
        refine v_aload_n C 0 dX0_told_101 rfl rfl ?_
        refine v_iconst (x := 2) C dX0_told_102 (by decide) ?_
        refine v_callV (stk := fun b => .int b :: [.int (24 : Int32)]) C (ct_X3_rings _ x5 (2 : Int32)) rfl ⟨rfl, nd_X3_rings⟩ rfl (Nat.le_of_ble_eq_true rfl) (Nat.le_of_ble_eq_true rfl) [.int (24 : Int32)] (Nat.le_of_ble_eq_true rfl) (fun _ => rfl) rfl q841 q842 q843 q103 q844 hf hl dX0_told_103 (fun x16 h17 hf => ?_)
        refine v_isub C dX0_told_106 ?_
        refine v_iconst (x := 2) C dX0_told_107 (by decide) ?_
        refine v_irem C hf dX0_told_108 (fun x18 hf => ?_)
        refine v_goto (tgt := 146) C dX0_told_109 (by decide) ?_
        obtain ⟨e1, rfl⟩ := mret_inv hf
        subst e1
        exact v_sub (ls' := _) [] rfl Jh7
      have hf := mi_neg e20_4 hf
      by_cases e20_5 : i2 = 5
      · have hf := mi_pos e20_5 hf
        refine v_tswI C (k := 5) e20_5 dX0_told_20 (by decide) (by decide) rfl (tgt := 112) (by decide) ?_
        refine v_aload_n C 1 dX0_told_112 rfl rfl ?_
        refine v_aload_n C 0 dX0_told_113 rfl rfl ?_
        refine v_callV (stk := fun b => .int b :: []) C (ct_X0_octadsStaying _ a0 x5) rfl ⟨rfl, nd_X0_octadsStaying⟩ rfl (Nat.le_of_ble_eq_true rfl) (Nat.le_of_ble_eq_true rfl) [] (Nat.le_of_ble_eq_true rfl) (fun _ => rfl) rfl q854 q856 qs10 q96 q857 hf hl dX0_told_114 (fun x19 h20 hf => ?_)
        refine v_goto (tgt := 146) C dX0_told_117 (by decide) ?_
        obtain ⟨e1, rfl⟩ := mret_inv hf
        subst e1
        exact v_sub (ls' := _) [] rfl Jh7
      have hf := mi_neg e20_5 hf
      by_cases e20_6 : i2 = 6
      · have hf := mi_pos e20_6 hf
        refine v_tswI C (k := 6) e20_6 dX0_told_20 (by decide) (by decide) rfl (tgt := 120) (by decide) ?_
        refine v_aload_n C 1 dX0_told_120 rfl rfl ?_
        refine v_aload_n C 1 dX0_told_121 rfl rfl ?_
        refine v_gR (Cn := RX0) (T := TX0) (N := 16) C hf in_X0 rfl (by decide) q695 rfl dX0_told_122 (fun x21 hf => ?_)
        refine v_gIN (Cn := RX2) (T := TX2) (N := 3) C hf in_X2 rfl (by decide) q261 rfl dX0_told_125 (fun x22 hf => ?_)
        refine v_aload_n C 0 dX0_told_128 rfl rfl ?_
        refine v_callV (stk := fun b => .int b :: []) C (ct_X0_whereGoes _ a0 x22 x5) rfl ⟨rfl, nd_X0_whereGoes⟩ rfl (Nat.le_of_ble_eq_true rfl) (Nat.le_of_ble_eq_true rfl) [] (Nat.le_of_ble_eq_true rfl) (fun _ => rfl) rfl q858 q860 qs11 q96 q861 hf hl dX0_told_129 (fun x23 h24 hf => ?_)
        refine v_goto (tgt := 146) C dX0_told_132 (by decide) ?_
        obtain ⟨e1, rfl⟩ := mret_inv hf
        subst e1
        exact v_sub (ls' := _) [] rfl Jh7
      have hf := mi_neg e20_6 hf
      by_cases e20_7 : i2 = 7
      · have hf := mi_pos e20_7 hf
        refine v_tswI C (k := 7) e20_7 dX0_told_20 (by decide) (by decide) rfl (tgt := 135) (by decide) ?_
        refine v_aload_n C 0 dX0_told_135 rfl rfl ?_
        refine v_callV (stk := fun b => .ref b :: []) C (ct_X3_text _ x5) rfl ⟨rfl, nd_X3_text⟩ rfl (Nat.le_of_ble_eq_true rfl) (Nat.le_of_ble_eq_true rfl) [] (Nat.le_of_ble_eq_true rfl) (fun _ => rfl) rfl q863 q864 q865 q103 q866 hf hl dX0_told_136 (fun x25 h26 hf => ?_)
        refine v_callV (stk := fun b => .int b :: []) C (ct_J5_length _ x25) (show clG[20]? = some (RJ5, TJ5, 4) from rfl) ⟨rfl, nd_J5_length⟩ rfl (Nat.le_of_ble_eq_true rfl) (Nat.le_of_ble_eq_true rfl) [] (Nat.le_of_ble_eq_true rfl) (fun _ => rfl) rfl q1068 q941 q942 q107 q943 hf hl dX0_told_139 (fun x27 h28 hf => ?_)
        refine v_goto (tgt := 146) C dX0_told_142 (by decide) ?_
        obtain ⟨e1, rfl⟩ := mret_inv hf
        subst e1
        exact v_sub (ls' := _) [] rfl Jh7
      have hf := mi_neg e20_7 hf
      refine v_tswO C (n := 8) (lo := 0) (x := i2) (fun j hj => ?_) dX0_told_20 rfl rfl (tgt := 145) (by decide) ?_
      · rcases (show j = 0 ∨ j = 1 ∨ j = 2 ∨ j = 3 ∨ j = 4 ∨ j = 5 ∨ j = 6 ∨ j = 7 by omega) with rfl | rfl | rfl | rfl | rfl | rfl | rfl | rfl
        · exact e20_0
        · exact e20_1
        · exact e20_2
        · exact e20_3
        · exact e20_4
        · exact e20_5
        · exact e20_6
        · exact e20_7
      refine v_iconst (x := (-1)) C dX0_told_145 (by decide) ?_
      obtain ⟨e1, rfl⟩ := mret_inv hf
      subst e1
      exact v_sub (ls' := _) [] rfl Jh7
  · refine v_iconst (x := (-1)) C dX0_told_7 (by decide) ?_
    exact v_iret C E hf dX0_told_8
def f_X0_letter (a0 : Nat) (i1 : Int32) (i2 : Int32) : hM Int32 :=
  mb (f_X0_isMove i1) fun x1 => mi (x1 = 0) (mret (-1 : Int32)) (mi (0 ≤ i2) (mb (gR a0 0 3) fun x3 => mb (gR x3 2 0) fun x4 => mb (aR 6 x4 i1) fun x5 => mb (mat x5 3 (f_X3_text x5)) fun x6 => mb (d_JC_length x6) fun x8 => mb (mi (x8 ≤ i2) (mret (-4 : Int32)) (mb (d_JC_charAt x6 i2) fun x12 => mret x12)) fun x10 => mret x10) (mret (-1 : Int32)))
theorem nd_X0_letter : yX0_letter.cls ≠ "java/lang/invoke/MethodHandle" ∧ yX0_letter.cls ≠ "java/lang/invoke/VarHandle" ∧ (parseMethodDescriptor yX0_letter.desc).map (fun d => d.parameters.length) = some 2 := by decide +kernel
set_option maxHeartbeats 4000000 in
theorem ct_X0_letter (l : Launch) (a0 : Nat) (i1 : Int32) (i2 : Int32) : CT l yX0_letter cX0_letter 4 (some .int) 10 226 rvI [.ref a0, .int i1, .int i2] (f_X0_letter a0 i1 i2) := by
  refine CT_of (ls := [(0, .ref a0), (1, .int i1), (2, .int i2)]) (by decide) (Nat.le_of_ble_eq_true rfl) rfl ?_
  intro X h he z hX hf C E hnm hh
  have hl := hle.rf he
  subst hX
  unfold f_X0_letter at hf
  refine v_iload_n C 1 dX0_letter_0 rfl rfl ?_
  refine v_callS (stk := fun b => .int b :: []) C (ct_X0_isMove _ i1) nd_X0_isMove rfl (Nat.le_of_ble_eq_true rfl) (Nat.le_of_ble_eq_true rfl) [] (Nat.le_of_ble_eq_true rfl) (fun _ => rfl) rfl q812 q813 q96 q814 hf hl dX0_letter_1 (fun x1 h2 hf => ?_)
  refine v_if_eq C hf (tgt := 11) dX0_letter_4 (by decide) (fun c4 hf => ?_) (fun c4 hf => ?_)
  · refine v_iconst (x := (-1)) C dX0_letter_11 (by decide) ?_
    exact v_iret C E hf dX0_letter_12
  · refine v_iload_n C 2 dX0_letter_7 rfl rfl ?_
    refine v_if_ge C hf (tgt := 13) dX0_letter_8 (by decide) (fun c8 hf => ?_) (fun c8 hf => ?_)
    · refine v_aload_n C 0 dX0_letter_13 rfl rfl ?_
      refine v_gR (Cn := RX0) (T := TX0) (N := 16) C hf in_X0 rfl (by decide) q695 rfl dX0_letter_14 (fun x3 hf => ?_)
      refine v_gRN (Cn := RX2) (T := TX2) (N := 3) C hf in_X2 rfl (by decide) q259 rfl dX0_letter_17 (fun x4 hf => ?_)
      refine v_iload_n C 1 dX0_letter_20 rfl rfl ?_
      refine v_aaload C hf (by decide) rfl dX0_letter_21 (fun x5 hf => ?_)
      refine v_callV (stk := fun b => .ref b :: []) C (ct_X3_text _ x5) rfl ⟨rfl, nd_X3_text⟩ rfl (Nat.le_of_ble_eq_true rfl) (Nat.le_of_ble_eq_true rfl) [] (Nat.le_of_ble_eq_true rfl) (fun _ => rfl) rfl q863 q864 q865 q103 q866 hf hl dX0_letter_22 (fun x6 h7 hf => ?_)
      refine v_astore_n (ls' := [(3, _), (0, _), (1, _), (2, _)]) C dX0_letter_25 rfl (by decide) rfl ?_
      refine v_iload_n C 3 dX0_letter_26 rfl rfl ?_
      refine v_aload_n C 0 dX0_letter_27 rfl rfl ?_
      refine v_d_JC_length C x6  [.int i2] (Nat.le_of_ble_eq_true rfl) (Nat.le_of_ble_eq_true rfl) (Nat.le_of_ble_eq_true rfl) rfl q1074 hf hl dX0_letter_28 (fun x8 h9 hf => ?_)
      obtain ⟨x10, h11, hAh11, hf, hlh11⟩ := mb_inv hf hl
      refine v_cut (h1 := h11) (pc1 := 48) (ls1 := []) (st1 := [.int x10]) ?_ (fun Jh11 => ?_)
      · clear hAh11 hlh11
        exact v_iret C E hf dX0_letter_48
      · clear hf
        have hf := hAh11
        have hl := hlh11
        refine v_icmp_ge C hf (tgt := 46) dX0_letter_33 (by decide) (fun c33 hf => ?_) (fun c33 hf => ?_)
        · refine v_bipush (x := (-4)) C dX0_letter_46 (by decide) ?_
          obtain ⟨e1, rfl⟩ := mret_inv hf
          subst e1
          exact v_sub (ls' := _) [] rfl Jh11
        · refine v_aload_n C 0 dX0_letter_36 rfl rfl ?_
          refine v_iload_n C 3 dX0_letter_37 rfl rfl ?_
          refine v_d_JC_charAt C x6 i2 [] (Nat.le_of_ble_eq_true rfl) (Nat.le_of_ble_eq_true rfl) (Nat.le_of_ble_eq_true rfl) rfl q1086 hf hl dX0_letter_38 (fun x12 h13 hf => ?_)
          refine v_goto (tgt := 48) C dX0_letter_43 (by decide) ?_
          obtain ⟨e1, rfl⟩ := mret_inv hf
          subst e1
          exact v_sub (ls' := _) [] rfl Jh11
    · refine v_iconst (x := (-1)) C dX0_letter_11 (by decide) ?_
      exact v_iret C E hf dX0_letter_12
def d_X19_parts (a : Nat) (b1 : Nat) (b2 : Nat) (i3 : Int32) : hM Int32 := mb (gC a) fun c => mi (c = 16) (mat a 16 (f_X19_parts a b1 b2 i3)) (mi (c = 17) (mat a 17 (f_X19_parts a b1 b2 i3)) (mi (c = 18) (mat a 18 (f_X19_parts a b1 b2 i3)) (mfail)))
theorem ndx_X19_parts : ({ cls := "EightBlocks$Things", name := "parts", desc := "(LEightBlocks$Flood;LEightBlocks$Hall;I)I" } : Jvm.MethodName).cls ≠ "java/lang/invoke/MethodHandle" ∧ ({ cls := "EightBlocks$Things", name := "parts", desc := "(LEightBlocks$Flood;LEightBlocks$Hall;I)I" } : Jvm.MethodName).cls ≠ "java/lang/invoke/VarHandle" ∧ (parseMethodDescriptor ({ cls := "EightBlocks$Things", name := "parts", desc := "(LEightBlocks$Flood;LEightBlocks$Hall;I)I" } : Jvm.MethodName).desc).map (fun d => d.parameters.length) = some 3 := by decide +kernel
theorem v_d_X19_parts {X : hX} {own : String} {cc : ByteArray} {nL : Nat} {ret : Option FieldType} {he : Hp} {F L : Nat} {h hr : Hp} {pc : Nat} {ls : List (Nat × Value)} {st : List Value} {α : Type} {v : α} (C : Cx X own cc nL ret he F L) {index cnt : Nat} (a : Nat) (b1 : Nat) (b2 : Nat) (i3 : Int32) {k : Int32 → hM α} (rest : List Value) (hF : 7 ≤ F) (hL : 163 ≤ L) (hcat : (rest.map fun v => v.category).sum ≤ 8) (hst : st = .int i3 :: .ref b2 :: .ref b1 :: .ref a :: rest) (w1 : Jvm.Cond.methodLink own index ({ cls := "EightBlocks$Things", name := "parts", desc := "(LEightBlocks$Flood;LEightBlocks$Hall;I)I" } : Jvm.MethodName) ∈ lw_all) (hf : (mb (d_X19_parts a b1 b2 i3) k).1 h = some (v, hr)) (hl : hle hr he) (d : decode cc pc = .ok (.invokeinterface index cnt, 5)) (kk : ∀ (b : Int32) (h1 : Hp), (k b).1 h1 = some (v, hr) → V X h1 (pc + 5) ls (.int b :: rest)) : V X h pc ls st := by
  unfold d_X19_parts at hf
  obtain ⟨c, hf⟩ := dsp_inv hf
  rcases mb_mi hf with ⟨_, hf⟩ | ⟨_, hf⟩
  · exact v_callFD (stk := fun b => .int b :: rest) C (ct_X19_parts _ a b1 b2 i3) rfl ndx_X19_parts rfl (Nat.le_trans (Nat.le_of_ble_eq_true rfl) hF) (Nat.le_trans (Nat.le_of_ble_eq_true rfl) hL) rest hcat (fun _ => rfl) hst w1 nw_31 q1474 q1473 q1478 q1475 q1477 q134 q1479 hf hl d kk
  rcases mb_mi hf with ⟨_, hf⟩ | ⟨_, hf⟩
  · exact v_callFD (stk := fun b => .int b :: rest) C (ct_X19_parts _ a b1 b2 i3) rfl ndx_X19_parts rfl (Nat.le_trans (Nat.le_of_ble_eq_true rfl) hF) (Nat.le_trans (Nat.le_of_ble_eq_true rfl) hL) rest hcat (fun _ => rfl) hst w1 nw_32 q1474 q1473 q1478 q1496 q1477 q134 q1479 hf hl d kk
  rcases mb_mi hf with ⟨_, hf⟩ | ⟨_, hf⟩
  · exact v_callFD (stk := fun b => .int b :: rest) C (ct_X19_parts _ a b1 b2 i3) rfl ndx_X19_parts rfl (Nat.le_trans (Nat.le_of_ble_eq_true rfl) hF) (Nat.le_trans (Nat.le_of_ble_eq_true rfl) hL) rest hcat (fun _ => rfl) hst w1 nw_33 q1474 q1473 q1478 q1502 q1477 q134 q1479 hf hl d kk
  exact mb_fail hf
def f_X0_group (a0 : Nat) (i1 : Int32) (i2 : Int32) : hM Int32 :=
  mb (f_X0_isMoves i1) fun x1 => mi (x1 = 0) (mret (-1 : Int32)) (mb (f_X0_isIn i2.toInt64 (0 : Int64) (4 : Int64)) fun x3 => mi (¬ x3 = 0) (mb (mat a0 0 (f_X0_keepAll a0 i1)) fun x5 => mi (¬ x5 = 0) (mb (mi (¬ i2 = 0) (mb (gR a0 0 0) fun x9 => mb (f_X19_of i2 x9) fun x10 => mb (gR a0 0 7) fun x12 => mb (gR a0 0 3) fun x13 => mb (d_X19_parts x10 x12 x13 i1) fun x14 => mret x14) (mb (mat a0 0 (f_X0_order a0 i1)) fun x16 => mret x16)) fun x7 => mret x7) (mret (-2 : Int32))) (mret (-1 : Int32)))
theorem nd_X0_group : yX0_group.cls ≠ "java/lang/invoke/MethodHandle" ∧ yX0_group.cls ≠ "java/lang/invoke/VarHandle" ∧ (parseMethodDescriptor yX0_group.desc).map (fun d => d.parameters.length) = some 2 := by decide +kernel
set_option maxHeartbeats 4000000 in
theorem ct_X0_group (l : Launch) (a0 : Nat) (i1 : Int32) (i2 : Int32) : CT l yX0_group cX0_group 3 (some .int) 9 200 rvI [.ref a0, .int i1, .int i2] (f_X0_group a0 i1 i2) := by
  refine CT_of (ls := [(0, .ref a0), (1, .int i1), (2, .int i2)]) (by decide) (Nat.le_of_ble_eq_true rfl) rfl ?_
  intro X h he z hX hf C E hnm hh
  have hl := hle.rf he
  subst hX
  unfold f_X0_group at hf
  refine v_iload_n C 1 dX0_group_0 rfl rfl ?_
  refine v_callS (stk := fun b => .int b :: []) C (ct_X0_isMoves _ i1) nd_X0_isMoves rfl (Nat.le_of_ble_eq_true rfl) (Nat.le_of_ble_eq_true rfl) [] (Nat.le_of_ble_eq_true rfl) (fun _ => rfl) rfl q1370 q1371 q96 q1372 hf hl dX0_group_1 (fun x1 h2 hf => ?_)
  refine v_if_eq C hf (tgt := 19) dX0_group_4 (by decide) (fun c4 hf => ?_) (fun c4 hf => ?_)
  · refine v_iconst (x := (-1)) C dX0_group_19 (by decide) ?_
    exact v_iret C E hf dX0_group_20
  · refine v_iload_n C 2 dX0_group_7 rfl rfl ?_
    refine v_i2l C dX0_group_8 ?_
    refine v_lconst (x := 0) C dX0_group_9 (by decide) ?_
    refine v_ldc2 (x := 4) C q815 dX0_group_10 ?_
    refine v_callS (stk := fun b => .int b :: []) C (ct_X0_isIn _ i2.toInt64 (0 : Int64) (4 : Int64)) nd_X0_isIn rfl (Nat.le_of_ble_eq_true rfl) (Nat.le_of_ble_eq_true rfl) [] (Nat.le_of_ble_eq_true rfl) (fun _ => rfl) rfl q749 q750 q96 q751 hf hl dX0_group_13 (fun x3 h4 hf => ?_)
    refine v_if_ne C hf (tgt := 21) dX0_group_16 (by decide) (fun c16 hf => ?_) (fun c16 hf => ?_)
    · refine v_aload_n C 0 dX0_group_21 rfl rfl ?_
      refine v_iload_n C 1 dX0_group_22 rfl rfl ?_
      refine v_callV (stk := fun b => .int b :: []) C (ct_X0_keepAll _ a0 i1) rfl ⟨rfl, nd_X0_keepAll⟩ rfl (Nat.le_of_ble_eq_true rfl) (Nat.le_of_ble_eq_true rfl) [] (Nat.le_of_ble_eq_true rfl) (fun _ => rfl) rfl q1374 q1376 qs22 q96 q1377 hf hl dX0_group_23 (fun x5 h6 hf => ?_)
      refine v_if_ne C hf (tgt := 32) dX0_group_26 (by decide) (fun c26 hf => ?_) (fun c26 hf => ?_)
      · refine v_iload_n C 2 dX0_group_32 rfl rfl ?_
        obtain ⟨x7, h8, hAh8, hf, hlh8⟩ := mb_inv hf hl
        refine v_cut (h1 := h8) (pc1 := 66) (ls1 := []) (st1 := [.int x7]) ?_ (fun Jh8 => ?_)
        · clear hAh8 hlh8
          exact v_iret C E hf dX0_group_66
        · clear hf
          have hf := hAh8
          have hl := hlh8
          refine v_if_ne C hf (tgt := 44) dX0_group_33 (by decide) (fun c33 hf => ?_) (fun c33 hf => ?_)
          · refine v_iload_n C 2 dX0_group_44 rfl rfl ?_
            refine v_aload_n C 0 dX0_group_45 rfl rfl ?_
            refine v_gR (Cn := RX0) (T := TX0) (N := 16) C hf in_X0 rfl (by decide) q692 rfl dX0_group_46 (fun x9 hf => ?_)
            refine v_callS (stk := fun b => .ref b :: []) C (ct_X19_of _ i2 x9) nd_X19_of rfl (Nat.le_of_ble_eq_true rfl) (Nat.le_of_ble_eq_true rfl) [] (Nat.le_of_ble_eq_true rfl) (fun _ => rfl) rfl q1438 q1439 q134 q1440 hf hl dX0_group_49 (fun x10 h11 hf => ?_)
            refine v_aload_n C 0 dX0_group_52 rfl rfl ?_
            refine v_gR (Cn := RX0) (T := TX0) (N := 16) C hf in_X0 rfl (by decide) q699 rfl dX0_group_53 (fun x12 hf => ?_)
            refine v_aload_n C 0 dX0_group_56 rfl rfl ?_
            refine v_gR (Cn := RX0) (T := TX0) (N := 16) C hf in_X0 rfl (by decide) q695 rfl dX0_group_57 (fun x13 hf => ?_)
            refine v_iload_n C 1 dX0_group_60 rfl rfl ?_
            refine v_d_X19_parts C x10 x12 x13 i1 [] (Nat.le_of_ble_eq_true rfl) (Nat.le_of_ble_eq_true rfl) (Nat.le_of_ble_eq_true rfl) rfl q1472 hf hl dX0_group_61 (fun x14 h15 hf => ?_)
            obtain ⟨e1, rfl⟩ := mret_inv hf
            subst e1
            exact v_sub (ls' := _) [] rfl Jh8
          · refine v_aload_n C 0 dX0_group_36 rfl rfl ?_
            refine v_iload_n C 1 dX0_group_37 rfl rfl ?_
            refine v_callV (stk := fun b => .int b :: []) C (ct_X0_order _ a0 i1) rfl ⟨rfl, nd_X0_order⟩ rfl (Nat.le_of_ble_eq_true rfl) (Nat.le_of_ble_eq_true rfl) [] (Nat.le_of_ble_eq_true rfl) (fun _ => rfl) rfl q1378 q1380 qs23 q96 q1381 hf hl dX0_group_38 (fun x16 h17 hf => ?_)
            refine v_goto (tgt := 66) C dX0_group_41 (by decide) ?_
            obtain ⟨e1, rfl⟩ := mret_inv hf
            subst e1
            exact v_sub (ls' := _) [] rfl Jh8
      · refine v_bipush (x := (-2)) C dX0_group_29 (by decide) ?_
        exact v_iret C E hf dX0_group_31
    · refine v_iconst (x := (-1)) C dX0_group_19 (by decide) ?_
      exact v_iret C E hf dX0_group_20
def f_X0_held (a0 : Nat) (i1 : Int32) (i2 : Int32) (i3 : Int32) : hM Int32 :=
  mb (f_X0_isMoves i1) fun x1 => mi (x1 = 0) (mret (-1 : Int32)) (mb (f_X0_isSet i2) fun x3 => mi (x3 = 0) (mret (-1 : Int32)) (mb (f_X0_isIn i3.toInt64 (0 : Int64) (2 : Int64)) fun x5 => mi (¬ x5 = 0) (mb (mat a0 0 (f_X0_keepAll a0 i1)) fun x7 => mi (x7 = 0) (mret (-2 : Int32)) (mi (¬ i3 = (2 : Int32)) (mb (mi (¬ i3 = 0) (mi (¬ i3 = (1 : Int32)) (mb (mat a0 0 (f_X0_turning a0 i1 i2)) fun x11 => mret x11) (mb (mat a0 0 (f_X0_leaving a0 i1 i2)) fun x13 => mret x13)) (mb (mat a0 0 (f_X0_reached a0 i1 i2)) fun x15 => mret x15)) fun x9 => mret x9) (mb (gR a0 0 0) fun x17 => mb (mat x17 1 (f_X1_remainder x17 i2)) fun x18 => mi (x18 = 0) (mb (mi (¬ i3 = 0) (mi (¬ i3 = (1 : Int32)) (mb (mat a0 0 (f_X0_turning a0 i1 i2)) fun x22 => mret x22) (mb (mat a0 0 (f_X0_leaving a0 i1 i2)) fun x24 => mret x24)) (mb (mat a0 0 (f_X0_reached a0 i1 i2)) fun x26 => mret x26)) fun x20 => mret x20) (mret (-2 : Int32))))) (mret (-1 : Int32))))
theorem nd_X0_held : yX0_held.cls ≠ "java/lang/invoke/MethodHandle" ∧ yX0_held.cls ≠ "java/lang/invoke/VarHandle" ∧ (parseMethodDescriptor yX0_held.desc).map (fun d => d.parameters.length) = some 3 := by decide +kernel
set_option maxHeartbeats 4000000 in
theorem ct_X0_held (l : Launch) (a0 : Nat) (i1 : Int32) (i2 : Int32) (i3 : Int32) : CT l yX0_held cX0_held 4 (some .int) 10 224 rvI [.ref a0, .int i1, .int i2, .int i3] (f_X0_held a0 i1 i2 i3) := by
  refine CT_of (ls := [(0, .ref a0), (1, .int i1), (2, .int i2), (3, .int i3)]) (by decide) (Nat.le_of_ble_eq_true rfl) rfl ?_
  intro X h he z hX hf C E hnm hh
  have hl := hle.rf he
  subst hX
  unfold f_X0_held at hf
  refine v_iload_n C 1 dX0_held_0 rfl rfl ?_
  refine v_callS (stk := fun b => .int b :: []) C (ct_X0_isMoves _ i1) nd_X0_isMoves rfl (Nat.le_of_ble_eq_true rfl) (Nat.le_of_ble_eq_true rfl) [] (Nat.le_of_ble_eq_true rfl) (fun _ => rfl) rfl q1370 q1371 q96 q1372 hf hl dX0_held_1 (fun x1 h2 hf => ?_)
  refine v_if_eq C hf (tgt := 26) dX0_held_4 (by decide) (fun c4 hf => ?_) (fun c4 hf => ?_)
  · refine v_iconst (x := (-1)) C dX0_held_26 (by decide) ?_
    exact v_iret C E hf dX0_held_27
  · refine v_iload_n C 2 dX0_held_7 rfl rfl ?_
    refine v_callS (stk := fun b => .int b :: []) C (ct_X0_isSet _ i2) nd_X0_isSet rfl (Nat.le_of_ble_eq_true rfl) (Nat.le_of_ble_eq_true rfl) [] (Nat.le_of_ble_eq_true rfl) (fun _ => rfl) rfl q745 q746 q96 q747 hf hl dX0_held_8 (fun x3 h4 hf => ?_)
    refine v_if_eq C hf (tgt := 26) dX0_held_11 (by decide) (fun c11 hf => ?_) (fun c11 hf => ?_)
    · refine v_iconst (x := (-1)) C dX0_held_26 (by decide) ?_
      exact v_iret C E hf dX0_held_27
    · refine v_iload_n C 3 dX0_held_14 rfl rfl ?_
      refine v_i2l C dX0_held_15 ?_
      refine v_lconst (x := 0) C dX0_held_16 (by decide) ?_
      refine v_ldc2 (x := 2) C q781 dX0_held_17 ?_
      refine v_callS (stk := fun b => .int b :: []) C (ct_X0_isIn _ i3.toInt64 (0 : Int64) (2 : Int64)) nd_X0_isIn rfl (Nat.le_of_ble_eq_true rfl) (Nat.le_of_ble_eq_true rfl) [] (Nat.le_of_ble_eq_true rfl) (fun _ => rfl) rfl q749 q750 q96 q751 hf hl dX0_held_20 (fun x5 h6 hf => ?_)
      refine v_if_ne C hf (tgt := 28) dX0_held_23 (by decide) (fun c23 hf => ?_) (fun c23 hf => ?_)
      · refine v_aload_n C 0 dX0_held_28 rfl rfl ?_
        refine v_iload_n C 1 dX0_held_29 rfl rfl ?_
        refine v_callV (stk := fun b => .int b :: []) C (ct_X0_keepAll _ a0 i1) rfl ⟨rfl, nd_X0_keepAll⟩ rfl (Nat.le_of_ble_eq_true rfl) (Nat.le_of_ble_eq_true rfl) [] (Nat.le_of_ble_eq_true rfl) (fun _ => rfl) rfl q1374 q1376 qs22 q96 q1377 hf hl dX0_held_30 (fun x7 h8 hf => ?_)
        refine v_if_eq C hf (tgt := 52) dX0_held_33 (by decide) (fun c33 hf => ?_) (fun c33 hf => ?_)
        · refine v_bipush (x := (-2)) C dX0_held_52 (by decide) ?_
          exact v_iret C E hf dX0_held_54
        · refine v_iload_n C 3 dX0_held_36 rfl rfl ?_
          refine v_iconst (x := 2) C dX0_held_37 (by decide) ?_
          refine v_icmp_ne C hf (tgt := 55) dX0_held_38 (by decide) (fun c38 hf => ?_) (fun c38 hf => ?_)
          · refine v_iload_n C 3 dX0_held_55 rfl rfl ?_
            obtain ⟨x9, h10, hAh10, hf, hlh10⟩ := mb_inv hf hl
            refine v_cut (h1 := h10) (pc1 := 88) (ls1 := []) (st1 := [.int x9]) ?_ (fun Jh10 => ?_)
            · clear hAh10 hlh10
              exact v_iret C E hf dX0_held_88
            · clear hf
              have hf := hAh10
              have hl := hlh10
              refine v_if_ne C hf (tgt := 68) dX0_held_56 (by decide) (fun c56 hf => ?_) (fun c56 hf => ?_)
              · refine v_iload_n C 3 dX0_held_68 rfl rfl ?_
                refine v_iconst (x := 1) C dX0_held_69 (by decide) ?_
                refine v_icmp_ne C hf (tgt := 82) dX0_held_70 (by decide) (fun c70 hf => ?_) (fun c70 hf => ?_)
                · refine v_aload_n C 0 dX0_held_82 rfl rfl ?_
                  refine v_iload_n C 1 dX0_held_83 rfl rfl ?_
                  refine v_iload_n C 2 dX0_held_84 rfl rfl ?_
                  refine v_callV (stk := fun b => .int b :: []) C (ct_X0_turning _ a0 i1 i2) rfl ⟨rfl, nd_X0_turning⟩ rfl (Nat.le_of_ble_eq_true rfl) (Nat.le_of_ble_eq_true rfl) [] (Nat.le_of_ble_eq_true rfl) (fun _ => rfl) rfl q1567 q1569 qs31 q96 q1570 hf hl dX0_held_85 (fun x11 h12 hf => ?_)
                  obtain ⟨e1, rfl⟩ := mret_inv hf
                  subst e1
                  exact v_sub (ls' := _) [] rfl Jh10
                · refine v_aload_n C 0 dX0_held_73 rfl rfl ?_
                  refine v_iload_n C 1 dX0_held_74 rfl rfl ?_
                  refine v_iload_n C 2 dX0_held_75 rfl rfl ?_
                  refine v_callV (stk := fun b => .int b :: []) C (ct_X0_leaving _ a0 i1 i2) rfl ⟨rfl, nd_X0_leaving⟩ rfl (Nat.le_of_ble_eq_true rfl) (Nat.le_of_ble_eq_true rfl) [] (Nat.le_of_ble_eq_true rfl) (fun _ => rfl) rfl q1563 q1565 qs30 q96 q1566 hf hl dX0_held_76 (fun x13 h14 hf => ?_)
                  refine v_goto (tgt := 88) C dX0_held_79 (by decide) ?_
                  obtain ⟨e1, rfl⟩ := mret_inv hf
                  subst e1
                  exact v_sub (ls' := _) [] rfl Jh10
              · refine v_aload_n C 0 dX0_held_59 rfl rfl ?_
                refine v_iload_n C 1 dX0_held_60 rfl rfl ?_
                refine v_iload_n C 2 dX0_held_61 rfl rfl ?_
                refine v_callV (stk := fun b => .int b :: []) C (ct_X0_reached _ a0 i1 i2) rfl ⟨rfl, nd_X0_reached⟩ rfl (Nat.le_of_ble_eq_true rfl) (Nat.le_of_ble_eq_true rfl) [] (Nat.le_of_ble_eq_true rfl) (fun _ => rfl) rfl q1559 q1561 qs29 q96 q1562 hf hl dX0_held_62 (fun x15 h16 hf => ?_)
                refine v_goto (tgt := 88) C dX0_held_65 (by decide) ?_
                obtain ⟨e1, rfl⟩ := mret_inv hf
                subst e1
                exact v_sub (ls' := _) [] rfl Jh10
          · refine v_aload_n C 0 dX0_held_41 rfl rfl ?_
            refine v_gR (Cn := RX0) (T := TX0) (N := 16) C hf in_X0 rfl (by decide) q692 rfl dX0_held_42 (fun x17 hf => ?_)
            refine v_iload_n C 2 dX0_held_45 rfl rfl ?_
            refine v_callV (stk := fun b => .int b :: []) C (ct_X1_remainder _ x17 i2) rfl ⟨rfl, nd_X1_remainder⟩ rfl (Nat.le_of_ble_eq_true rfl) (Nat.le_of_ble_eq_true rfl) [] (Nat.le_of_ble_eq_true rfl) (fun _ => rfl) rfl q752 q753 q754 q97 q755 hf hl dX0_held_46 (fun x18 h19 hf => ?_)
            refine v_if_eq C hf (tgt := 55) dX0_held_49 (by decide) (fun c49 hf => ?_) (fun c49 hf => ?_)
            · refine v_iload_n C 3 dX0_held_55 rfl rfl ?_
              obtain ⟨x20, h21, hAh21, hf, hlh21⟩ := mb_inv hf hl
              refine v_cut (h1 := h21) (pc1 := 88) (ls1 := []) (st1 := [.int x20]) ?_ (fun Jh21 => ?_)
              · clear hAh21 hlh21
                exact v_iret C E hf dX0_held_88
              · clear hf
                have hf := hAh21
                have hl := hlh21
                refine v_if_ne C hf (tgt := 68) dX0_held_56 (by decide) (fun c56 hf => ?_) (fun c56 hf => ?_)
                · refine v_iload_n C 3 dX0_held_68 rfl rfl ?_
                  refine v_iconst (x := 1) C dX0_held_69 (by decide) ?_
                  refine v_icmp_ne C hf (tgt := 82) dX0_held_70 (by decide) (fun c70 hf => ?_) (fun c70 hf => ?_)
                  · refine v_aload_n C 0 dX0_held_82 rfl rfl ?_
                    refine v_iload_n C 1 dX0_held_83 rfl rfl ?_
                    refine v_iload_n C 2 dX0_held_84 rfl rfl ?_
                    refine v_callV (stk := fun b => .int b :: []) C (ct_X0_turning _ a0 i1 i2) rfl ⟨rfl, nd_X0_turning⟩ rfl (Nat.le_of_ble_eq_true rfl) (Nat.le_of_ble_eq_true rfl) [] (Nat.le_of_ble_eq_true rfl) (fun _ => rfl) rfl q1567 q1569 qs31 q96 q1570 hf hl dX0_held_85 (fun x22 h23 hf => ?_)
                    obtain ⟨e1, rfl⟩ := mret_inv hf
                    subst e1
                    exact v_sub (ls' := _) [] rfl Jh21
                  · refine v_aload_n C 0 dX0_held_73 rfl rfl ?_
                    refine v_iload_n C 1 dX0_held_74 rfl rfl ?_
                    refine v_iload_n C 2 dX0_held_75 rfl rfl ?_
                    refine v_callV (stk := fun b => .int b :: []) C (ct_X0_leaving _ a0 i1 i2) rfl ⟨rfl, nd_X0_leaving⟩ rfl (Nat.le_of_ble_eq_true rfl) (Nat.le_of_ble_eq_true rfl) [] (Nat.le_of_ble_eq_true rfl) (fun _ => rfl) rfl q1563 q1565 qs30 q96 q1566 hf hl dX0_held_76 (fun x24 h25 hf => ?_)
                    refine v_goto (tgt := 88) C dX0_held_79 (by decide) ?_
                    obtain ⟨e1, rfl⟩ := mret_inv hf
                    subst e1
                    exact v_sub (ls' := _) [] rfl Jh21
                · refine v_aload_n C 0 dX0_held_59 rfl rfl ?_
                  refine v_iload_n C 1 dX0_held_60 rfl rfl ?_
                  refine v_iload_n C 2 dX0_held_61 rfl rfl ?_
                  refine v_callV (stk := fun b => .int b :: []) C (ct_X0_reached _ a0 i1 i2) rfl ⟨rfl, nd_X0_reached⟩ rfl (Nat.le_of_ble_eq_true rfl) (Nat.le_of_ble_eq_true rfl) [] (Nat.le_of_ble_eq_true rfl) (fun _ => rfl) rfl q1559 q1561 qs29 q96 q1562 hf hl dX0_held_62 (fun x26 h27 hf => ?_)
                  refine v_goto (tgt := 88) C dX0_held_65 (by decide) ?_
                  obtain ⟨e1, rfl⟩ := mret_inv hf
                  subst e1
                  exact v_sub (ls' := _) [] rfl Jh21
            · refine v_bipush (x := (-2)) C dX0_held_52 (by decide) ?_
              exact v_iret C E hf dX0_held_54
      · refine v_iconst (x := (-1)) C dX0_held_26 (by decide) ?_
        exact v_iret C E hf dX0_held_27
