set_option maxRecDepth 100000
theorem nd_X0_need : yX0_need.cls ≠ "java/lang/invoke/MethodHandle" ∧ yX0_need.cls ≠ "java/lang/invoke/VarHandle" ∧ (parseMethodDescriptor yX0_need.desc).map (fun d => d.parameters.length) = some 1 := by decide +kernel
theorem nd_X0_readNumber : yX0_readNumber.cls ≠ "java/lang/invoke/MethodHandle" ∧ yX0_readNumber.cls ≠ "java/lang/invoke/VarHandle" ∧ (parseMethodDescriptor yX0_readNumber.desc).map (fun d => d.parameters.length) = some 2 := by decide +kernel
theorem nd_X0_readName : yX0_readName.cls ≠ "java/lang/invoke/MethodHandle" ∧ yX0_readName.cls ≠ "java/lang/invoke/VarHandle" ∧ (parseMethodDescriptor yX0_readName.desc).map (fun d => d.parameters.length) = some 0 := by decide +kernel
theorem nd_X0_readRing : yX0_readRing.cls ≠ "java/lang/invoke/MethodHandle" ∧ yX0_readRing.cls ≠ "java/lang/invoke/VarHandle" ∧ (parseMethodDescriptor yX0_readRing.desc).map (fun d => d.parameters.length) = some 0 := by decide +kernel
theorem nd_X0_readFactor : yX0_readFactor.cls ≠ "java/lang/invoke/MethodHandle" ∧ yX0_readFactor.cls ≠ "java/lang/invoke/VarHandle" ∧ (parseMethodDescriptor yX0_readFactor.desc).map (fun d => d.parameters.length) = some 1 := by decide +kernel
theorem nd_X0_readMove : yX0_readMove.cls ≠ "java/lang/invoke/MethodHandle" ∧ yX0_readMove.cls ≠ "java/lang/invoke/VarHandle" ∧ (parseMethodDescriptor yX0_readMove.desc).map (fun d => d.parameters.length) = some 1 := by decide +kernel
theorem nd_X0_readAll : yX0_readAll.cls ≠ "java/lang/invoke/MethodHandle" ∧ yX0_readAll.cls ≠ "java/lang/invoke/VarHandle" ∧ (parseMethodDescriptor yX0_readAll.desc).map (fun d => d.parameters.length) = some 0 := by decide +kernel
def f_X0_need (a0 : Nat) (i1 : Int32) : hM (Unit ⊕ Nat) :=
  mb (gR a0 0 4) fun x1 => mb (mat x1 4 (f_X18_isSign x1 i1)) fun x2 => mi (¬ x2 = 0) (mret (Sum.inl ())) (mb (mat a0 0 (f_X0_faultyNext a0)) fun x4 => mth x4)
set_option maxHeartbeats 4000000 in
theorem ct_X0_need (l : Launch) (a0 : Nat) (i1 : Int32) : CTX l yX0_need cX0_need 2 none 7 149 rv0 [.ref a0, .int i1] (f_X0_need a0 i1) := by
  refine CTX_of (ls := [(0, .ref a0), (1, .int i1)]) (by decide) (Nat.le_of_ble_eq_true rfl) rfl ?_
  intro X h he z hX hf C HT E hnm hh
  have hl := hle.rf he
  subst hX
  unfold f_X0_need at hf
  refine v_aload_n C 0 dX0_need_0 rfl rfl ?_
  refine v_gR (Cn := RX0) (T := TX0) (N := 16) C hf in_X0 rfl (by decide) q696 rfl dX0_need_1 (fun x1 hf => ?_)
  refine v_iload_n C 1 dX0_need_4 rfl rfl ?_
  refine v_callD (x := ({ cls := "EightBlocks$Tape", name := "isSign", desc := "(I)Z" } : Jvm.MethodName)) (stk := fun b => .int b :: []) C (ct_X18_isSign _ x1 i1) rfl nd_X18_isSign rfl (Nat.le_of_ble_eq_true rfl) (Nat.le_of_ble_eq_true rfl) [] (Nat.le_of_ble_eq_true rfl) (fun _ => rfl) rfl nw_25 nw_26 nw_27 q1234 q1236 q130 q1238 hf hl dX0_need_5 (fun x2 h3 hf => ?_)
  refine v_if_ne C hf (tgt := 16) dX0_need_8 (by decide) (fun c8 hf => ?_) (fun c8 hf => ?_)
  · exact v_vretX C E hf dX0_need_16
  · refine v_aload_n C 0 dX0_need_11 rfl rfl ?_
    refine v_callV (stk := fun b => .ref b :: []) C (ct_X0_faultyNext _ a0) rfl ⟨rfl, nd_X0_faultyNext⟩ rfl (Nat.le_of_ble_eq_true rfl) (Nat.le_of_ble_eq_true rfl) [] (Nat.le_of_ble_eq_true rfl) (fun _ => rfl) rfl q1265 q1267 qs20 q96 q1268 hf hl dX0_need_12 (fun x4 h5 hf => ?_)
    exact v_athrow C HT E hf dX0_need_15
def l_X0_readNumber_22 (a0 : Nat) (i1 : Int32) (i2 : Int32) (i3 : Int32) : Nat → Int32 → Int32 → hM (Int32 × Int32)
  | 0, _, _ => mfail
  | n + 1, i4, i5 => mb (gR a0 0 4) fun x7 => mb (mat x7 4 (f_X18_isFigure x7)) fun x8 => mi (x8 = 0) (mret (i4, i5)) (mb (mi ((2 : Int32) ≤ i5) (mret i4) (mb (gR a0 0 4) fun x18 => mb (mat x18 4 (f_X18_here x18)) fun x19 => mret ((((10 : Int32) * i4) + x19) - (48 : Int32)))) fun x10 => mb (gR a0 0 4) fun x12 => mb (gR a0 0 4) fun x13 => mb (mat x13 4 (f_X4_at x13)) fun x14 => mb (mat x12 4 (f_X4_goOn x12 (x14 + (1 : Int32)))) fun _ => l_X0_readNumber_22 a0 i1 i2 i3 n x10 (i5 + (1 : Int32)))
def f_X0_readNumber (a0 : Nat) (i1 : Int32) (i2 : Int32) : hM (Int32 ⊕ Nat) :=
  mb (gR a0 0 4) fun x1 => mb (mat x1 4 (f_X18_next x1)) fun x2 => mb (gR a0 0 4) fun x4 => mb (mat x4 4 (f_X4_at x4)) fun x5 => mb (l_X0_readNumber_22 a0 i1 i2 x5 FU (0 : Int32) (0 : Int32)) fun x21 => mb (f_X0_isIn x21.2.toInt64 (1 : Int64) (2 : Int64)) fun x23 => mi (x23 = 0) (mb (mat a0 0 (f_X0_faultAt a0 x5)) fun x25 => mth x25) (mi (i1 < x21.1) (mb (mat a0 0 (f_X0_faultAt a0 x5)) fun x27 => mth x27) (mi ((24 : Int32) ≤ x21.1) (mret (Sum.inl x21.1)) (mb (f_X0_has i2 x21.1) fun x29 => mi (x29 = 0) (mret (Sum.inl x21.1)) (mb (mat a0 0 (f_X0_faultAt a0 x5)) fun x31 => mth x31))))
set_option maxHeartbeats 4000000 in
theorem ct_X0_readNumber (l : Launch) (a0 : Nat) (i1 : Int32) (i2 : Int32) : CTX l yX0_readNumber cX0_readNumber 6 (some .int) 6 128 rvI [.ref a0, .int i1, .int i2] (f_X0_readNumber a0 i1 i2) := by
  refine CTX_of (ls := [(0, .ref a0), (1, .int i1), (2, .int i2)]) (by decide) (Nat.le_of_ble_eq_true rfl) rfl ?_
  intro X h he z hX hf C HT E hnm hh
  have hl := hle.rf he
  subst hX
  have L22 : ∀ (a0 : Nat) (i1 : Int32) (i2 : Int32) (i3 : Int32) (n : Nat) (i4 : Int32) (i5 : Int32) (h h1 : Hp) (o : Int32 × Int32), (l_X0_readNumber_22 a0 i1 i2 i3 n i4 i5).1 h = some (o, h1) → hle h1 he → V X h1 83 [(0, .ref a0), (1, .int i1), (2, .int i2), (3, .int i3), (4, .int o.1), (5, .int o.2)] [] → V X h 22 [(0, .ref a0), (1, .int i1), (2, .int i2), (3, .int i3), (4, .int i4), (5, .int i5)] [] := by
    intro a0 i1 i2 i3 n
    induction n with
    | zero => intro i4 i5 h h1 o hf; exact mfail_inv hf
    | succ n ih =>
      intro i4 i5 h h1 o hf hl J
      rw [l_X0_readNumber_22] at hf
      refine v_aload_n C 0 dX0_readNumber_22 rfl rfl ?_
      refine v_gR (Cn := RX0) (T := TX0) (N := 16) C hf in_X0 rfl (by decide) q696 rfl dX0_readNumber_23 (fun x7 hf => ?_)
      refine v_callD (x := ({ cls := "EightBlocks$Tape", name := "isFigure", desc := "()Z" } : Jvm.MethodName)) (stk := fun b => .int b :: []) C (ct_X18_isFigure _ x7) rfl nd_X18_isFigure rfl (Nat.le_of_ble_eq_true rfl) (Nat.le_of_ble_eq_true rfl) [] (Nat.le_of_ble_eq_true rfl) (fun _ => rfl) rfl nw_28 nw_29 nw_30 q1252 q1254 q130 q1256 hf hl dX0_readNumber_26 (fun x8 h9 hf => ?_)
      refine v_if_eq C hf (tgt := 83) dX0_readNumber_29 (by decide) (fun c29 hf => ?_) (fun c29 hf => ?_)
      · obtain ⟨e1, rfl⟩ := mret_inv hf
        subst e1
        exact v_sub (ls' := _) [0, 1, 2, 3, 4, 5] rfl J
      · refine v_iload C 5 dX0_readNumber_32 rfl ?_
        refine v_iconst (x := 2) C dX0_readNumber_34 (by decide) ?_
        obtain ⟨x10, h11, hAh11, hf, hlh11⟩ := mb_inv hf hl
        refine v_cut (h1 := h11) (pc1 := 59) (ls1 := [(0, .ref a0), (1, .int i1), (2, .int i2), (3, .int i3), (5, .int i5)]) (st1 := [.int x10]) ?_ (fun Jh11 => ?_)
        · clear hAh11 hlh11
          refine v_istore (ls' := [(4, _), (0, _), (1, _), (2, _), (3, _), (5, _)]) C dX0_readNumber_59 (by decide) rfl ?_
          refine v_iinc (ls' := [(5, _), (4, _), (0, _), (1, _), (2, _), (3, _)]) (y := i5 + (1 : Int32)) C 5 dX0_readNumber_61 rfl rfl (by decide) rfl ?_
          refine v_aload_n C 2 dX0_readNumber_64 rfl rfl ?_
          refine v_gR (Cn := RX0) (T := TX0) (N := 16) C hf in_X0 rfl (by decide) q696 rfl dX0_readNumber_65 (fun x12 hf => ?_)
          refine v_aload_n C 2 dX0_readNumber_68 rfl rfl ?_
          refine v_gR (Cn := RX0) (T := TX0) (N := 16) C hf in_X0 rfl (by decide) q696 rfl dX0_readNumber_69 (fun x13 hf => ?_)
          refine v_callV (stk := fun b => .int b :: [.ref x12]) C (ct_X4_at _ x13) rfl ⟨rfl, nd_X4_at⟩ rfl (Nat.le_of_ble_eq_true rfl) (Nat.le_of_ble_eq_true rfl) [.ref x12] (Nat.le_of_ble_eq_true rfl) (fun _ => rfl) rfl q1222 q1183 q2340 q104 q1185 hf hl dX0_readNumber_72 (fun x14 h15 hf => ?_)
          refine v_iconst (x := 1) C dX0_readNumber_75 (by decide) ?_
          refine v_iadd C dX0_readNumber_76 ?_
          refine v_callV (stk := fun _ => []) C (ct_X4_goOn _ x12 (x14 + (1 : Int32))) rfl ⟨rfl, nd_X4_goOn⟩ rfl (Nat.le_of_ble_eq_true rfl) (Nat.le_of_ble_eq_true rfl) [] (Nat.le_of_ble_eq_true rfl) (fun _ => rfl) rfl q1225 q1199 q2341 q104 q1201 hf hl dX0_readNumber_77 (fun x16 h17 hf => ?_)
          refine v_goto (tgt := 22) C dX0_readNumber_80 (by decide) ?_
          refine v_sub (ls' := _) [2, 3, 4, 5, 1, 0] rfl (ih x10 (i5 + (1 : Int32)) _ _ _ hf hl J)
        · clear hf
          have hf := hAh11
          have hl := hlh11
          refine v_icmp_ge C hf (tgt := 57) dX0_readNumber_35 (by decide) (fun c35 hf => ?_) (fun c35 hf => ?_)
          · refine v_iload C 4 dX0_readNumber_57 rfl ?_
            obtain ⟨e1, rfl⟩ := mret_inv hf
            subst e1
            exact v_sub (ls' := _) [0, 1, 2, 3, 5] rfl Jh11
          · refine v_bipush (x := 10) C dX0_readNumber_38 (by decide) ?_
            refine v_iload C 4 dX0_readNumber_40 rfl ?_
            refine v_imul C dX0_readNumber_42 ?_
            refine v_aload_n C 0 dX0_readNumber_43 rfl rfl ?_
            refine v_gR (Cn := RX0) (T := TX0) (N := 16) C hf in_X0 rfl (by decide) q696 rfl dX0_readNumber_44 (fun x18 hf => ?_)
            refine v_callD (x := ({ cls := "EightBlocks$Tape", name := "here", desc := "()I" } : Jvm.MethodName)) (stk := fun b => .int b :: [.int ((10 : Int32) * i4)]) C (ct_X18_here _ x18) rfl nd_X18_here rfl (Nat.le_of_ble_eq_true rfl) (Nat.le_of_ble_eq_true rfl) [.int ((10 : Int32) * i4)] (Nat.le_of_ble_eq_true rfl) (fun _ => rfl) rfl nw_18 nw_19 nw_20 q1205 q1207 q130 q1209 hf hl dX0_readNumber_47 (fun x19 h20 hf => ?_)
            refine v_iadd C dX0_readNumber_50 ?_
            refine v_bipush (x := 48) C dX0_readNumber_51 (by decide) ?_
            refine v_isub C dX0_readNumber_53 ?_
            refine v_goto (tgt := 59) C dX0_readNumber_54 (by decide) ?_
            obtain ⟨e1, rfl⟩ := mret_inv hf
            subst e1
            exact v_sub (ls' := _) [0, 1, 2, 3, 5] rfl Jh11
  unfold f_X0_readNumber at hf
  refine v_aload_n C 0 dX0_readNumber_0 rfl rfl ?_
  refine v_gR (Cn := RX0) (T := TX0) (N := 16) C hf in_X0 rfl (by decide) q696 rfl dX0_readNumber_1 (fun x1 hf => ?_)
  refine v_callD (x := ({ cls := "EightBlocks$Tape", name := "next", desc := "()I" } : Jvm.MethodName)) (stk := fun b => .int b :: []) C (ct_X18_next _ x1) rfl nd_X18_next rfl (Nat.le_of_ble_eq_true rfl) (Nat.le_of_ble_eq_true rfl) [] (Nat.le_of_ble_eq_true rfl) (fun _ => rfl) rfl nw_22 nw_23 nw_24 q1162 q1164 q130 q1166 hf hl dX0_readNumber_4 (fun x2 h3 hf => ?_)
  refine v_pop C dX0_readNumber_7 rfl ?_
  refine v_aload_n C 0 dX0_readNumber_8 rfl rfl ?_
  refine v_gR (Cn := RX0) (T := TX0) (N := 16) C hf in_X0 rfl (by decide) q696 rfl dX0_readNumber_9 (fun x4 hf => ?_)
  refine v_callV (stk := fun b => .int b :: []) C (ct_X4_at _ x4) rfl ⟨rfl, nd_X4_at⟩ rfl (Nat.le_of_ble_eq_true rfl) (Nat.le_of_ble_eq_true rfl) [] (Nat.le_of_ble_eq_true rfl) (fun _ => rfl) rfl q1222 q1183 q2340 q104 q1185 hf hl dX0_readNumber_12 (fun x5 h6 hf => ?_)
  refine v_istore_n (ls' := [(3, _), (0, _), (1, _), (2, _)]) C dX0_readNumber_15 rfl (by decide) rfl ?_
  refine v_iconst (x := 0) C dX0_readNumber_16 (by decide) ?_
  refine v_istore (ls' := [(4, _), (3, _), (0, _), (1, _), (2, _)]) C dX0_readNumber_17 (by decide) rfl ?_
  refine v_iconst (x := 0) C dX0_readNumber_19 (by decide) ?_
  refine v_istore (ls' := [(5, _), (4, _), (3, _), (0, _), (1, _), (2, _)]) C dX0_readNumber_20 (by decide) rfl ?_
  obtain ⟨x21, h22, eh22, hf, hlh22⟩ := mb_inv hf hl
  refine v_sub (ls' := _) [3, 4, 5, 2, 1, 0] rfl (L22 a0 i1 i2 x5 FU (0 : Int32) (0 : Int32) _ _ _ eh22 hlh22 ?_)
  refine v_iload C 5 dX0_readNumber_83 rfl ?_
  refine v_i2l C dX0_readNumber_85 ?_
  refine v_lconst (x := 1) C dX0_readNumber_86 (by decide) ?_
  refine v_ldc2 (x := 2) C q781 dX0_readNumber_87 ?_
  refine v_callS (stk := fun b => .int b :: []) C (ct_X0_isIn _ x21.2.toInt64 (1 : Int64) (2 : Int64)) nd_X0_isIn rfl (Nat.le_of_ble_eq_true rfl) (Nat.le_of_ble_eq_true rfl) [] (Nat.le_of_ble_eq_true rfl) (fun _ => rfl) rfl q749 q750 q96 q751 hf hl dX0_readNumber_90 (fun x23 h24 hf => ?_)
  refine v_if_eq C hf (tgt := 118) dX0_readNumber_93 (by decide) (fun c93 hf => ?_) (fun c93 hf => ?_)
  · refine v_aload_n C 0 dX0_readNumber_118 rfl rfl ?_
    refine v_iload_n C 3 dX0_readNumber_119 rfl rfl ?_
    refine v_callV (stk := fun b => .ref b :: []) C (ct_X0_faultAt _ a0 x5) rfl ⟨rfl, nd_X0_faultAt⟩ rfl (Nat.le_of_ble_eq_true rfl) (Nat.le_of_ble_eq_true rfl) [] (Nat.le_of_ble_eq_true rfl) (fun _ => rfl) rfl q1228 q1230 qs16 q96 q1231 hf hl dX0_readNumber_120 (fun x25 h26 hf => ?_)
    exact v_athrow C HT E hf dX0_readNumber_123
  · refine v_iload C 4 dX0_readNumber_96 rfl ?_
    refine v_iload_n C 1 dX0_readNumber_98 rfl rfl ?_
    refine v_icmp_gt C hf (tgt := 118) dX0_readNumber_99 (by decide) (fun c99 hf => ?_) (fun c99 hf => ?_)
    · refine v_aload_n C 0 dX0_readNumber_118 rfl rfl ?_
      refine v_iload_n C 3 dX0_readNumber_119 rfl rfl ?_
      refine v_callV (stk := fun b => .ref b :: []) C (ct_X0_faultAt _ a0 x5) rfl ⟨rfl, nd_X0_faultAt⟩ rfl (Nat.le_of_ble_eq_true rfl) (Nat.le_of_ble_eq_true rfl) [] (Nat.le_of_ble_eq_true rfl) (fun _ => rfl) rfl q1228 q1230 qs16 q96 q1231 hf hl dX0_readNumber_120 (fun x27 h28 hf => ?_)
      exact v_athrow C HT E hf dX0_readNumber_123
    · refine v_iload C 4 dX0_readNumber_102 rfl ?_
      refine v_bipush (x := 24) C dX0_readNumber_104 (by decide) ?_
      refine v_icmp_ge C hf (tgt := 124) dX0_readNumber_106 (by decide) (fun c106 hf => ?_) (fun c106 hf => ?_)
      · refine v_iload C 4 dX0_readNumber_124 rfl ?_
        exact v_iretX C E hf dX0_readNumber_126
      · refine v_iload_n C 2 dX0_readNumber_109 rfl rfl ?_
        refine v_iload C 4 dX0_readNumber_110 rfl ?_
        refine v_callS (stk := fun b => .int b :: []) C (ct_X0_has _ i2 x21.1) nd_X0_has rfl (Nat.le_of_ble_eq_true rfl) (Nat.le_of_ble_eq_true rfl) [] (Nat.le_of_ble_eq_true rfl) (fun _ => rfl) rfl q1259 q164 q96 q165 hf hl dX0_readNumber_112 (fun x29 h30 hf => ?_)
        refine v_if_eq C hf (tgt := 124) dX0_readNumber_115 (by decide) (fun c115 hf => ?_) (fun c115 hf => ?_)
        · refine v_iload C 4 dX0_readNumber_124 rfl ?_
          exact v_iretX C E hf dX0_readNumber_126
        · refine v_aload_n C 0 dX0_readNumber_118 rfl rfl ?_
          refine v_iload_n C 3 dX0_readNumber_119 rfl rfl ?_
          refine v_callV (stk := fun b => .ref b :: []) C (ct_X0_faultAt _ a0 x5) rfl ⟨rfl, nd_X0_faultAt⟩ rfl (Nat.le_of_ble_eq_true rfl) (Nat.le_of_ble_eq_true rfl) [] (Nat.le_of_ble_eq_true rfl) (fun _ => rfl) rfl q1228 q1230 qs16 q96 q1231 hf hl dX0_readNumber_120 (fun x31 h32 hf => ?_)
          exact v_athrow C HT E hf dX0_readNumber_123
def l_X0_readName_16 (a0 : Nat) (i1 : Int32) (a2 : Nat) : Nat → hM (Unit)
  | 0 => mfail
  | n + 1 => mb (gR a0 0 4) fun x8 => mb (mat x8 4 (f_X18_isName x8)) fun x9 => mi (x9 = 0) (mret ()) (mb (gR a0 0 4) fun x11 => mb (mat x11 4 (f_X18_here x11)) fun x12 => mb (mat a2 19 (f_J4_append_3 a2 (ji2c x12))) fun x14 => mb (gR a0 0 4) fun x16 => mb (gR a0 0 4) fun x17 => mb (mat x17 4 (f_X4_at x17)) fun x18 => mb (mat x16 4 (f_X4_goOn x16 (x18 + (1 : Int32)))) fun _ => l_X0_readName_16 a0 i1 a2 n )
def f_X0_readName (a0 : Nat) : hM (Nat ⊕ Nat) :=
  mb (gR a0 0 4) fun x1 => mb (mat x1 4 (f_X4_at x1)) fun x2 => mb (newO 19 4 [.null, .int 0, .int 0, .int 0]) fun x4 => mb (f_J4_init_2 x4) fun _ => mb (l_X0_readName_16 a0 x2 x4 FU ) fun x22 => mb (mat x4 19 (f_J4_toString x4)) fun x24 => mb (mat x24 20 (f_J5_length x24)) fun x26 => mb (mi (¬ x26 = (1 : Int32)) (mb (f_X11_named x24) fun x39 => mret x39) (mb (mat x24 20 (f_J5_charAt x24 (0 : Int32))) fun x41 => mb (f_X0_isMove (x41 - (97 : Int32))) fun x43 => mi (x43 = 0) (mb (f_X11_named x24) fun x45 => mret x45) (mb (gR a0 0 3) fun x47 => mb (gR x47 2 0) fun x48 => mb (mat x24 20 (f_J5_charAt x24 (0 : Int32))) fun x49 => mb (aR 6 x48 (x49 - (97 : Int32))) fun x51 => mret (some x51)))) fun x28 => mq x28 (mb (mat a0 0 (f_X0_faultAt a0 x2)) fun x37 => mth x37) (fun y30 => mb (newO 3 2 [.null, .null]) fun x31 => mb (f_X3_init x31) fun _ => mb (mat x31 3 (f_X3_take x31 y30)) fun x35 => mret (Sum.inl x35))
set_option maxHeartbeats 4000000 in
theorem ct_X0_readName (l : Launch) (a0 : Nat) : CTX l yX0_readName cX0_readName 5 (some (.object "EightBlocks$Move")) 7 160 rvR [.ref a0] (f_X0_readName a0) := by
  refine CTX_of (ls := [(0, .ref a0)]) (by decide) (Nat.le_of_ble_eq_true rfl) rfl ?_
  intro X h he z hX hf C HT E hnm hh
  have hl := hle.rf he
  subst hX
  have L16 : ∀ (a0 : Nat) (i1 : Int32) (a2 : Nat) (n : Nat)  (h h1 : Hp) (o : Unit), (l_X0_readName_16 a0 i1 a2 n ).1 h = some (o, h1) → hle h1 he → V X h1 58 [(0, .ref a0), (1, .int i1), (2, .ref a2)] [] → V X h 16 [(0, .ref a0), (1, .int i1), (2, .ref a2)] [] := by
    intro a0 i1 a2 n
    induction n with
    | zero => intro  h h1 o hf; exact mfail_inv hf
    | succ n ih =>
      intro  h h1 o hf hl J
      rw [l_X0_readName_16] at hf
      refine v_aload_n C 0 dX0_readName_16 rfl rfl ?_
      refine v_gR (Cn := RX0) (T := TX0) (N := 16) C hf in_X0 rfl (by decide) q696 rfl dX0_readName_17 (fun x8 hf => ?_)
      refine v_callD (x := ({ cls := "EightBlocks$Tape", name := "isName", desc := "()Z" } : Jvm.MethodName)) (stk := fun b => .int b :: []) C (ct_X18_isName _ x8) rfl nd_X18_isName rfl (Nat.le_of_ble_eq_true rfl) (Nat.le_of_ble_eq_true rfl) [] (Nat.le_of_ble_eq_true rfl) (fun _ => rfl) rfl nw_15 nw_16 nw_17 q1210 q1212 q130 q1214 hf hl dX0_readName_20 (fun x9 h10 hf => ?_)
      refine v_if_eq C hf (tgt := 58) dX0_readName_23 (by decide) (fun c23 hf => ?_) (fun c23 hf => ?_)
      · obtain ⟨e1, rfl⟩ := mret_inv hf
        subst e1
        exact v_sub (ls' := _) [0, 1, 2] rfl J
      · refine v_aload_n C 2 dX0_readName_26 rfl rfl ?_
        refine v_aload_n C 0 dX0_readName_27 rfl rfl ?_
        refine v_gR (Cn := RX0) (T := TX0) (N := 16) C hf in_X0 rfl (by decide) q696 rfl dX0_readName_28 (fun x11 hf => ?_)
        refine v_callD (x := ({ cls := "EightBlocks$Tape", name := "here", desc := "()I" } : Jvm.MethodName)) (stk := fun b => .int b :: [.ref a2]) C (ct_X18_here _ x11) rfl nd_X18_here rfl (Nat.le_of_ble_eq_true rfl) (Nat.le_of_ble_eq_true rfl) [.ref a2] (Nat.le_of_ble_eq_true rfl) (fun _ => rfl) rfl nw_18 nw_19 nw_20 q1205 q1207 q130 q1209 hf hl dX0_readName_31 (fun x12 h13 hf => ?_)
        refine v_i2c C dX0_readName_34 ?_
        refine v_callV (stk := fun b => .ref b :: []) C (ct_J4_append_3 _ a2 (ji2c x12)) rfl ⟨rfl, nd_J4_append_3⟩ rfl (Nat.le_of_ble_eq_true rfl) (Nat.le_of_ble_eq_true rfl) [] (Nat.le_of_ble_eq_true rfl) (fun _ => rfl) rfl q1132 q1133 q1134 q106 q1135 hf hl dX0_readName_35 (fun x14 h15 hf => ?_)
        refine v_pop C dX0_readName_38 rfl ?_
        refine v_aload_n C 0 dX0_readName_39 rfl rfl ?_
        refine v_gR (Cn := RX0) (T := TX0) (N := 16) C hf in_X0 rfl (by decide) q696 rfl dX0_readName_40 (fun x16 hf => ?_)
        refine v_aload_n C 0 dX0_readName_43 rfl rfl ?_
        refine v_gR (Cn := RX0) (T := TX0) (N := 16) C hf in_X0 rfl (by decide) q696 rfl dX0_readName_44 (fun x17 hf => ?_)
        refine v_callV (stk := fun b => .int b :: [.ref x16]) C (ct_X4_at _ x17) rfl ⟨rfl, nd_X4_at⟩ rfl (Nat.le_of_ble_eq_true rfl) (Nat.le_of_ble_eq_true rfl) [.ref x16] (Nat.le_of_ble_eq_true rfl) (fun _ => rfl) rfl q1222 q1183 q2340 q104 q1185 hf hl dX0_readName_47 (fun x18 h19 hf => ?_)
        refine v_iconst (x := 1) C dX0_readName_50 (by decide) ?_
        refine v_iadd C dX0_readName_51 ?_
        refine v_callV (stk := fun _ => []) C (ct_X4_goOn _ x16 (x18 + (1 : Int32))) rfl ⟨rfl, nd_X4_goOn⟩ rfl (Nat.le_of_ble_eq_true rfl) (Nat.le_of_ble_eq_true rfl) [] (Nat.le_of_ble_eq_true rfl) (fun _ => rfl) rfl q1225 q1199 q2341 q104 q1201 hf hl dX0_readName_52 (fun x20 h21 hf => ?_)
        refine v_goto (tgt := 16) C dX0_readName_55 (by decide) ?_
        refine v_sub (ls' := _) [0, 1, 2] rfl (ih  _ _ _ hf hl J)
  unfold f_X0_readName at hf
  refine v_aload_n C 0 dX0_readName_0 rfl rfl ?_
  refine v_gR (Cn := RX0) (T := TX0) (N := 16) C hf in_X0 rfl (by decide) q696 rfl dX0_readName_1 (fun x1 hf => ?_)
  refine v_callV (stk := fun b => .int b :: []) C (ct_X4_at _ x1) rfl ⟨rfl, nd_X4_at⟩ rfl (Nat.le_of_ble_eq_true rfl) (Nat.le_of_ble_eq_true rfl) [] (Nat.le_of_ble_eq_true rfl) (fun _ => rfl) rfl q1222 q1183 q2340 q104 q1185 hf hl dX0_readName_4 (fun x2 h3 hf => ?_)
  refine v_istore_n (ls' := [(1, _), (0, _)]) C dX0_readName_7 rfl (by decide) rfl ?_
  refine v_new (Cn := RJ4) (T := TJ4) (N := 4) (ty0 := tyJ4) C hf hl in_J4 tyJ4_ok rfl q1223 q278 q106 dvJ4 dX0_readName_8 (fun x4 h5 hf => ?_)
  refine v_dup C dX0_readName_11 rfl ?_
  refine v_callI (stk := fun _ => [.ref x4]) C (ct_J4_init_2 _ x4) nd_J4_init_2 rfl (Nat.le_of_ble_eq_true rfl) (Nat.le_of_ble_eq_true rfl) [.ref x4] (Nat.le_of_ble_eq_true rfl) (fun _ => rfl) rfl rfl q1224 q870 q106 q871 hf hl dX0_readName_12 (fun x6 h7 hf => ?_)
  refine v_astore_n (ls' := [(2, _), (1, _), (0, _)]) C dX0_readName_15 rfl (by decide) rfl ?_
  obtain ⟨x22, h23, eh23, hf, hlh23⟩ := mb_inv hf hl
  refine v_sub (ls' := _) [2, 1, 0] rfl (L16 a0 x2 x4 FU  _ _ _ eh23 hlh23 ?_)
  refine v_aload_n C 2 dX0_readName_58 rfl rfl ?_
  refine v_callV (stk := fun b => .ref b :: []) C (ct_J4_toString _ x4) rfl ⟨rfl, nd_J4_toString⟩ rfl (Nat.le_of_ble_eq_true rfl) (Nat.le_of_ble_eq_true rfl) [] (Nat.le_of_ble_eq_true rfl) (fun _ => rfl) rfl q1226 q1008 q1009 q106 q1010 hf hl dX0_readName_59 (fun x24 h25 hf => ?_)
  refine v_astore_n (ls' := [(3, _), (0, _), (1, _), (2, _)]) C dX0_readName_62 rfl (by decide) rfl ?_
  refine v_aload_n C 0 dX0_readName_63 rfl rfl ?_
  refine v_callV (stk := fun b => .int b :: []) C (ct_J5_length _ x24) (show clG[20]? = some (RJ5, TJ5, 4) from rfl) ⟨rfl, nd_J5_length⟩ rfl (Nat.le_of_ble_eq_true rfl) (Nat.le_of_ble_eq_true rfl) [] (Nat.le_of_ble_eq_true rfl) (fun _ => rfl) rfl q1068 q941 q942 q107 q943 hf hl dX0_readName_64 (fun x26 h27 hf => ?_)
  refine v_iconst (x := 1) C dX0_readName_67 (by decide) ?_
  obtain ⟨x28, h29, hAh29, hf, hlh29⟩ := mb_inv hf hl
  refine v_cut (h1 := h29) (pc1 := 108) (ls1 := [(0, .ref a0), (1, .int x2)]) (st1 := [va_rf x28]) ?_ (fun Jh29 => ?_)
  · clear hAh29 hlh29
    refine v_astoreQ (ls' := [(4, _), (0, _), (1, _)]) C dX0_readName_108 (by decide) rfl ?_
    refine v_aloadQ C 0 dX0_readName_110 rfl ?_
    refine v_ifnonnullq C hf (tgt := 121) dX0_readName_112 (by decide) (fun y30 c112 hf => ?_) (fun c112 hf => ?_)
    · subst c112
      refine v_new (Cn := RX3) (T := TX3) (N := 2) (ty0 := tyX3) C hf hl in_X3 tyX3_ok rfl q1232 q243 q103 dvX3 dX0_readName_121 (fun x31 h32 hf => ?_)
      refine v_dup C dX0_readName_124 rfl ?_
      refine v_callIN (stk := fun _ => [.ref x31]) C (ct_X3_init _ x31) nd_X3_init rfl (Nat.le_of_ble_eq_true rfl) (Nat.le_of_ble_eq_true rfl) [.ref x31] (Nat.le_of_ble_eq_true rfl) (fun _ => rfl) rfl rfl q1233 q245 q103 q246 hf hl dX0_readName_125 (fun x33 h34 hf => ?_)
      refine v_aload C 0 dX0_readName_128 rfl ?_
      refine v_callV (stk := fun b => .ref b :: []) C (ct_X3_take _ x31 y30) rfl ⟨rfl, nd_X3_take⟩ rfl (Nat.le_of_ble_eq_true rfl) (Nat.le_of_ble_eq_true rfl) [] (Nat.le_of_ble_eq_true rfl) (fun _ => rfl) rfl q635 q636 q637 q103 q638 hf hl dX0_readName_130 (fun x35 h36 hf => ?_)
      exact v_aretX C E hf (Or.inl ⟨_, rfl⟩) dX0_readName_133
    · refine v_aload_n C 1 dX0_readName_115 rfl rfl ?_
      refine v_iload_n C 2 dX0_readName_116 rfl rfl ?_
      refine v_callV (stk := fun b => .ref b :: []) C (ct_X0_faultAt _ a0 x2) rfl ⟨rfl, nd_X0_faultAt⟩ rfl (Nat.le_of_ble_eq_true rfl) (Nat.le_of_ble_eq_true rfl) [] (Nat.le_of_ble_eq_true rfl) (fun _ => rfl) rfl q1228 q1230 qs16 q96 q1231 hf hl dX0_readName_117 (fun x37 h38 hf => ?_)
      exact v_athrow C HT E hf dX0_readName_120
  · clear hf
    have hf := hAh29
    have hl := hlh29
    refine v_icmp_ne C hf (tgt := 104) dX0_readName_68 (by decide) (fun c68 hf => ?_) (fun c68 hf => ?_)
    · refine v_aload_n C 0 dX0_readName_104 rfl rfl ?_
      refine v_callS (stk := fun b => va_rf b :: []) C (ct_X11_named _ x24) nd_X11_named rfl (Nat.le_of_ble_eq_true rfl) (Nat.le_of_ble_eq_true rfl) [] (Nat.le_of_ble_eq_true rfl) (fun _ => rfl) rfl q520 q521 q119 q522 hf hl dX0_readName_105 (fun x39 h40 hf => ?_)
      obtain ⟨e1, rfl⟩ := mret_inv hf
      subst e1
      exact v_sub (ls' := _) [1, 2] rfl Jh29
    · refine v_aload_n C 0 dX0_readName_71 rfl rfl ?_
      refine v_iconst (x := 0) C dX0_readName_72 (by decide) ?_
      refine v_callV (stk := fun b => .int b :: []) C (ct_J5_charAt _ x24 (0 : Int32)) (show clG[20]? = some (RJ5, TJ5, 4) from rfl) ⟨rfl, nd_J5_charAt⟩ rfl (Nat.le_of_ble_eq_true rfl) (Nat.le_of_ble_eq_true rfl) [] (Nat.le_of_ble_eq_true rfl) (fun _ => rfl) rfl q1227 q1091 q2342 q107 q1093 hf hl dX0_readName_73 (fun x41 h42 hf => ?_)
      refine v_bipush (x := 97) C dX0_readName_76 (by decide) ?_
      refine v_isub C dX0_readName_78 ?_
      refine v_callS (stk := fun b => .int b :: []) C (ct_X0_isMove _ (x41 - (97 : Int32))) nd_X0_isMove rfl (Nat.le_of_ble_eq_true rfl) (Nat.le_of_ble_eq_true rfl) [] (Nat.le_of_ble_eq_true rfl) (fun _ => rfl) rfl q812 q813 q96 q814 hf hl dX0_readName_79 (fun x43 h44 hf => ?_)
      refine v_if_eq C hf (tgt := 104) dX0_readName_82 (by decide) (fun c82 hf => ?_) (fun c82 hf => ?_)
      · refine v_aload_n C 0 dX0_readName_104 rfl rfl ?_
        refine v_callS (stk := fun b => va_rf b :: []) C (ct_X11_named _ x24) nd_X11_named rfl (Nat.le_of_ble_eq_true rfl) (Nat.le_of_ble_eq_true rfl) [] (Nat.le_of_ble_eq_true rfl) (fun _ => rfl) rfl q520 q521 q119 q522 hf hl dX0_readName_105 (fun x45 h46 hf => ?_)
        obtain ⟨e1, rfl⟩ := mret_inv hf
        subst e1
        exact v_sub (ls' := _) [1, 2] rfl Jh29
      · refine v_aload_n C 1 dX0_readName_85 rfl rfl ?_
        refine v_gR (Cn := RX0) (T := TX0) (N := 16) C hf in_X0 rfl (by decide) q695 rfl dX0_readName_86 (fun x47 hf => ?_)
        refine v_gRN (Cn := RX2) (T := TX2) (N := 3) C hf in_X2 rfl (by decide) q259 rfl dX0_readName_89 (fun x48 hf => ?_)
        refine v_aload_n C 0 dX0_readName_92 rfl rfl ?_
        refine v_iconst (x := 0) C dX0_readName_93 (by decide) ?_
        refine v_callV (stk := fun b => .int b :: [.ref x48]) C (ct_J5_charAt _ x24 (0 : Int32)) (show clG[20]? = some (RJ5, TJ5, 4) from rfl) ⟨rfl, nd_J5_charAt⟩ rfl (Nat.le_of_ble_eq_true rfl) (Nat.le_of_ble_eq_true rfl) [.ref x48] (Nat.le_of_ble_eq_true rfl) (fun _ => rfl) rfl q1227 q1091 q2342 q107 q1093 hf hl dX0_readName_94 (fun x49 h50 hf => ?_)
        refine v_bipush (x := 97) C dX0_readName_97 (by decide) ?_
        refine v_isub C dX0_readName_99 ?_
        refine v_aaload C hf (by decide) rfl dX0_readName_100 (fun x51 hf => ?_)
        refine v_goto (tgt := 108) C dX0_readName_101 (by decide) ?_
        obtain ⟨e1, rfl⟩ := mret_inv hf
        subst e1
        exact v_sub (ls' := _) [1, 2] rfl Jh29
def l_X0_readRing_35 (a0 : Nat) (a1 : Nat) (i2 : Int32) : Nat → Int32 → Int32 → hM ((Int32) ⊕ (Nat ⊕ Nat))
  | 0, _, _ => mfail
  | n + 1, i3, i4 => mb (gR a0 0 4) fun x13 => mb (mat x13 4 (f_X18_isSign x13 (44 : Int32))) fun x14 => mi (x14 = 0) (mret (Sum.inl i3)) (mbT (fun q => Sum.inr (Sum.inr q)) (mat a0 0 (f_X0_readNumber a0 (23 : Int32) i4)) fun x16 => mb (gR a1 3 0) fun x18 => mb (sI 0 x18 i3 x16.toInt8.toInt32) fun _ => l_X0_readRing_35 a0 a1 i2 n x16 (i4 ||| ((1 : Int32) <<< (x16 &&& 31))))
def f_X0_readRing (a0 : Nat) : hM (Nat ⊕ Nat) :=
  mb (newO 3 2 [.null, .null]) fun x1 => mb (f_X3_init x1) fun _ => mb (newO 7 0 []) fun x5 => mb (f_X7_init x5) fun _ => mb (mat x1 3 (f_X3_take x1 x5)) fun x9 => mbT Sum.inr (mat a0 0 (f_X0_readNumber a0 (23 : Int32) (0 : Int32))) fun x11 => mbs (l_X0_readRing_35 a0 x1 x11 FU x11 ((1 : Int32) <<< (x11 &&& 31))) (fun x20 => mb (gR x1 3 0) fun x22 => mb (sI 0 x22 x20 x11.toInt8.toInt32) fun _ => mb (mat x1 3 (f_X3_turnBack x1)) fun _ => mbT Sum.inr (mat a0 0 (f_X0_need a0 (41 : Int32))) fun _ => mret (Sum.inl x1)) id
set_option maxHeartbeats 4000000 in
theorem ct_X0_readRing (l : Launch) (a0 : Nat) : CTX l yX0_readRing cX0_readRing 6 (some (.object "EightBlocks$Move")) 8 170 rvR [.ref a0] (f_X0_readRing a0) := by
  refine CTX_of (ls := [(0, .ref a0)]) (by decide) (Nat.le_of_ble_eq_true rfl) rfl ?_
  intro X h he z hX hf C HT E hnm hh
  have hl := hle.rf he
  subst hX
  have L35 : ∀ (a0 : Nat) (a1 : Nat) (i2 : Int32) (n : Nat) (i3 : Int32) (i4 : Int32) (h h1 : Hp) (o : (Int32) ⊕ (Nat ⊕ Nat)), (l_X0_readRing_35 a0 a1 i2 n i3 i4).1 h = some (o, h1) → hle h1 he → (∀ b, o = Sum.inl b → V X h1 81 [(0, .ref a0), (1, .ref a1), (2, .int i2), (3, .int b)] []) → (∀ c, o = Sum.inr c → (mret c).1 h1 = some (z, he)) → V X h 35 [(0, .ref a0), (1, .ref a1), (2, .int i2), (3, .int i3), (4, .int i4)] [] := by
    intro a0 a1 i2 n
    induction n with
    | zero => intro i3 i4 h h1 o hf; exact mfail_inv hf
    | succ n ih =>
      intro i3 i4 h h1 o hf hl J hret
      rw [l_X0_readRing_35] at hf
      refine v_aload_n C 0 dX0_readRing_35 rfl rfl ?_
      refine v_gR (Cn := RX0) (T := TX0) (N := 16) C hf in_X0 rfl (by decide) q696 rfl dX0_readRing_36 (fun x13 hf => ?_)
      refine v_bipush (x := 44) C dX0_readRing_39 (by decide) ?_
      refine v_callD (x := ({ cls := "EightBlocks$Tape", name := "isSign", desc := "(I)Z" } : Jvm.MethodName)) (stk := fun b => .int b :: []) C (ct_X18_isSign _ x13 (44 : Int32)) rfl nd_X18_isSign rfl (Nat.le_of_ble_eq_true rfl) (Nat.le_of_ble_eq_true rfl) [] (Nat.le_of_ble_eq_true rfl) (fun _ => rfl) rfl nw_25 nw_26 nw_27 q1234 q1236 q130 q1238 hf hl dX0_readRing_41 (fun x14 h15 hf => ?_)
      refine v_if_eq C hf (tgt := 81) dX0_readRing_44 (by decide) (fun c44 hf => ?_) (fun c44 hf => ?_)
      · obtain ⟨e1, rfl⟩ := mret_inv hf
        subst e1
        exact v_sub (ls' := _) [0, 1, 2, 3] rfl (J _ rfl)
      · refine v_aload_n C 0 dX0_readRing_47 rfl rfl ?_
        refine v_bipush (x := 23) C dX0_readRing_48 (by decide) ?_
        refine v_iload C 4 dX0_readRing_50 rfl ?_
        refine v_callVX (stk := fun b => .int b :: []) C HT E (ct_X0_readNumber _ a0 (23 : Int32) i4) rfl ⟨rfl, nd_X0_readNumber⟩ rfl (Nat.le_of_ble_eq_true rfl) (Nat.le_of_ble_eq_true rfl) [] (Nat.le_of_ble_eq_true rfl) (fun _ => rfl) rfl q1248 q1250 qs18 q96 q1251 hf hl (fun _ _ hf => mret_up hf hret) dX0_readRing_52 (fun x16 h17 hf => ?_)
        refine v_istore (ls' := [(5, _), (0, _), (1, _), (2, _), (3, _), (4, _)]) C dX0_readRing_55 (by decide) rfl ?_
        refine v_iload C 5 dX0_readRing_57 rfl ?_
        refine v_iconst (x := 1) C dX0_readRing_59 (by decide) ?_
        refine v_iload C 0 dX0_readRing_60 rfl ?_
        refine v_ishl C dX0_readRing_62 ?_
        refine v_ior C dX0_readRing_63 ?_
        refine v_istore (ls' := [(4, _), (5, _), (0, _), (1, _), (2, _), (3, _)]) C dX0_readRing_64 (by decide) rfl ?_
        refine v_aload_n C 3 dX0_readRing_66 rfl rfl ?_
        refine v_gRN (Cn := RX3) (T := TX3) (N := 2) C hf in_X3 rfl (by decide) q249 rfl dX0_readRing_67 (fun x18 hf => ?_)
        refine v_iload_n C 5 dX0_readRing_70 rfl rfl ?_
        refine v_iload C 1 dX0_readRing_71 rfl ?_
        refine v_i2b C dX0_readRing_73 ?_
        refine v_bastore C hf dX0_readRing_74 (fun h19 hf => ?_)
        refine v_iload C 1 dX0_readRing_75 rfl ?_
        refine v_istore_n (ls' := [(3, _), (4, _), (5, _), (0, _), (1, _), (2, _)]) C dX0_readRing_77 rfl (by decide) rfl ?_
        refine v_goto (tgt := 35) C dX0_readRing_78 (by decide) ?_
        refine v_sub (ls' := _) [3, 4, 5, 0, 1] rfl (ih x16 (i4 ||| ((1 : Int32) <<< (x16 &&& 31))) _ _ _ hf hl J hret)
  unfold f_X0_readRing at hf
  refine v_new (Cn := RX3) (T := TX3) (N := 2) (ty0 := tyX3) C hf hl in_X3 tyX3_ok rfl q1232 q243 q103 dvX3 dX0_readRing_0 (fun x1 h2 hf => ?_)
  refine v_dup C dX0_readRing_3 rfl ?_
  refine v_callIN (stk := fun _ => [.ref x1]) C (ct_X3_init _ x1) nd_X3_init rfl (Nat.le_of_ble_eq_true rfl) (Nat.le_of_ble_eq_true rfl) [.ref x1] (Nat.le_of_ble_eq_true rfl) (fun _ => rfl) rfl rfl q1233 q245 q103 q246 hf hl dX0_readRing_4 (fun x3 h4 hf => ?_)
  refine v_astore_n (ls' := [(1, _), (0, _)]) C dX0_readRing_7 rfl (by decide) rfl ?_
  refine v_aload_n C 0 dX0_readRing_8 rfl rfl ?_
  refine v_new (Cn := RX7) (T := T0G) (N := 0) (ty0 := fun _ => .int) C hf hl (by intro w hw; cases hw) (fun k hk => absurd hk (Nat.not_lt_zero k)) rfl q1246 q433 q115 (fun k hk => absurd hk (Nat.not_lt_zero k)) dX0_readRing_9 (fun x5 h6 hf => ?_)
  refine v_dup C dX0_readRing_12 rfl ?_
  refine v_callIN (stk := fun _ => [.ref x5, .ref x1]) C (ct_X7_init _ x5) nd_X7_init rfl (Nat.le_of_ble_eq_true rfl) (Nat.le_of_ble_eq_true rfl) [.ref x5, .ref x1] (Nat.le_of_ble_eq_true rfl) (fun _ => rfl) rfl rfl q1247 q435 q115 q436 hf hl dX0_readRing_13 (fun x7 h8 hf => ?_)
  refine v_callV (stk := fun b => .ref b :: []) C (ct_X3_take _ x1 x5) rfl ⟨rfl, nd_X3_take⟩ rfl (Nat.le_of_ble_eq_true rfl) (Nat.le_of_ble_eq_true rfl) [] (Nat.le_of_ble_eq_true rfl) (fun _ => rfl) rfl q635 q636 q637 q103 q638 hf hl dX0_readRing_16 (fun x9 h10 hf => ?_)
  refine v_pop C dX0_readRing_19 rfl ?_
  refine v_aload_n C 1 dX0_readRing_20 rfl rfl ?_
  refine v_bipush (x := 23) C dX0_readRing_21 (by decide) ?_
  refine v_iconst (x := 0) C dX0_readRing_23 (by decide) ?_
  refine v_callVX (stk := fun b => .int b :: []) C HT E (ct_X0_readNumber _ a0 (23 : Int32) (0 : Int32)) rfl ⟨rfl, nd_X0_readNumber⟩ rfl (Nat.le_of_ble_eq_true rfl) (Nat.le_of_ble_eq_true rfl) [] (Nat.le_of_ble_eq_true rfl) (fun _ => rfl) rfl q1248 q1250 qs18 q96 q1251 hf hl (fun _ _ hf => hf) dX0_readRing_24 (fun x11 h12 hf => ?_)
  refine v_istore_n (ls' := [(2, _), (1, _), (0, _)]) C dX0_readRing_27 rfl (by decide) rfl ?_
  refine v_iload_n C 0 dX0_readRing_28 rfl rfl ?_
  refine v_istore_n (ls' := [(3, _), (2, _), (1, _), (0, _)]) C dX0_readRing_29 rfl (by decide) rfl ?_
  refine v_iconst (x := 1) C dX0_readRing_30 (by decide) ?_
  refine v_iload_n C 1 dX0_readRing_31 rfl rfl ?_
  refine v_ishl C dX0_readRing_32 ?_
  refine v_istore (ls' := [(4, _), (3, _), (2, _), (1, _), (0, _)]) C dX0_readRing_33 (by decide) rfl ?_
  obtain ⟨ox20, h21, eh21, hlh21, hkh21, hrh21⟩ := mbs_inv hf hl
  refine v_sub (ls' := _) [4, 3, 2, 1, 0] rfl (L35 a0 x1 x11 FU x11 ((1 : Int32) <<< (x11 &&& 31)) _ _ _ eh21 hlh21 (fun x20 eo => ?_) hrh21)
  have hf := hkh21 x20 eo
  clear hkh21 hrh21
  refine v_aload_n C 1 dX0_readRing_81 rfl rfl ?_
  refine v_gRN (Cn := RX3) (T := TX3) (N := 2) C hf in_X3 rfl (by decide) q249 rfl dX0_readRing_82 (fun x22 hf => ?_)
  refine v_iload_n C 3 dX0_readRing_85 rfl rfl ?_
  refine v_iload_n C 2 dX0_readRing_86 rfl rfl ?_
  refine v_i2b C dX0_readRing_87 ?_
  refine v_bastore C hf dX0_readRing_88 (fun h23 hf => ?_)
  refine v_aload_n C 1 dX0_readRing_89 rfl rfl ?_
  refine v_callVN (stk := fun _ => []) C (ct_X3_turnBack _ x1) rfl ⟨rfl, nd_X3_turnBack⟩ rfl (Nat.le_of_ble_eq_true rfl) (Nat.le_of_ble_eq_true rfl) [] (Nat.le_of_ble_eq_true rfl) (fun _ => rfl) rfl q1260 q690 qs6 q103 q691 hf hl dX0_readRing_90 (fun x24 h25 hf => ?_)
  refine v_aload_n C 0 dX0_readRing_93 rfl rfl ?_
  refine v_bipush (x := 41) C dX0_readRing_94 (by decide) ?_
  refine v_callVX (stk := fun _ => []) C HT E (ct_X0_need _ a0 (41 : Int32)) rfl ⟨rfl, nd_X0_need⟩ rfl (Nat.le_of_ble_eq_true rfl) (Nat.le_of_ble_eq_true rfl) [] (Nat.le_of_ble_eq_true rfl) (fun _ => rfl) rfl q1261 q1263 qs19 q96 q1264 hf hl (fun _ _ hf => hf) dX0_readRing_96 (fun x26 h27 hf => ?_)
  refine v_aload_n C 1 dX0_readRing_99 rfl rfl ?_
  exact v_aretX C E hf (Or.inl ⟨_, rfl⟩) dX0_readRing_100
def f_X0_readFactor (rm : Nat → Int32 → hM (Nat ⊕ Nat)) (a0 : Nat) (i1 : Int32) : hM (Nat ⊕ Nat) :=
  mb (gR a0 0 4) fun x1 => mb (mat x1 4 (f_X18_next x1)) fun x2 => mb (gR a0 0 4) fun x4 => mb (mat x4 4 (f_X18_isName x4)) fun x5 => mi (x5 = 0) (mb (gR a0 0 4) fun x7 => mb (mat x7 4 (f_X18_isSign x7 (40 : Int32))) fun x8 => mi (x8 = 0) (mi ((6 : Int32) ≤ i1) (mb (mat a0 0 (f_X0_faultyNext a0)) fun x10 => mth x10) (mb (gR a0 0 4) fun x12 => mb (mat x12 4 (f_X18_isSign x12 (91 : Int32))) fun x13 => mi (x13 = 0) (mb (mat a0 0 (f_X0_faultyNext a0)) fun x15 => mth x15) (mbT Sum.inr (mat a0 0 (rm a0 (i1 + (1 : Int32)))) fun x17 => mbT Sum.inr (mat a0 0 (f_X0_need a0 (93 : Int32))) fun _ => mb (gR a0 0 4) fun x21 => mb (mat x21 4 (f_X18_isSign x21 (94 : Int32))) fun x22 => mi (x22 = 0) (mret (Sum.inl x17)) (mb (gR a0 0 4) fun x24 => mb (mat x24 4 (f_X18_isSign x24 (45 : Int32))) fun x25 => mbT Sum.inr (mat a0 0 (f_X0_readNumber a0 (99 : Int32) (0 : Int32))) fun x27 => mb (mat x17 3 (f_X3_power x17 x27 x25)) fun x29 => mret (Sum.inl x29))))) (mbT Sum.inr (mat a0 0 (f_X0_readRing a0)) fun x31 => mb (gR a0 0 4) fun x33 => mb (mat x33 4 (f_X18_isSign x33 (94 : Int32))) fun x34 => mi (x34 = 0) (mret (Sum.inl x31)) (mb (gR a0 0 4) fun x36 => mb (mat x36 4 (f_X18_isSign x36 (45 : Int32))) fun x37 => mbT Sum.inr (mat a0 0 (f_X0_readNumber a0 (99 : Int32) (0 : Int32))) fun x39 => mb (mat x31 3 (f_X3_power x31 x39 x37)) fun x41 => mret (Sum.inl x41)))) (mbT Sum.inr (mat a0 0 (f_X0_readName a0)) fun x43 => mb (gR a0 0 4) fun x45 => mb (mat x45 4 (f_X18_isSign x45 (94 : Int32))) fun x46 => mi (x46 = 0) (mret (Sum.inl x43)) (mb (gR a0 0 4) fun x48 => mb (mat x48 4 (f_X18_isSign x48 (45 : Int32))) fun x49 => mbT Sum.inr (mat a0 0 (f_X0_readNumber a0 (99 : Int32) (0 : Int32))) fun x51 => mb (mat x43 3 (f_X3_power x43 x51 x49)) fun x53 => mret (Sum.inl x53)))
set_option maxHeartbeats 4000000 in
theorem ct_X0_readFactor (l : Launch) (F2 L2 : Nat) (rm : Nat → Int32 → hM (Nat ⊕ Nat)) (hrm : ∀ (a : Nat) (i : Int32), CTX l yX0_readMove cX0_readMove 3 (some (.object "EightBlocks$Move")) F2 L2 rvR [.ref a, .int i] (rm a i)) (a0 : Nat) (i1 : Int32) : CTX l yX0_readFactor cX0_readFactor 4 (some (.object "EightBlocks$Move")) (max 9 (F2 + 1)) (max 195 (8 + (3 + 11) + L2)) rvR [.ref a0, .int i1] (f_X0_readFactor rm a0 i1) := by
  refine CTX_of (ls := [(0, .ref a0), (1, .int i1)]) (by decide) (by first | exact Nat.le_of_ble_eq_true rfl | omega) rfl ?_
  intro X h he z hX hf C HT E hnm hh
  have hl := hle.rf he
  subst hX
  unfold f_X0_readFactor at hf
  refine v_aload_n C 0 dX0_readFactor_0 rfl rfl ?_
  refine v_gR (Cn := RX0) (T := TX0) (N := 16) C hf in_X0 rfl (by decide) q696 rfl dX0_readFactor_1 (fun x1 hf => ?_)
  refine v_callD (x := ({ cls := "EightBlocks$Tape", name := "next", desc := "()I" } : Jvm.MethodName)) (stk := fun b => .int b :: []) C (ct_X18_next _ x1) rfl nd_X18_next rfl (by first | exact Nat.le_of_ble_eq_true rfl | omega) (by first | exact Nat.le_of_ble_eq_true rfl | omega) [] (by first | exact Nat.le_of_ble_eq_true rfl | omega) (fun _ => rfl) rfl nw_22 nw_23 nw_24 q1162 q1164 q130 q1166 hf hl dX0_readFactor_4 (fun x2 h3 hf => ?_)
  refine v_pop C dX0_readFactor_7 rfl ?_
  refine v_aload_n C 0 dX0_readFactor_8 rfl rfl ?_
  refine v_gR (Cn := RX0) (T := TX0) (N := 16) C hf in_X0 rfl (by decide) q696 rfl dX0_readFactor_9 (fun x4 hf => ?_)
  refine v_callD (x := ({ cls := "EightBlocks$Tape", name := "isName", desc := "()Z" } : Jvm.MethodName)) (stk := fun b => .int b :: []) C (ct_X18_isName _ x4) rfl nd_X18_isName rfl (by first | exact Nat.le_of_ble_eq_true rfl | omega) (by first | exact Nat.le_of_ble_eq_true rfl | omega) [] (by first | exact Nat.le_of_ble_eq_true rfl | omega) (fun _ => rfl) rfl nw_15 nw_16 nw_17 q1210 q1212 q130 q1214 hf hl dX0_readFactor_12 (fun x5 h6 hf => ?_)
  refine v_if_eq C hf (tgt := 26) dX0_readFactor_15 (by decide) (fun c15 hf => ?_) (fun c15 hf => ?_)
  · refine v_aload_n C 0 dX0_readFactor_26 rfl rfl ?_
    refine v_gR (Cn := RX0) (T := TX0) (N := 16) C hf in_X0 rfl (by decide) q696 rfl dX0_readFactor_27 (fun x7 hf => ?_)
    refine v_bipush (x := 40) C dX0_readFactor_30 (by decide) ?_
    refine v_callD (x := ({ cls := "EightBlocks$Tape", name := "isSign", desc := "(I)Z" } : Jvm.MethodName)) (stk := fun b => .int b :: []) C (ct_X18_isSign _ x7 (40 : Int32)) rfl nd_X18_isSign rfl (by first | exact Nat.le_of_ble_eq_true rfl | omega) (by first | exact Nat.le_of_ble_eq_true rfl | omega) [] (by first | exact Nat.le_of_ble_eq_true rfl | omega) (fun _ => rfl) rfl nw_25 nw_26 nw_27 q1234 q1236 q130 q1238 hf hl dX0_readFactor_32 (fun x8 h9 hf => ?_)
    refine v_if_eq C hf (tgt := 46) dX0_readFactor_35 (by decide) (fun c35 hf => ?_) (fun c35 hf => ?_)
    · refine v_iload_n C 1 dX0_readFactor_46 rfl rfl ?_
      refine v_bipush (x := 6) C dX0_readFactor_47 (by decide) ?_
      refine v_icmp_ge C hf (tgt := 81) dX0_readFactor_49 (by decide) (fun c49 hf => ?_) (fun c49 hf => ?_)
      · refine v_aload_n C 0 dX0_readFactor_81 rfl rfl ?_
        refine v_callV (stk := fun b => .ref b :: []) C (ct_X0_faultyNext _ a0) rfl ⟨rfl, nd_X0_faultyNext⟩ rfl (by first | exact Nat.le_of_ble_eq_true rfl | omega) (by first | exact Nat.le_of_ble_eq_true rfl | omega) [] (by first | exact Nat.le_of_ble_eq_true rfl | omega) (fun _ => rfl) rfl q1265 q1267 qs20 q96 q1268 hf hl dX0_readFactor_82 (fun x10 h11 hf => ?_)
        exact v_athrow C HT E hf dX0_readFactor_85
      · refine v_aload_n C 0 dX0_readFactor_52 rfl rfl ?_
        refine v_gR (Cn := RX0) (T := TX0) (N := 16) C hf in_X0 rfl (by decide) q696 rfl dX0_readFactor_53 (fun x12 hf => ?_)
        refine v_bipush (x := 91) C dX0_readFactor_56 (by decide) ?_
        refine v_callD (x := ({ cls := "EightBlocks$Tape", name := "isSign", desc := "(I)Z" } : Jvm.MethodName)) (stk := fun b => .int b :: []) C (ct_X18_isSign _ x12 (91 : Int32)) rfl nd_X18_isSign rfl (by first | exact Nat.le_of_ble_eq_true rfl | omega) (by first | exact Nat.le_of_ble_eq_true rfl | omega) [] (by first | exact Nat.le_of_ble_eq_true rfl | omega) (fun _ => rfl) rfl nw_25 nw_26 nw_27 q1234 q1236 q130 q1238 hf hl dX0_readFactor_58 (fun x13 h14 hf => ?_)
        refine v_if_eq C hf (tgt := 81) dX0_readFactor_61 (by decide) (fun c61 hf => ?_) (fun c61 hf => ?_)
        · refine v_aload_n C 0 dX0_readFactor_81 rfl rfl ?_
          refine v_callV (stk := fun b => .ref b :: []) C (ct_X0_faultyNext _ a0) rfl ⟨rfl, nd_X0_faultyNext⟩ rfl (by first | exact Nat.le_of_ble_eq_true rfl | omega) (by first | exact Nat.le_of_ble_eq_true rfl | omega) [] (by first | exact Nat.le_of_ble_eq_true rfl | omega) (fun _ => rfl) rfl q1265 q1267 qs20 q96 q1268 hf hl dX0_readFactor_82 (fun x15 h16 hf => ?_)
          exact v_athrow C HT E hf dX0_readFactor_85
        · refine v_aload_n C 0 dX0_readFactor_64 rfl rfl ?_
          refine v_iload_n C 1 dX0_readFactor_65 rfl rfl ?_
          refine v_iconst (x := 1) C dX0_readFactor_66 (by decide) ?_
          refine v_iadd C dX0_readFactor_67 ?_
          refine v_callVX (stk := fun b => .ref b :: []) C HT E (hrm a0 (i1 + (1 : Int32))) rfl ⟨rfl, nd_X0_readMove⟩ rfl (by first | exact Nat.le_of_ble_eq_true rfl | omega) (by first | exact Nat.le_of_ble_eq_true rfl | omega) [] (by first | exact Nat.le_of_ble_eq_true rfl | omega) (fun _ => rfl) rfl q1154 q1156 qs13 q96 q1157 hf hl (fun _ _ hf => hf) dX0_readFactor_68 (fun x17 h18 hf => ?_)
          refine v_astore_n (ls' := [(2, _), (0, _), (1, _)]) C dX0_readFactor_71 rfl (by decide) rfl ?_
          refine v_aload_n C 1 dX0_readFactor_72 rfl rfl ?_
          refine v_bipush (x := 93) C dX0_readFactor_73 (by decide) ?_
          refine v_callVX (stk := fun _ => []) C HT E (ct_X0_need _ a0 (93 : Int32)) rfl ⟨rfl, nd_X0_need⟩ rfl (by first | exact Nat.le_of_ble_eq_true rfl | omega) (by first | exact Nat.le_of_ble_eq_true rfl | omega) [] (by first | exact Nat.le_of_ble_eq_true rfl | omega) (fun _ => rfl) rfl q1261 q1263 qs19 q96 q1264 hf hl (fun _ _ hf => hf) dX0_readFactor_75 (fun x19 h20 hf => ?_)
          refine v_goto (tgt := 86) C dX0_readFactor_78 (by decide) ?_
          refine v_aload_n C 1 dX0_readFactor_86 rfl rfl ?_
          refine v_gR (Cn := RX0) (T := TX0) (N := 16) C hf in_X0 rfl (by decide) q696 rfl dX0_readFactor_87 (fun x21 hf => ?_)
          refine v_bipush (x := 94) C dX0_readFactor_90 (by decide) ?_
          refine v_callD (x := ({ cls := "EightBlocks$Tape", name := "isSign", desc := "(I)Z" } : Jvm.MethodName)) (stk := fun b => .int b :: []) C (ct_X18_isSign _ x21 (94 : Int32)) rfl nd_X18_isSign rfl (by first | exact Nat.le_of_ble_eq_true rfl | omega) (by first | exact Nat.le_of_ble_eq_true rfl | omega) [] (by first | exact Nat.le_of_ble_eq_true rfl | omega) (fun _ => rfl) rfl nw_25 nw_26 nw_27 q1234 q1236 q130 q1238 hf hl dX0_readFactor_92 (fun x22 h23 hf => ?_)
          refine v_if_eq C hf (tgt := 121) dX0_readFactor_95 (by decide) (fun c95 hf => ?_) (fun c95 hf => ?_)
          · refine v_aload_n C 0 dX0_readFactor_121 rfl rfl ?_
            exact v_aretX C E hf (Or.inl ⟨_, rfl⟩) dX0_readFactor_122
          · refine v_aload_n C 1 dX0_readFactor_98 rfl rfl ?_
            refine v_gR (Cn := RX0) (T := TX0) (N := 16) C hf in_X0 rfl (by decide) q696 rfl dX0_readFactor_99 (fun x24 hf => ?_)
            refine v_bipush (x := 45) C dX0_readFactor_102 (by decide) ?_
            refine v_callD (x := ({ cls := "EightBlocks$Tape", name := "isSign", desc := "(I)Z" } : Jvm.MethodName)) (stk := fun b => .int b :: []) C (ct_X18_isSign _ x24 (45 : Int32)) rfl nd_X18_isSign rfl (by first | exact Nat.le_of_ble_eq_true rfl | omega) (by first | exact Nat.le_of_ble_eq_true rfl | omega) [] (by first | exact Nat.le_of_ble_eq_true rfl | omega) (fun _ => rfl) rfl nw_25 nw_26 nw_27 q1234 q1236 q130 q1238 hf hl dX0_readFactor_104 (fun x25 h26 hf => ?_)
            refine v_istore_n (ls' := [(3, _), (2, _), (0, _), (1, _)]) C dX0_readFactor_107 rfl (by decide) rfl ?_
            refine v_aload_n C 1 dX0_readFactor_108 rfl rfl ?_
            refine v_aload_n C 2 dX0_readFactor_109 rfl rfl ?_
            refine v_bipush (x := 99) C dX0_readFactor_110 (by decide) ?_
            refine v_iconst (x := 0) C dX0_readFactor_112 (by decide) ?_
            refine v_callVX (stk := fun b => .int b :: [.ref x17]) C HT E (ct_X0_readNumber _ a0 (99 : Int32) (0 : Int32)) rfl ⟨rfl, nd_X0_readNumber⟩ rfl (by first | exact Nat.le_of_ble_eq_true rfl | omega) (by first | exact Nat.le_of_ble_eq_true rfl | omega) [.ref x17] (by first | exact Nat.le_of_ble_eq_true rfl | omega) (fun _ => rfl) rfl q1248 q1250 qs18 q96 q1251 hf hl (fun _ _ hf => hf) dX0_readFactor_113 (fun x27 h28 hf => ?_)
            refine v_iload_n C 0 dX0_readFactor_116 rfl rfl ?_
            refine v_callV (stk := fun b => .ref b :: []) C (ct_X3_power _ x17 x27 x25) rfl ⟨rfl, nd_X3_power⟩ rfl (by first | exact Nat.le_of_ble_eq_true rfl | omega) (by first | exact Nat.le_of_ble_eq_true rfl | omega) [] (by first | exact Nat.le_of_ble_eq_true rfl | omega) (fun _ => rfl) rfl q1269 q1270 q1271 q103 q1272 hf hl dX0_readFactor_117 (fun x29 h30 hf => ?_)
            refine v_astore_n (ls' := [(2, _), (3, _), (0, _), (1, _)]) C dX0_readFactor_120 rfl (by decide) rfl ?_
            refine v_aload_n C 0 dX0_readFactor_121 rfl rfl ?_
            exact v_aretX C E hf (Or.inl ⟨_, rfl⟩) dX0_readFactor_122
    · refine v_aload_n C 0 dX0_readFactor_38 rfl rfl ?_
      refine v_callVX (stk := fun b => .ref b :: []) C HT E (ct_X0_readRing _ a0) rfl ⟨rfl, nd_X0_readRing⟩ rfl (by first | exact Nat.le_of_ble_eq_true rfl | omega) (by first | exact Nat.le_of_ble_eq_true rfl | omega) [] (by first | exact Nat.le_of_ble_eq_true rfl | omega) (fun _ => rfl) rfl q1242 q1244 qs17 q96 q1245 hf hl (fun _ _ hf => hf) dX0_readFactor_39 (fun x31 h32 hf => ?_)
      refine v_astore_n (ls' := [(2, _), (0, _), (1, _)]) C dX0_readFactor_42 rfl (by decide) rfl ?_
      refine v_goto (tgt := 86) C dX0_readFactor_43 (by decide) ?_
      refine v_aload_n C 1 dX0_readFactor_86 rfl rfl ?_
      refine v_gR (Cn := RX0) (T := TX0) (N := 16) C hf in_X0 rfl (by decide) q696 rfl dX0_readFactor_87 (fun x33 hf => ?_)
      refine v_bipush (x := 94) C dX0_readFactor_90 (by decide) ?_
      refine v_callD (x := ({ cls := "EightBlocks$Tape", name := "isSign", desc := "(I)Z" } : Jvm.MethodName)) (stk := fun b => .int b :: []) C (ct_X18_isSign _ x33 (94 : Int32)) rfl nd_X18_isSign rfl (by first | exact Nat.le_of_ble_eq_true rfl | omega) (by first | exact Nat.le_of_ble_eq_true rfl | omega) [] (by first | exact Nat.le_of_ble_eq_true rfl | omega) (fun _ => rfl) rfl nw_25 nw_26 nw_27 q1234 q1236 q130 q1238 hf hl dX0_readFactor_92 (fun x34 h35 hf => ?_)
      refine v_if_eq C hf (tgt := 121) dX0_readFactor_95 (by decide) (fun c95 hf => ?_) (fun c95 hf => ?_)
      · refine v_aload_n C 0 dX0_readFactor_121 rfl rfl ?_
        exact v_aretX C E hf (Or.inl ⟨_, rfl⟩) dX0_readFactor_122
      · refine v_aload_n C 1 dX0_readFactor_98 rfl rfl ?_
        refine v_gR (Cn := RX0) (T := TX0) (N := 16) C hf in_X0 rfl (by decide) q696 rfl dX0_readFactor_99 (fun x36 hf => ?_)
        refine v_bipush (x := 45) C dX0_readFactor_102 (by decide) ?_
        refine v_callD (x := ({ cls := "EightBlocks$Tape", name := "isSign", desc := "(I)Z" } : Jvm.MethodName)) (stk := fun b => .int b :: []) C (ct_X18_isSign _ x36 (45 : Int32)) rfl nd_X18_isSign rfl (by first | exact Nat.le_of_ble_eq_true rfl | omega) (by first | exact Nat.le_of_ble_eq_true rfl | omega) [] (by first | exact Nat.le_of_ble_eq_true rfl | omega) (fun _ => rfl) rfl nw_25 nw_26 nw_27 q1234 q1236 q130 q1238 hf hl dX0_readFactor_104 (fun x37 h38 hf => ?_)
        refine v_istore_n (ls' := [(3, _), (2, _), (0, _), (1, _)]) C dX0_readFactor_107 rfl (by decide) rfl ?_
        refine v_aload_n C 1 dX0_readFactor_108 rfl rfl ?_
        refine v_aload_n C 2 dX0_readFactor_109 rfl rfl ?_
        refine v_bipush (x := 99) C dX0_readFactor_110 (by decide) ?_
        refine v_iconst (x := 0) C dX0_readFactor_112 (by decide) ?_
        refine v_callVX (stk := fun b => .int b :: [.ref x31]) C HT E (ct_X0_readNumber _ a0 (99 : Int32) (0 : Int32)) rfl ⟨rfl, nd_X0_readNumber⟩ rfl (by first | exact Nat.le_of_ble_eq_true rfl | omega) (by first | exact Nat.le_of_ble_eq_true rfl | omega) [.ref x31] (by first | exact Nat.le_of_ble_eq_true rfl | omega) (fun _ => rfl) rfl q1248 q1250 qs18 q96 q1251 hf hl (fun _ _ hf => hf) dX0_readFactor_113 (fun x39 h40 hf => ?_)
        refine v_iload_n C 0 dX0_readFactor_116 rfl rfl ?_
        refine v_callV (stk := fun b => .ref b :: []) C (ct_X3_power _ x31 x39 x37) rfl ⟨rfl, nd_X3_power⟩ rfl (by first | exact Nat.le_of_ble_eq_true rfl | omega) (by first | exact Nat.le_of_ble_eq_true rfl | omega) [] (by first | exact Nat.le_of_ble_eq_true rfl | omega) (fun _ => rfl) rfl q1269 q1270 q1271 q103 q1272 hf hl dX0_readFactor_117 (fun x41 h42 hf => ?_)
        refine v_astore_n (ls' := [(2, _), (3, _), (0, _), (1, _)]) C dX0_readFactor_120 rfl (by decide) rfl ?_
        refine v_aload_n C 0 dX0_readFactor_121 rfl rfl ?_
        exact v_aretX C E hf (Or.inl ⟨_, rfl⟩) dX0_readFactor_122
  · refine v_aload_n C 0 dX0_readFactor_18 rfl rfl ?_
    refine v_callVX (stk := fun b => .ref b :: []) C HT E (ct_X0_readName _ a0) rfl ⟨rfl, nd_X0_readName⟩ rfl (by first | exact Nat.le_of_ble_eq_true rfl | omega) (by first | exact Nat.le_of_ble_eq_true rfl | omega) [] (by first | exact Nat.le_of_ble_eq_true rfl | omega) (fun _ => rfl) rfl q1218 q1220 qs15 q96 q1221 hf hl (fun _ _ hf => hf) dX0_readFactor_19 (fun x43 h44 hf => ?_)
    refine v_astore_n (ls' := [(2, _), (0, _), (1, _)]) C dX0_readFactor_22 rfl (by decide) rfl ?_
    refine v_goto (tgt := 86) C dX0_readFactor_23 (by decide) ?_
    refine v_aload_n C 1 dX0_readFactor_86 rfl rfl ?_
    refine v_gR (Cn := RX0) (T := TX0) (N := 16) C hf in_X0 rfl (by decide) q696 rfl dX0_readFactor_87 (fun x45 hf => ?_)
    refine v_bipush (x := 94) C dX0_readFactor_90 (by decide) ?_
    refine v_callD (x := ({ cls := "EightBlocks$Tape", name := "isSign", desc := "(I)Z" } : Jvm.MethodName)) (stk := fun b => .int b :: []) C (ct_X18_isSign _ x45 (94 : Int32)) rfl nd_X18_isSign rfl (by first | exact Nat.le_of_ble_eq_true rfl | omega) (by first | exact Nat.le_of_ble_eq_true rfl | omega) [] (by first | exact Nat.le_of_ble_eq_true rfl | omega) (fun _ => rfl) rfl nw_25 nw_26 nw_27 q1234 q1236 q130 q1238 hf hl dX0_readFactor_92 (fun x46 h47 hf => ?_)
    refine v_if_eq C hf (tgt := 121) dX0_readFactor_95 (by decide) (fun c95 hf => ?_) (fun c95 hf => ?_)
    · refine v_aload_n C 0 dX0_readFactor_121 rfl rfl ?_
      exact v_aretX C E hf (Or.inl ⟨_, rfl⟩) dX0_readFactor_122
    · refine v_aload_n C 1 dX0_readFactor_98 rfl rfl ?_
      refine v_gR (Cn := RX0) (T := TX0) (N := 16) C hf in_X0 rfl (by decide) q696 rfl dX0_readFactor_99 (fun x48 hf => ?_)
      refine v_bipush (x := 45) C dX0_readFactor_102 (by decide) ?_
      refine v_callD (x := ({ cls := "EightBlocks$Tape", name := "isSign", desc := "(I)Z" } : Jvm.MethodName)) (stk := fun b => .int b :: []) C (ct_X18_isSign _ x48 (45 : Int32)) rfl nd_X18_isSign rfl (by first | exact Nat.le_of_ble_eq_true rfl | omega) (by first | exact Nat.le_of_ble_eq_true rfl | omega) [] (by first | exact Nat.le_of_ble_eq_true rfl | omega) (fun _ => rfl) rfl nw_25 nw_26 nw_27 q1234 q1236 q130 q1238 hf hl dX0_readFactor_104 (fun x49 h50 hf => ?_)
      refine v_istore_n (ls' := [(3, _), (2, _), (0, _), (1, _)]) C dX0_readFactor_107 rfl (by decide) rfl ?_
      refine v_aload_n C 1 dX0_readFactor_108 rfl rfl ?_
      refine v_aload_n C 2 dX0_readFactor_109 rfl rfl ?_
      refine v_bipush (x := 99) C dX0_readFactor_110 (by decide) ?_
      refine v_iconst (x := 0) C dX0_readFactor_112 (by decide) ?_
      refine v_callVX (stk := fun b => .int b :: [.ref x43]) C HT E (ct_X0_readNumber _ a0 (99 : Int32) (0 : Int32)) rfl ⟨rfl, nd_X0_readNumber⟩ rfl (by first | exact Nat.le_of_ble_eq_true rfl | omega) (by first | exact Nat.le_of_ble_eq_true rfl | omega) [.ref x43] (by first | exact Nat.le_of_ble_eq_true rfl | omega) (fun _ => rfl) rfl q1248 q1250 qs18 q96 q1251 hf hl (fun _ _ hf => hf) dX0_readFactor_113 (fun x51 h52 hf => ?_)
      refine v_iload_n C 0 dX0_readFactor_116 rfl rfl ?_
      refine v_callV (stk := fun b => .ref b :: []) C (ct_X3_power _ x43 x51 x49) rfl ⟨rfl, nd_X3_power⟩ rfl (by first | exact Nat.le_of_ble_eq_true rfl | omega) (by first | exact Nat.le_of_ble_eq_true rfl | omega) [] (by first | exact Nat.le_of_ble_eq_true rfl | omega) (fun _ => rfl) rfl q1269 q1270 q1271 q103 q1272 hf hl dX0_readFactor_117 (fun x53 h54 hf => ?_)
      refine v_astore_n (ls' := [(2, _), (3, _), (0, _), (1, _)]) C dX0_readFactor_120 rfl (by decide) rfl ?_
      refine v_aload_n C 0 dX0_readFactor_121 rfl rfl ?_
      exact v_aretX C E hf (Or.inl ⟨_, rfl⟩) dX0_readFactor_122
def l_X0_readMove_6 (rf : Nat → Int32 → hM (Nat ⊕ Nat)) (a0 : Nat) (i1 : Int32) (a2 : Nat) : Nat → hM ((Unit) ⊕ (Nat ⊕ Nat))
  | 0 => mfail
  | n + 1 => mb (gR a0 0 4) fun x3 => mb (mat x3 4 (f_X18_isSign x3 (42 : Int32))) fun x4 => mi (x4 = 0) (mret (Sum.inl ())) (mbT (fun q => Sum.inr (Sum.inr q)) (mat a0 0 (rf a0 i1)) fun x6 => mb (mat a2 3 (f_X3_then a2 x6)) fun x8 => l_X0_readMove_6 rf a0 i1 a2 n )
def f_X0_readMove (rf : Nat → Int32 → hM (Nat ⊕ Nat)) (a0 : Nat) (i1 : Int32) : hM (Nat ⊕ Nat) :=
  mbT Sum.inr (mat a0 0 (rf a0 i1)) fun x1 => mbs (l_X0_readMove_6 rf a0 i1 x1 FU ) (fun x10 => mret (Sum.inl x1)) id
set_option maxHeartbeats 4000000 in
theorem ct_X0_readMove (l : Launch) (F2 L2 : Nat) (rf : Nat → Int32 → hM (Nat ⊕ Nat)) (hrf : ∀ (a : Nat) (i : Int32), CTX l yX0_readFactor cX0_readFactor 4 (some (.object "EightBlocks$Move")) F2 L2 rvR [.ref a, .int i] (rf a i)) (a0 : Nat) (i1 : Int32) : CTX l yX0_readMove cX0_readMove 3 (some (.object "EightBlocks$Move")) (max 7 (F2 + 1)) (max 149 (8 + (4 + 11) + L2)) rvR [.ref a0, .int i1] (f_X0_readMove rf a0 i1) := by
  refine CTX_of (ls := [(0, .ref a0), (1, .int i1)]) (by decide) (by first | exact Nat.le_of_ble_eq_true rfl | omega) rfl ?_
  intro X h he z hX hf C HT E hnm hh
  have hl := hle.rf he
  subst hX
  have L6 : ∀ (a0 : Nat) (i1 : Int32) (a2 : Nat) (n : Nat)  (h h1 : Hp) (o : (Unit) ⊕ (Nat ⊕ Nat)), (l_X0_readMove_6 rf a0 i1 a2 n ).1 h = some (o, h1) → hle h1 he → (∀ b, o = Sum.inl b → V X h1 31 [(2, .ref a2)] []) → (∀ c, o = Sum.inr c → (mret c).1 h1 = some (z, he)) → V X h 6 [(0, .ref a0), (1, .int i1), (2, .ref a2)] [] := by
    intro a0 i1 a2 n
    induction n with
    | zero => intro  h h1 o hf; exact mfail_inv hf
    | succ n ih =>
      intro  h h1 o hf hl J hret
      rw [l_X0_readMove_6] at hf
      refine v_aload_n C 0 dX0_readMove_6 rfl rfl ?_
      refine v_gR (Cn := RX0) (T := TX0) (N := 16) C hf in_X0 rfl (by decide) q696 rfl dX0_readMove_7 (fun x3 hf => ?_)
      refine v_bipush (x := 42) C dX0_readMove_10 (by decide) ?_
      refine v_callD (x := ({ cls := "EightBlocks$Tape", name := "isSign", desc := "(I)Z" } : Jvm.MethodName)) (stk := fun b => .int b :: []) C (ct_X18_isSign _ x3 (42 : Int32)) rfl nd_X18_isSign rfl (by first | exact Nat.le_of_ble_eq_true rfl | omega) (by first | exact Nat.le_of_ble_eq_true rfl | omega) [] (by first | exact Nat.le_of_ble_eq_true rfl | omega) (fun _ => rfl) rfl nw_25 nw_26 nw_27 q1234 q1236 q130 q1238 hf hl dX0_readMove_12 (fun x4 h5 hf => ?_)
      refine v_if_eq C hf (tgt := 31) dX0_readMove_15 (by decide) (fun c15 hf => ?_) (fun c15 hf => ?_)
      · obtain ⟨e1, rfl⟩ := mret_inv hf
        subst e1
        exact v_sub (ls' := _) [2] rfl (J _ rfl)
      · refine v_aload_n C 2 dX0_readMove_18 rfl rfl ?_
        refine v_aload_n C 0 dX0_readMove_19 rfl rfl ?_
        refine v_iload_n C 1 dX0_readMove_20 rfl rfl ?_
        refine v_callVX (stk := fun b => .ref b :: [.ref a2]) C HT E (hrf a0 i1) rfl ⟨rfl, nd_X0_readFactor⟩ rfl (by first | exact Nat.le_of_ble_eq_true rfl | omega) (by first | exact Nat.le_of_ble_eq_true rfl | omega) [.ref a2] (by first | exact Nat.le_of_ble_eq_true rfl | omega) (fun _ => rfl) rfl q1158 q1160 qs14 q96 q1161 hf hl (fun _ _ hf => mret_up hf hret) dX0_readMove_21 (fun x6 h7 hf => ?_)
        refine v_callV (stk := fun b => .ref b :: []) C (ct_X3_then _ a2 x6) rfl ⟨rfl, nd_X3_then⟩ rfl (by first | exact Nat.le_of_ble_eq_true rfl | omega) (by first | exact Nat.le_of_ble_eq_true rfl | omega) [] (by first | exact Nat.le_of_ble_eq_true rfl | omega) (fun _ => rfl) rfl q1275 q1276 q1277 q103 q1278 hf hl dX0_readMove_24 (fun x8 h9 hf => ?_)
        refine v_pop C dX0_readMove_27 rfl ?_
        refine v_goto (tgt := 6) C dX0_readMove_28 (by decide) ?_
        refine v_sub (ls' := _) [0, 1, 2] rfl (ih  _ _ _ hf hl J hret)
  unfold f_X0_readMove at hf
  refine v_aload_n C 0 dX0_readMove_0 rfl rfl ?_
  refine v_iload_n C 1 dX0_readMove_1 rfl rfl ?_
  refine v_callVX (stk := fun b => .ref b :: []) C HT E (hrf a0 i1) rfl ⟨rfl, nd_X0_readFactor⟩ rfl (by first | exact Nat.le_of_ble_eq_true rfl | omega) (by first | exact Nat.le_of_ble_eq_true rfl | omega) [] (by first | exact Nat.le_of_ble_eq_true rfl | omega) (fun _ => rfl) rfl q1158 q1160 qs14 q96 q1161 hf hl (fun _ _ hf => hf) dX0_readMove_2 (fun x1 h2 hf => ?_)
  refine v_astore_n (ls' := [(2, _), (0, _), (1, _)]) C dX0_readMove_5 rfl (by decide) rfl ?_
  obtain ⟨ox10, h11, eh11, hlh11, hkh11, hrh11⟩ := mbs_inv hf hl
  refine v_sub (ls' := _) [1, 2, 0] rfl (L6 a0 i1 x1 FU  _ _ _ eh11 hlh11 (fun x10 eo => ?_) hrh11)
  have hf := hkh11 x10 eo
  clear hkh11 hrh11
  refine v_aload_n C 0 dX0_readMove_31 rfl rfl ?_
  exact v_aretX C E hf (Or.inl ⟨_, rfl⟩) dX0_readMove_32
/-- a product of factors, so many brackets deep at most -/
def rMv : Nat → Nat → Int32 → hM (Nat ⊕ Nat)
  | 0 => fun _ _ => mfail
  | n + 1 => f_X0_readMove (f_X0_readFactor (rMv n))
def rMvF : Nat → Nat × Nat
  | 0 => (0, 0)
  | n + 1 => (max 7 (max 9 ((rMvF n).1 + 1) + 1), max 149 (8 + (4 + 11) + max 195 (8 + (3 + 11) + (rMvF n).2)))
theorem ct_rMv (l : Launch) : ∀ (n : Nat) (a : Nat) (i : Int32), CTX l yX0_readMove cX0_readMove 3 (some (.object "EightBlocks$Move")) (rMvF n).1 (rMvF n).2 rvR [.ref a, .int i] (rMv n a i)
  | 0 => fun _ _ => CTX_fail
  | n + 1 => fun a i => ct_X0_readMove l _ _ _ (fun a i => ct_X0_readFactor l _ _ _ (fun a i => ct_rMv l n a i) a i) a i
theorem ct_rMv8 (l : Launch) (a : Nat) (i : Int32) : CTX l yX0_readMove cX0_readMove 3 (some (.object "EightBlocks$Move")) 24 533 rvR [.ref a, .int i] (rMv 8 a i) := ct_rMv l 8 a i
def f_X0_readAll (a0 : Nat) : hM (Nat ⊕ Nat) :=
  mb (gR a0 0 4) fun x1 => mb (pF x1 4 1 (.int (0 : Int32))) fun _ => mbT Sum.inr (mat a0 0 (rMv 8 a0 (0 : Int32))) fun x3 => mb (gR a0 0 4) fun x5 => mb (mat x5 4 (f_X18_next x5)) fun x6 => mi (x6 < 0) (mret (Sum.inl x3)) (mb (gR a0 0 4) fun x8 => mb (mat x8 4 (f_X4_at x8)) fun x9 => mb (mat a0 0 (f_X0_faultAt a0 x9)) fun x11 => mth x11)
set_option maxHeartbeats 4000000 in
theorem ct_X0_readAll (l : Launch) (a0 : Nat) : CTX l yX0_readAll cX0_readAll 2 (some (.object "EightBlocks$Move")) 25 555 rvR [.ref a0] (f_X0_readAll a0) := by
  refine CTX_of (ls := [(0, .ref a0)]) (by decide) (Nat.le_of_ble_eq_true rfl) rfl ?_
  intro X h he z hX hf C HT E hnm hh
  have hl := hle.rf he
  subst hX
  unfold f_X0_readAll at hf
  refine v_aload_n C 0 dX0_readAll_0 rfl rfl ?_
  refine v_gR (Cn := RX0) (T := TX0) (N := 16) C hf in_X0 rfl (by decide) q696 rfl dX0_readAll_1 (fun x1 hf => ?_)
  refine v_iconst (x := 0) C dX0_readAll_4 (by decide) ?_
  refine v_putvN (Cn := RX4) (T := TX4) (N := 2) (ty0 := tyX4) C hf in_X4 tyX4_ok nmX4 rfl (by decide) q393 rfl rfl rfl rfl dX0_readAll_5 (fun h2 hf => ?_)
  refine v_aload_n C 0 dX0_readAll_8 rfl rfl ?_
  refine v_iconst (x := 0) C dX0_readAll_9 (by decide) ?_
  refine v_callVX (stk := fun b => .ref b :: []) C HT E (ct_rMv8 _ a0 (0 : Int32)) rfl ⟨rfl, nd_X0_readMove⟩ rfl (Nat.le_of_ble_eq_true rfl) (Nat.le_of_ble_eq_true rfl) [] (Nat.le_of_ble_eq_true rfl) (fun _ => rfl) rfl q1154 q1156 qs13 q96 q1157 hf hl (fun _ _ hf => hf) dX0_readAll_10 (fun x3 h4 hf => ?_)
  refine v_astore_n (ls' := [(1, _), (0, _)]) C dX0_readAll_13 rfl (by decide) rfl ?_
  refine v_aload_n C 1 dX0_readAll_14 rfl rfl ?_
  refine v_gR (Cn := RX0) (T := TX0) (N := 16) C hf in_X0 rfl (by decide) q696 rfl dX0_readAll_15 (fun x5 hf => ?_)
  refine v_callD (x := ({ cls := "EightBlocks$Tape", name := "next", desc := "()I" } : Jvm.MethodName)) (stk := fun b => .int b :: []) C (ct_X18_next _ x5) rfl nd_X18_next rfl (Nat.le_of_ble_eq_true rfl) (Nat.le_of_ble_eq_true rfl) [] (Nat.le_of_ble_eq_true rfl) (fun _ => rfl) rfl nw_22 nw_23 nw_24 q1162 q1164 q130 q1166 hf hl dX0_readAll_18 (fun x6 h7 hf => ?_)
  refine v_if_lt C hf (tgt := 36) dX0_readAll_21 (by decide) (fun c21 hf => ?_) (fun c21 hf => ?_)
  · refine v_aload_n C 0 dX0_readAll_36 rfl rfl ?_
    exact v_aretX C E hf (Or.inl ⟨_, rfl⟩) dX0_readAll_37
  · refine v_aload_n C 1 dX0_readAll_24 rfl rfl ?_
    refine v_aload_n C 1 dX0_readAll_25 rfl rfl ?_
    refine v_gR (Cn := RX0) (T := TX0) (N := 16) C hf in_X0 rfl (by decide) q696 rfl dX0_readAll_26 (fun x8 hf => ?_)
    refine v_callV (stk := fun b => .int b :: [.ref a0]) C (ct_X4_at _ x8) rfl ⟨rfl, nd_X4_at⟩ rfl (Nat.le_of_ble_eq_true rfl) (Nat.le_of_ble_eq_true rfl) [.ref a0] (Nat.le_of_ble_eq_true rfl) (fun _ => rfl) rfl q1222 q1183 q2340 q104 q1185 hf hl dX0_readAll_29 (fun x9 h10 hf => ?_)
    refine v_callV (stk := fun b => .ref b :: []) C (ct_X0_faultAt _ a0 x9) rfl ⟨rfl, nd_X0_faultAt⟩ rfl (Nat.le_of_ble_eq_true rfl) (Nat.le_of_ble_eq_true rfl) [] (Nat.le_of_ble_eq_true rfl) (fun _ => rfl) rfl q1228 q1230 qs16 q96 q1231 hf hl dX0_readAll_32 (fun x11 h12 hf => ?_)
    exact v_athrow C HT E hf dX0_readAll_35
def f_X0_read (a0 : Nat) (i1 : Int32) : hM (Int32) :=
  mb (f_X0_isIn i1.toInt64 (0 : Int64) (3 : Int64)) fun x1 => mi (¬ x1 = 0) (mbh (mat a0 0 (f_X0_readAll a0)) (fun x3 => mb (gR a0 0 4) fun x11 => mb (gR x11 4 0) fun x12 => mb (mat x12 19 (f_J4_setLength x12 (0 : Int32))) fun _ => mb (gR a0 0 3) fun x15 => mb (gR x15 2 0) fun x16 => mb (aR 6 x16 i1) fun x17 => mb (mat x17 3 (f_X3_unlike x17 x3)) fun x18 => mb (mat a0 0 (f_X0_note a0)) fun _ => mb (gR a0 0 3) fun x22 => mb (gR x22 2 0) fun x23 => mb (aR 6 x23 i1) fun x24 => mb (mat x24 3 (f_X3_take x24 x3)) fun x25 => mret x18) (fun y5 => mb (gI y5 5 6) fun x6 => mb (gR a0 0 4) fun x7 => mb (gR x7 4 0) fun x8 => mb (mat x8 19 (f_J4_setLength x8 (0 : Int32))) fun _ => mret ((-20 : Int32) - x6))) (mret (-1 : Int32))
theorem nd_X0_read : yX0_read.cls ≠ "java/lang/invoke/MethodHandle" ∧ yX0_read.cls ≠ "java/lang/invoke/VarHandle" ∧ (parseMethodDescriptor yX0_read.desc).map (fun d => d.parameters.length) = some 1 := by decide +kernel
set_option maxHeartbeats 4000000 in
theorem ct_X0_read (l : Launch) (a0 : Nat) (i1 : Int32) : CTW l yX0_read cX0_read 6 (some .int) [((16 : Nat), (21 : Nat), (35 : Nat), (51 : Nat)), ((16 : Nat), (21 : Nat), (59 : Nat), (0 : Nat)), ((35 : Nat), (45 : Nat), (59 : Nat), (0 : Nat)), ((59 : Nat), (61 : Nat), (59 : Nat), (0 : Nat))] 26 576 rvI [.ref a0, .int i1] (f_X0_read a0 i1) := by
  refine CTW_of (ls := [(0, .ref a0), (1, .int i1)]) (by decide) (Nat.le_of_ble_eq_true rfl) rfl ?_
  intro X h he z hX hf C htab E hnm hh
  have hl := hle.rf he
  subst hX
  unfold f_X0_read at hf
  refine v_iload_n C 1 dX0_read_0 rfl rfl ?_
  refine v_i2l C dX0_read_1 ?_
  refine v_lconst (x := 0) C dX0_read_2 (by decide) ?_
  refine v_ldc2 (x := 3) C q1149 dX0_read_3 ?_
  refine v_callS (stk := fun b => .int b :: []) C (ct_X0_isIn _ i1.toInt64 (0 : Int64) (3 : Int64)) nd_X0_isIn rfl (Nat.le_of_ble_eq_true rfl) (Nat.le_of_ble_eq_true rfl) [] (Nat.le_of_ble_eq_true rfl) (fun _ => rfl) rfl q749 q750 q96 q751 hf hl dX0_read_6 (fun x1 h2 hf => ?_)
  refine v_if_ne C hf (tgt := 14) dX0_read_9 (by decide) (fun c9 hf => ?_) (fun c9 hf => ?_)
  · refine v_null C dX0_read_14 ?_
    refine v_astore_nQ (ls' := [(2, _), (0, _), (1, _)]) C dX0_read_15 rfl (by decide) rfl ?_
    refine v_aload_n C 1 dX0_read_16 rfl rfl ?_
    refine v_callVC (stk := fun b => .ref b :: []) C (ct_X0_readAll _ a0) rfl ⟨rfl, nd_X0_readAll⟩ rfl (Nat.le_of_ble_eq_true rfl) (Nat.le_of_ble_eq_true rfl) [] (Nat.le_of_ble_eq_true rfl) (fun _ => rfl) rfl q1150 q1152 qs12 q96 q1153 ⟨16, 21, 35, 51⟩ [⟨16, 21, 59, 0⟩, ⟨35, 45, 59, 0⟩, ⟨59, 61, 59, 0⟩] htab (by decide) (by decide) q399 q401 hf hl dX0_read_17 (fun y5 h4 hf => ?_) (fun x3 h4 hf => ?_)
    · refine v_astore_n (ls' := [(3, _), (2, _), (0, _), (1, _)]) C dX0_read_35 rfl (by decide) rfl ?_
      refine v_bipush (x := (-20)) C dX0_read_36 (by decide) ?_
      refine v_aload_n C 0 dX0_read_38 rfl rfl ?_
      refine v_gIN (Cn := RX5) (T := TX5) (N := 7) C hf in_X5 rfl (by decide) q417 rfl dX0_read_39 (fun x6 hf => ?_)
      refine v_isub C dX0_read_42 ?_
      refine v_istore (ls' := [(4, _), (3, _), (2, _), (0, _), (1, _)]) C dX0_read_43 (by decide) rfl ?_
      refine v_aload_n C 3 dX0_read_45 rfl rfl ?_
      refine v_gR (Cn := RX0) (T := TX0) (N := 16) C hf in_X0 rfl (by decide) q696 rfl dX0_read_46 (fun x7 hf => ?_)
      refine v_gRN (Cn := RX4) (T := TX4) (N := 2) C hf in_X4 rfl (by decide) q391 rfl dX0_read_49 (fun x8 hf => ?_)
      refine v_iconst (x := 0) C dX0_read_52 (by decide) ?_
      refine v_callV (stk := fun _ => []) C (ct_J4_setLength _ x8 (0 : Int32)) rfl ⟨rfl, nd_J4_setLength⟩ rfl (Nat.le_of_ble_eq_true rfl) (Nat.le_of_ble_eq_true rfl) [] (Nat.le_of_ble_eq_true rfl) (fun _ => rfl) rfl q1279 q1280 q1281 q106 q1282 hf hl dX0_read_53 (fun x9 h10 hf => ?_)
      refine v_iload C 0 dX0_read_56 rfl ?_
      exact v_iret C E hf dX0_read_58
    · refine v_astore_n (ls' := [(2, _), (0, _), (1, _)]) C dX0_read_20 rfl (by decide) rfl ?_
      refine v_aload_n C 1 dX0_read_21 rfl rfl ?_
      refine v_gR (Cn := RX0) (T := TX0) (N := 16) C hf in_X0 rfl (by decide) q696 rfl dX0_read_22 (fun x11 hf => ?_)
      refine v_gRN (Cn := RX4) (T := TX4) (N := 2) C hf in_X4 rfl (by decide) q391 rfl dX0_read_25 (fun x12 hf => ?_)
      refine v_iconst (x := 0) C dX0_read_28 (by decide) ?_
      refine v_callV (stk := fun _ => []) C (ct_J4_setLength _ x12 (0 : Int32)) rfl ⟨rfl, nd_J4_setLength⟩ rfl (Nat.le_of_ble_eq_true rfl) (Nat.le_of_ble_eq_true rfl) [] (Nat.le_of_ble_eq_true rfl) (fun _ => rfl) rfl q1279 q1280 q1281 q106 q1282 hf hl dX0_read_29 (fun x13 h14 hf => ?_)
      refine v_goto (tgt := 75) C dX0_read_32 (by decide) ?_
      refine v_aload_n C 1 dX0_read_75 rfl rfl ?_
      refine v_gR (Cn := RX0) (T := TX0) (N := 16) C hf in_X0 rfl (by decide) q695 rfl dX0_read_76 (fun x15 hf => ?_)
      refine v_gRN (Cn := RX2) (T := TX2) (N := 3) C hf in_X2 rfl (by decide) q259 rfl dX0_read_79 (fun x16 hf => ?_)
      refine v_iload_n C 2 dX0_read_82 rfl rfl ?_
      refine v_aaload C hf (by decide) rfl dX0_read_83 (fun x17 hf => ?_)
      refine v_aload_n C 0 dX0_read_84 rfl rfl ?_
      refine v_callV (stk := fun b => .int b :: []) C (ct_X3_unlike _ x17 x3) rfl ⟨rfl, nd_X3_unlike⟩ rfl (Nat.le_of_ble_eq_true rfl) (Nat.le_of_ble_eq_true rfl) [] (Nat.le_of_ble_eq_true rfl) (fun _ => rfl) rfl q1352 q1353 q1354 q103 q1355 hf hl dX0_read_85 (fun x18 h19 hf => ?_)
      refine v_istore_n (ls' := [(3, _), (2, _), (0, _), (1, _)]) C dX0_read_88 rfl (by decide) rfl ?_
      refine v_aload_n C 2 dX0_read_89 rfl rfl ?_
      refine v_callV (stk := fun _ => []) C (ct_X0_note _ a0) rfl ⟨rfl, nd_X0_note⟩ rfl (Nat.le_of_ble_eq_true rfl) (Nat.le_of_ble_eq_true rfl) [] (Nat.le_of_ble_eq_true rfl) (fun _ => rfl) rfl q1356 q1358 qs21 q96 q1359 hf hl dX0_read_90 (fun x20 h21 hf => ?_)
      refine v_aload_n C 2 dX0_read_93 rfl rfl ?_
      refine v_gR (Cn := RX0) (T := TX0) (N := 16) C hf in_X0 rfl (by decide) q695 rfl dX0_read_94 (fun x22 hf => ?_)
      refine v_gRN (Cn := RX2) (T := TX2) (N := 3) C hf in_X2 rfl (by decide) q259 rfl dX0_read_97 (fun x23 hf => ?_)
      refine v_iload_n C 3 dX0_read_100 rfl rfl ?_
      refine v_aaload C hf (by decide) rfl dX0_read_101 (fun x24 hf => ?_)
      refine v_aload_n C 1 dX0_read_102 rfl rfl ?_
      refine v_callV (stk := fun b => .ref b :: []) C (ct_X3_take _ x24 x3) rfl ⟨rfl, nd_X3_take⟩ rfl (Nat.le_of_ble_eq_true rfl) (Nat.le_of_ble_eq_true rfl) [] (Nat.le_of_ble_eq_true rfl) (fun _ => rfl) rfl q635 q636 q637 q103 q638 hf hl dX0_read_103 (fun x25 h26 hf => ?_)
      refine v_pop C dX0_read_106 rfl ?_
      refine v_iload_n C 0 dX0_read_107 rfl rfl ?_
      exact v_iret C E hf dX0_read_108
  · refine v_iconst (x := (-1)) C dX0_read_12 (by decide) ?_
    exact v_iret C E hf dX0_read_13
