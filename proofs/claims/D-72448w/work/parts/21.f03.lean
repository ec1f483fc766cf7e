set_option maxRecDepth 100000
def d_X11_to (a : Nat) (i1 : Int32) : hM Int32 := mb (gC a) fun c => mi (c = 3) (mat a 3 (f_X3_to a i1)) (mi (c = 7) (mat a 7 (f_X7_to a i1)) (mi (c = 11) (mat a 11 (f_X12_to a i1)) (mi (c = 12) (mat a 12 (f_X12_to a i1)) (mi (c = 14) (mat a 14 (f_X12_to a i1)) (mi (c = 13) (mat a 13 (f_X15_to a i1)) (mfail))))))
theorem ndx_X11_to : ({ cls := "EightBlocks$Way", name := "to", desc := "(I)I" } : Jvm.MethodName).cls ≠ "java/lang/invoke/MethodHandle" ∧ ({ cls := "EightBlocks$Way", name := "to", desc := "(I)I" } : Jvm.MethodName).cls ≠ "java/lang/invoke/VarHandle" ∧ (parseMethodDescriptor ({ cls := "EightBlocks$Way", name := "to", desc := "(I)I" } : Jvm.MethodName).desc).map (fun d => d.parameters.length) = some 1 := by decide +kernel
theorem v_d_X11_to {X : hX} {own : String} {cc : ByteArray} {nL : Nat} {ret : Option FieldType} {he : Hp} {F L : Nat} {h hr : Hp} {pc : Nat} {ls : List (Nat × Value)} {st : List Value} {α : Type} {v : α} (C : Cx X own cc nL ret he F L) {index cnt : Nat} (a : Nat) (i1 : Int32) {k : Int32 → hM α} (rest : List Value) (hF : 3 ≤ F) (hL : 64 ≤ L) (hcat : (rest.map fun v => v.category).sum ≤ 8) (hst : st = .int i1 :: .ref a :: rest) (w1 : Jvm.Cond.methodLink own index ({ cls := "EightBlocks$Way", name := "to", desc := "(I)I" } : Jvm.MethodName) ∈ lw_all) (hf : (mb (d_X11_to a i1) k).1 h = some (v, hr)) (hl : hle hr he) (d : decode cc pc = .ok (.invokeinterface index cnt, 5)) (kk : ∀ (b : Int32) (h1 : Hp), (k b).1 h1 = some (v, hr) → V X h1 (pc + 5) ls (.int b :: rest)) : V X h pc ls st := by
  unfold d_X11_to at hf
  obtain ⟨c, hf⟩ := dsp_inv hf
  rcases mb_mi hf with ⟨_, hf⟩ | ⟨_, hf⟩
  · exact v_callF (stk := fun b => .int b :: rest) C (ct_X3_to _ a i1) rfl ndx_X11_to rfl (Nat.le_trans (Nat.le_of_ble_eq_true rfl) hF) (Nat.le_trans (Nat.le_of_ble_eq_true rfl) hL) rest hcat (fun _ => rfl) hst w1 q644 q646 q103 q648 q642 q641 q647 q645 q643 hf hl d kk
  rcases mb_mi hf with ⟨_, hf⟩ | ⟨_, hf⟩
  · exact v_callF (stk := fun b => .int b :: rest) C (ct_X7_to _ a i1) rfl ndx_X11_to rfl (Nat.le_trans (Nat.le_of_ble_eq_true rfl) hF) (Nat.le_trans (Nat.le_of_ble_eq_true rfl) hL) rest hcat (fun _ => rfl) hst w1 q656 q658 q115 q660 q642 q641 q659 q657 q655 hf hl d kk
  rcases mb_mi hf with ⟨_, hf⟩ | ⟨_, hf⟩
  · exact v_callF (stk := fun b => .int b :: rest) C (ct_X12_to _ a i1) rfl ndx_X11_to rfl (Nat.le_trans (Nat.le_of_ble_eq_true rfl) hF) (Nat.le_trans (Nat.le_of_ble_eq_true rfl) hL) rest hcat (fun _ => rfl) hst w1 q662 q664 q122 q666 q642 q641 q665 q663 q661 hf hl d kk
  rcases mb_mi hf with ⟨_, hf⟩ | ⟨_, hf⟩
  · exact v_callF (stk := fun b => .int b :: rest) C (ct_X12_to _ a i1) rfl ndx_X11_to rfl (Nat.le_trans (Nat.le_of_ble_eq_true rfl) hF) (Nat.le_trans (Nat.le_of_ble_eq_true rfl) hL) rest hcat (fun _ => rfl) hst w1 q683 q664 q122 q666 q642 q641 q665 q684 q682 hf hl d kk
  rcases mb_mi hf with ⟨_, hf⟩ | ⟨_, hf⟩
  · exact v_callF (stk := fun b => .int b :: rest) C (ct_X12_to _ a i1) rfl ndx_X11_to rfl (Nat.le_trans (Nat.le_of_ble_eq_true rfl) hF) (Nat.le_trans (Nat.le_of_ble_eq_true rfl) hL) rest hcat (fun _ => rfl) hst w1 q686 q664 q122 q666 q642 q641 q665 q687 q685 hf hl d kk
  rcases mb_mi hf with ⟨_, hf⟩ | ⟨_, hf⟩
  · exact v_callF (stk := fun b => .int b :: rest) C (ct_X15_to _ a i1) rfl ndx_X11_to rfl (Nat.le_trans (Nat.le_of_ble_eq_true rfl) hF) (Nat.le_trans (Nat.le_of_ble_eq_true rfl) hL) rest hcat (fun _ => rfl) hst w1 q650 q652 q125 q654 q642 q641 q653 q651 q649 hf hl d kk
  exact mb_fail hf
def l_X3_take_2 (a0 : Nat) (a1 : Nat) : Nat → Int32 → hM (Unit)
  | 0, _ => mfail
  | n + 1, i2 => mi ((24 : Int32) ≤ i2) (mret ()) (mb (gR a0 3 0) fun x1 => mb (d_X11_to a1 i2) fun x2 => mb (sI 0 x1 i2 x2.toInt8.toInt32) fun _ => l_X3_take_2 a0 a1 n (i2 + (1 : Int32)))
def f_X3_take (a0 : Nat) (a1 : Nat) : hM Nat :=
  mb (l_X3_take_2 a0 a1 FU (0 : Int32)) fun x5 => mb (mat a0 3 (f_X3_turnBack a0)) fun _ => mret a0
theorem nd_X3_take : yX3_take.cls ≠ "java/lang/invoke/MethodHandle" ∧ yX3_take.cls ≠ "java/lang/invoke/VarHandle" ∧ (parseMethodDescriptor yX3_take.desc).map (fun d => d.parameters.length) = some 1 := by decide +kernel
set_option maxHeartbeats 4000000 in
theorem ct_X3_take (l : Launch) (a0 : Nat) (a1 : Nat) : CT l yX3_take cX3_take 3 (some (.object "EightBlocks$Move")) 3 64 rvR [.ref a0, .ref a1] (f_X3_take a0 a1) := by
  refine CT_of (ls := [(0, .ref a0), (1, .ref a1)]) (by decide) (Nat.le_of_ble_eq_true rfl) rfl ?_
  intro X h he z hX hf C E hnm hh
  have hl := hle.rf he
  subst hX
  have L2 : ∀ (a0 : Nat) (a1 : Nat) (n : Nat) (i2 : Int32) (h h1 : Hp) (o : Unit), (l_X3_take_2 a0 a1 n i2).1 h = some (o, h1) → hle h1 he → V X h1 28 [(0, .ref a0)] [] → V X h 2 [(0, .ref a0), (1, .ref a1), (2, .int i2)] [] := by
    intro a0 a1 n
    induction n with
    | zero => intro i2 h h1 o hf; exact mfail_inv hf
    | succ n ih =>
      intro i2 h h1 o hf hl J
      rw [l_X3_take_2] at hf
      refine v_iload_n C 2 dX3_take_2 rfl rfl ?_
      refine v_bipush (x := 24) C dX3_take_3 (by decide) ?_
      refine v_icmp_ge C hf (tgt := 28) dX3_take_5 (by decide) (fun c5 hf => ?_) (fun c5 hf => ?_)
      · obtain ⟨e1, rfl⟩ := mret_inv hf
        subst e1
        exact v_sub (ls' := _) [0] rfl J
      · refine v_aload_n C 0 dX3_take_8 rfl rfl ?_
        refine v_gR (Cn := RX3) (T := TX3) (N := 2) C hf in_X3 rfl (by decide) q248 rfl dX3_take_9 (fun x1 hf => ?_)
        refine v_iload_n C 2 dX3_take_12 rfl rfl ?_
        refine v_aload_n C 1 dX3_take_13 rfl rfl ?_
        refine v_iload_n C 2 dX3_take_14 rfl rfl ?_
        refine v_d_X11_to C a1 i2 [.int i2, .ref x1] (Nat.le_of_ble_eq_true rfl) (Nat.le_of_ble_eq_true rfl) (Nat.le_of_ble_eq_true rfl) rfl q640 hf hl dX3_take_15 (fun x2 h3 hf => ?_)
        refine v_i2b C dX3_take_20 ?_
        refine v_bastore C hf dX3_take_21 (fun h4 hf => ?_)
        refine v_iinc (ls' := [(2, _), (0, _), (1, _)]) (y := i2 + (1 : Int32)) C 2 dX3_take_22 rfl rfl (by decide) rfl ?_
        refine v_goto (tgt := 2) C dX3_take_25 (by decide) ?_
        refine v_sub (ls' := _) [1, 2, 0] rfl (ih (i2 + (1 : Int32)) _ _ _ hf hl J)
  unfold f_X3_take at hf
  refine v_iconst (x := 0) C dX3_take_0 (by decide) ?_
  refine v_istore_n (ls' := [(2, _), (0, _), (1, _)]) C dX3_take_1 rfl (by decide) rfl ?_
  obtain ⟨x5, h6, eh6, hf, hlh6⟩ := mb_inv hf hl
  refine v_sub (ls' := _) [1, 2, 0] rfl (L2 a0 a1 FU (0 : Int32) _ _ _ eh6 hlh6 ?_)
  refine v_aload_n C 0 dX3_take_28 rfl rfl ?_
  refine v_callV (stk := fun _ => []) C (ct_X3_turnBack _ a0) rfl ⟨rfl, nd_X3_turnBack⟩ rfl (Nat.le_of_ble_eq_true rfl) (Nat.le_of_ble_eq_true rfl) [] (Nat.le_of_ble_eq_true rfl) (fun _ => rfl) rfl q688 q690 qs6 q103 q691 hf hl dX3_take_29 (fun x7 h8 hf => ?_)
  refine v_aload_n C 0 dX3_take_32 rfl rfl ?_
  exact v_aret C E hf (Or.inl ⟨_, rfl⟩) dX3_take_33
def l_X3_then_2 (a0 : Nat) (a1 : Nat) : Nat → Int32 → hM (Unit)
  | 0, _ => mfail
  | n + 1, i2 => mi ((24 : Int32) ≤ i2) (mret ()) (mb (gR a0 3 0) fun x1 => mb (gR a0 3 0) fun x2 => mb (aI 0 x2 i2) fun x3 => mb (d_X11_to a1 x3) fun x4 => mb (sI 0 x1 i2 x4.toInt8.toInt32) fun _ => l_X3_then_2 a0 a1 n (i2 + (1 : Int32)))
def f_X3_then (a0 : Nat) (a1 : Nat) : hM Nat :=
  mb (l_X3_then_2 a0 a1 FU (0 : Int32)) fun x7 => mb (mat a0 3 (f_X3_turnBack a0)) fun _ => mret a0
theorem nd_X3_then : yX3_then.cls ≠ "java/lang/invoke/MethodHandle" ∧ yX3_then.cls ≠ "java/lang/invoke/VarHandle" ∧ (parseMethodDescriptor yX3_then.desc).map (fun d => d.parameters.length) = some 1 := by decide +kernel
set_option maxHeartbeats 4000000 in
theorem ct_X3_then (l : Launch) (a0 : Nat) (a1 : Nat) : CT l yX3_then cX3_then 3 (some (.object "EightBlocks$Move")) 3 64 rvR [.ref a0, .ref a1] (f_X3_then a0 a1) := by
  refine CT_of (ls := [(0, .ref a0), (1, .ref a1)]) (by decide) (Nat.le_of_ble_eq_true rfl) rfl ?_
  intro X h he z hX hf C E hnm hh
  have hl := hle.rf he
  subst hX
  have L2 : ∀ (a0 : Nat) (a1 : Nat) (n : Nat) (i2 : Int32) (h h1 : Hp) (o : Unit), (l_X3_then_2 a0 a1 n i2).1 h = some (o, h1) → hle h1 he → V X h1 33 [(0, .ref a0)] [] → V X h 2 [(0, .ref a0), (1, .ref a1), (2, .int i2)] [] := by
    intro a0 a1 n
    induction n with
    | zero => intro i2 h h1 o hf; exact mfail_inv hf
    | succ n ih =>
      intro i2 h h1 o hf hl J
      rw [l_X3_then_2] at hf
      refine v_iload_n C 2 dX3_then_2 rfl rfl ?_
      refine v_bipush (x := 24) C dX3_then_3 (by decide) ?_
      refine v_icmp_ge C hf (tgt := 33) dX3_then_5 (by decide) (fun c5 hf => ?_) (fun c5 hf => ?_)
      · obtain ⟨e1, rfl⟩ := mret_inv hf
        subst e1
        exact v_sub (ls' := _) [0] rfl J
      · refine v_aload_n C 0 dX3_then_8 rfl rfl ?_
        refine v_gR (Cn := RX3) (T := TX3) (N := 2) C hf in_X3 rfl (by decide) q248 rfl dX3_then_9 (fun x1 hf => ?_)
        refine v_iload_n C 2 dX3_then_12 rfl rfl ?_
        refine v_aload_n C 1 dX3_then_13 rfl rfl ?_
        refine v_aload_n C 0 dX3_then_14 rfl rfl ?_
        refine v_gR (Cn := RX3) (T := TX3) (N := 2) C hf in_X3 rfl (by decide) q248 rfl dX3_then_15 (fun x2 hf => ?_)
        refine v_iload_n C 2 dX3_then_18 rfl rfl ?_
        refine v_baload C hf dX3_then_19 (fun x3 hf => ?_)
        refine v_d_X11_to C a1 x3 [.int i2, .ref x1] (Nat.le_of_ble_eq_true rfl) (Nat.le_of_ble_eq_true rfl) (Nat.le_of_ble_eq_true rfl) rfl q640 hf hl dX3_then_20 (fun x4 h5 hf => ?_)
        refine v_i2b C dX3_then_25 ?_
        refine v_bastore C hf dX3_then_26 (fun h6 hf => ?_)
        refine v_iinc (ls' := [(2, _), (0, _), (1, _)]) (y := i2 + (1 : Int32)) C 2 dX3_then_27 rfl rfl (by decide) rfl ?_
        refine v_goto (tgt := 2) C dX3_then_30 (by decide) ?_
        refine v_sub (ls' := _) [1, 2, 0] rfl (ih (i2 + (1 : Int32)) _ _ _ hf hl J)
  unfold f_X3_then at hf
  refine v_iconst (x := 0) C dX3_then_0 (by decide) ?_
  refine v_istore_n (ls' := [(2, _), (0, _), (1, _)]) C dX3_then_1 rfl (by decide) rfl ?_
  obtain ⟨x7, h8, eh8, hf, hlh8⟩ := mb_inv hf hl
  refine v_sub (ls' := _) [1, 2, 0] rfl (L2 a0 a1 FU (0 : Int32) _ _ _ eh8 hlh8 ?_)
  refine v_aload_n C 0 dX3_then_33 rfl rfl ?_
  refine v_callV (stk := fun _ => []) C (ct_X3_turnBack _ a0) rfl ⟨rfl, nd_X3_turnBack⟩ rfl (Nat.le_of_ble_eq_true rfl) (Nat.le_of_ble_eq_true rfl) [] (Nat.le_of_ble_eq_true rfl) (fun _ => rfl) rfl q688 q690 qs6 q103 q691 hf hl dX3_then_34 (fun x9 h10 hf => ?_)
  refine v_aload_n C 0 dX3_then_37 rfl rfl ?_
  exact v_aret C E hf (Or.inl ⟨_, rfl⟩) dX3_then_38
def f_X6_add (a0 : Nat) (a1 : Nat) : hM Unit :=
  mb (mat a0 6 (f_X6_depthOf a0 a1)) fun x1 => mi (x1 < 0) (mret ()) (mb (gI a0 6 3) fun x3 => mi (¬ x3 = (300 : Int32)) (mb (gR a0 6 1) fun x4 => mb (gI a0 6 3) fun x5 => mb (aQ 6 x4 x5) fun x6 => mb (mq x6 (mb (gR a0 6 1) fun x19 => mb (gI a0 6 3) fun x20 => mb (newO 3 2 [.null, .null]) fun x21 => mb (f_X3_init x21) fun _ => mb (sR 6 3 x19 x20 x21) fun _ => mret ()) (fun y7 => mret ())) fun _ => mb (gR a0 6 1) fun x9 => mb (gI a0 6 3) fun x10 => mb (aR 6 x9 x10) fun x11 => mb (mat x11 3 (f_X3_take x11 a1)) fun x12 => mb (gR a0 6 2) fun x14 => mb (gI a0 6 3) fun x15 => mb (sI 1 x14 x15 x1) fun _ => mb (gI a0 6 3) fun x17 => mb (pF a0 6 3 (.int (x17 + (1 : Int32)))) fun _ => mret ()) (mret ()))
theorem nd_X6_add : yX6_add.cls ≠ "java/lang/invoke/MethodHandle" ∧ yX6_add.cls ≠ "java/lang/invoke/VarHandle" ∧ (parseMethodDescriptor yX6_add.desc).map (fun d => d.parameters.length) = some 1 := by decide +kernel
set_option maxHeartbeats 4000000 in
theorem ct_X6_add (l : Launch) (a0 : Nat) (a1 : Nat) : CT l yX6_add cX6_add 3 none 4 86 rv0 [.ref a0, .ref a1] (f_X6_add a0 a1) := by
  refine CT_of (ls := [(0, .ref a0), (1, .ref a1)]) (by decide) (Nat.le_of_ble_eq_true rfl) rfl ?_
  intro X h he z hX hf C E hnm hh
  have hl := hle.rf he
  subst hX
  unfold f_X6_add at hf
  refine v_aload_n C 0 dX6_add_0 rfl rfl ?_
  refine v_aload_n C 1 dX6_add_1 rfl rfl ?_
  refine v_callV (stk := fun b => .int b :: []) C (ct_X6_depthOf _ a0 a1) rfl ⟨rfl, nd_X6_depthOf⟩ rfl (Nat.le_of_ble_eq_true rfl) (Nat.le_of_ble_eq_true rfl) [] (Nat.le_of_ble_eq_true rfl) (fun _ => rfl) rfl q1395 q1397 qs25 q114 q1398 hf hl dX6_add_2 (fun x1 h2 hf => ?_)
  refine v_istore_n (ls' := [(2, _), (0, _), (1, _)]) C dX6_add_5 rfl (by decide) rfl ?_
  refine v_iload_n C 0 dX6_add_6 rfl rfl ?_
  refine v_if_lt C hf (tgt := 20) dX6_add_7 (by decide) (fun c7 hf => ?_) (fun c7 hf => ?_)
  · exact v_vret C E hf dX6_add_20
  · refine v_aload_n C 1 dX6_add_10 rfl rfl ?_
    refine v_gI (Cn := RX6) (T := TX6) (N := 6) C hf in_X6 rfl (by decide) q469 rfl dX6_add_11 (fun x3 hf => ?_)
    refine v_sipush (x := 300) C dX6_add_14 (by decide) ?_
    refine v_icmp_ne C hf (tgt := 21) dX6_add_17 (by decide) (fun c17 hf => ?_) (fun c17 hf => ?_)
    · refine v_aload_n C 1 dX6_add_21 rfl rfl ?_
      refine v_gR (Cn := RX6) (T := TX6) (N := 6) C hf in_X6 rfl (by decide) q467 rfl dX6_add_22 (fun x4 hf => ?_)
      refine v_aload_n C 1 dX6_add_25 rfl rfl ?_
      refine v_gI (Cn := RX6) (T := TX6) (N := 6) C hf in_X6 rfl (by decide) q469 rfl dX6_add_26 (fun x5 hf => ?_)
      refine v_aaloadQ C hf (by decide) rfl dX6_add_29 (fun x6 hf => ?_)
      obtain ⟨_u, h8, hAh8, hf, hlh8⟩ := mb_inv hf hl
      refine v_cut (h1 := h8) (pc1 := 49) (ls1 := [(0, .ref a0), (1, .ref a1), (2, .int x1)]) (st1 := []) ?_ (fun Jh8 => ?_)
      · clear hAh8 hlh8
        refine v_aload_n C 0 dX6_add_49 rfl rfl ?_
        refine v_gR (Cn := RX6) (T := TX6) (N := 6) C hf in_X6 rfl (by decide) q467 rfl dX6_add_50 (fun x9 hf => ?_)
        refine v_aload_n C 0 dX6_add_53 rfl rfl ?_
        refine v_gI (Cn := RX6) (T := TX6) (N := 6) C hf in_X6 rfl (by decide) q469 rfl dX6_add_54 (fun x10 hf => ?_)
        refine v_aaload C hf (by decide) rfl dX6_add_57 (fun x11 hf => ?_)
        refine v_aload_n C 1 dX6_add_58 rfl rfl ?_
        refine v_callV (stk := fun b => .ref b :: []) C (ct_X3_take _ x11 a1) rfl ⟨rfl, nd_X3_take⟩ rfl (Nat.le_of_ble_eq_true rfl) (Nat.le_of_ble_eq_true rfl) [] (Nat.le_of_ble_eq_true rfl) (fun _ => rfl) rfl q1400 q636 q637 q103 q638 hf hl dX6_add_59 (fun x12 h13 hf => ?_)
        refine v_pop C dX6_add_62 rfl ?_
        refine v_aload_n C 0 dX6_add_63 rfl rfl ?_
        refine v_gR (Cn := RX6) (T := TX6) (N := 6) C hf in_X6 rfl (by decide) q468 rfl dX6_add_64 (fun x14 hf => ?_)
        refine v_aload_n C 0 dX6_add_67 rfl rfl ?_
        refine v_gI (Cn := RX6) (T := TX6) (N := 6) C hf in_X6 rfl (by decide) q469 rfl dX6_add_68 (fun x15 hf => ?_)
        refine v_iload_n C 2 dX6_add_71 rfl rfl ?_
        refine v_iastore C hf dX6_add_72 (fun h16 hf => ?_)
        refine v_aload_n C 0 dX6_add_73 rfl rfl ?_
        refine v_dup C dX6_add_74 rfl ?_
        refine v_gI (Cn := RX6) (T := TX6) (N := 6) C hf in_X6 rfl (by decide) q469 rfl dX6_add_75 (fun x17 hf => ?_)
        refine v_iconst (x := 1) C dX6_add_78 (by decide) ?_
        refine v_iadd C dX6_add_79 ?_
        refine v_putv (Cn := RX6) (T := TX6) (N := 6) (ty0 := tyX6) C hf in_X6 tyX6_ok nmX6 rfl (by decide) q469 rfl rfl rfl rfl dX6_add_80 (fun h18 hf => ?_)
        exact v_vret C E hf dX6_add_83
      · clear hf
        have hf := hAh8
        have hl := hlh8
        refine v_ifnonnullq C hf (tgt := 49) dX6_add_30 (by decide) (fun y7 c30 hf => ?_) (fun c30 hf => ?_)
        · subst c30
          obtain ⟨e1, rfl⟩ := mret_inv hf
          exact v_sub (ls' := _) [1, 2, 0] rfl Jh8
        · refine v_aload_n C 1 dX6_add_33 rfl rfl ?_
          refine v_gR (Cn := RX6) (T := TX6) (N := 6) C hf in_X6 rfl (by decide) q467 rfl dX6_add_34 (fun x19 hf => ?_)
          refine v_aload_n C 1 dX6_add_37 rfl rfl ?_
          refine v_gI (Cn := RX6) (T := TX6) (N := 6) C hf in_X6 rfl (by decide) q469 rfl dX6_add_38 (fun x20 hf => ?_)
          refine v_new (Cn := RX3) (T := TX3) (N := 2) (ty0 := tyX3) C hf hl in_X3 tyX3_ok rfl q430 q243 q103 dvX3 dX6_add_41 (fun x21 h22 hf => ?_)
          refine v_dup C dX6_add_44 rfl ?_
          refine v_callIN (stk := fun _ => [.ref x21, .int x20, .ref x19]) C (ct_X3_init _ x21) nd_X3_init rfl (Nat.le_of_ble_eq_true rfl) (Nat.le_of_ble_eq_true rfl) [.ref x21, .int x20, .ref x19] (Nat.le_of_ble_eq_true rfl) (fun _ => rfl) rfl rfl q431 q245 q103 q246 hf hl dX6_add_45 (fun x23 h24 hf => ?_)
          refine v_aastore C hf (by decide) rfl rfl dX6_add_48 (fun h25 hf => ?_)
          obtain ⟨e1, rfl⟩ := mret_inv hf
          exact v_sub (ls' := _) [1, 2, 0] rfl Jh8
    · exact v_vret C E hf dX6_add_20
def l_X6_check_20 (a0 : Nat) (i1 : Int32) (a2 : Nat) (i3 : Int32) : Nat → Int32 → hM ((Unit) ⊕ (Int32))
  | 0, _ => mfail
  | n + 1, i4 => mb (gI a0 6 3) fun x4 => mi (x4 ≤ i4) (mret (Sum.inl ())) (mb (gR a0 6 2) fun x5 => mb (aI 1 x5 i4) fun x6 => mi (x6 < i1) (l_X6_check_20 a0 i1 a2 i3 n (i4 + (1 : Int32))) (mb (gR a0 6 4) fun x7 => mb (gR a2 8 1) fun x8 => mb (gR a2 8 2) fun x9 => mb (aI 1 x9 i3) fun x10 => mb (aR 6 x8 x10) fun x11 => mb (mat x7 3 (f_X3_take x7 x11)) fun x12 => mb (gR a0 6 1) fun x14 => mb (aR 6 x14 i4) fun x15 => mb (mat x12 3 (f_X3_then x12 x15)) fun x16 => mb (gR a0 6 4) fun x18 => mb (gR a2 8 1) fun x19 => mb (gR a0 6 1) fun x20 => mb (aR 6 x20 i4) fun x21 => mb (gR a2 8 2) fun x22 => mb (aI 1 x22 i3) fun x23 => mb (mat x21 3 (f_X3_to x21 x23)) fun x24 => mb (aR 6 x19 x24) fun x26 => mb (mat x18 3 (f_X3_thenBack x18 x26)) fun _ => mb (mat a0 6 (f_X6_sift a0 (i1 + (1 : Int32)))) fun x29 => mi (x29 < 0) (l_X6_check_20 a0 i1 a2 i3 n (i4 + (1 : Int32))) (mb (gR a0 6 4) fun x31 => mb (mat a0 6 (f_X6_add a0 x31)) fun _ => mret (Sum.inr x29))))
def l_X6_check_9 (a0 : Nat) (i1 : Int32) (a2 : Nat) : Nat → Int32 → hM ((Unit) ⊕ (Int32))
  | 0, _ => mfail
  | n + 1, i3 => mb (gI a2 8 4) fun x3 => mi (x3 ≤ i3) (mret (Sum.inl ())) (mbs (l_X6_check_20 a0 i1 a2 i3 FU (0 : Int32)) (fun x34 => l_X6_check_9 a0 i1 a2 n (i3 + (1 : Int32))) Sum.inr)
def f_X6_check (a0 : Nat) (i1 : Int32) : hM Int32 :=
  mb (gR a0 6 0) fun x1 => mb (aR 7 x1 i1) fun x2 => mbs (l_X6_check_9 a0 i1 x2 FU (0 : Int32)) (fun x36 => mret (-4 : Int32)) id
theorem nd_X6_check : yX6_check.cls ≠ "java/lang/invoke/MethodHandle" ∧ yX6_check.cls ≠ "java/lang/invoke/VarHandle" ∧ (parseMethodDescriptor yX6_check.desc).map (fun d => d.parameters.length) = some 1 := by decide +kernel
set_option maxHeartbeats 4000000 in
theorem ct_X6_check (l : Launch) (a0 : Nat) (i1 : Int32) : CT l yX6_check cX6_check 6 (some .int) 5 108 rvI [.ref a0, .int i1] (f_X6_check a0 i1) := by
  refine CT_of (ls := [(0, .ref a0), (1, .int i1)]) (by decide) (Nat.le_of_ble_eq_true rfl) rfl ?_
  intro X h he z hX hf C E hnm hh
  have hl := hle.rf he
  subst hX
  have L20 : ∀ (a0 : Nat) (i1 : Int32) (a2 : Nat) (i3 : Int32) (n : Nat) (i4 : Int32) (h h1 : Hp) (o : (Unit) ⊕ (Int32)), (l_X6_check_20 a0 i1 a2 i3 n i4).1 h = some (o, h1) → hle h1 he → (∀ b, o = Sum.inl b → V X h1 128 [(0, .ref a0), (1, .int i1), (2, .ref a2), (3, .int i3)] []) → (∀ c, o = Sum.inr c → (mret c).1 h1 = some (z, he)) → V X h 20 [(0, .ref a0), (1, .int i1), (2, .ref a2), (3, .int i3), (4, .int i4)] [] := by
    intro a0 i1 a2 i3 n
    induction n with
    | zero => intro i4 h h1 o hf; exact mfail_inv hf
    | succ n ih =>
      intro i4 h h1 o hf hl J hret
      rw [l_X6_check_20] at hf
      refine v_iload C 4 dX6_check_20 rfl ?_
      refine v_aload_n C 0 dX6_check_22 rfl rfl ?_
      refine v_gI (Cn := RX6) (T := TX6) (N := 6) C hf in_X6 rfl (by decide) q469 rfl dX6_check_23 (fun x4 hf => ?_)
      refine v_icmp_ge C hf (tgt := 128) dX6_check_26 (by decide) (fun c26 hf => ?_) (fun c26 hf => ?_)
      · obtain ⟨e1, rfl⟩ := mret_inv hf
        subst e1
        exact v_sub (ls' := _) [0, 1, 2, 3] rfl (J _ rfl)
      · refine v_aload_n C 0 dX6_check_29 rfl rfl ?_
        refine v_gR (Cn := RX6) (T := TX6) (N := 6) C hf in_X6 rfl (by decide) q468 rfl dX6_check_30 (fun x5 hf => ?_)
        refine v_iload C 4 dX6_check_33 rfl ?_
        refine v_iaload C hf dX6_check_35 (fun x6 hf => ?_)
        refine v_iload_n C 1 dX6_check_36 rfl rfl ?_
        refine v_icmp_lt C hf (tgt := 122) dX6_check_37 (by decide) (fun c37 hf => ?_) (fun c37 hf => ?_)
        · refine v_iinc (ls' := [(4, _), (0, _), (1, _), (2, _), (3, _)]) (y := i4 + (1 : Int32)) C 4 dX6_check_122 rfl rfl (by decide) rfl ?_
          refine v_goto (tgt := 20) C dX6_check_125 (by decide) ?_
          refine v_sub (ls' := _) [1, 2, 3, 4, 0] rfl (ih (i4 + (1 : Int32)) _ _ _ hf hl J hret)
        · refine v_aload_n C 0 dX6_check_40 rfl rfl ?_
          refine v_gR (Cn := RX6) (T := TX6) (N := 6) C hf in_X6 rfl (by decide) q470 rfl dX6_check_41 (fun x7 hf => ?_)
          refine v_aload_n C 2 dX6_check_44 rfl rfl ?_
          refine v_gRN (Cn := RX8) (T := TX8) (N := 5) C hf in_X8 rfl (by decide) q448 rfl dX6_check_45 (fun x8 hf => ?_)
          refine v_aload_n C 2 dX6_check_48 rfl rfl ?_
          refine v_gRN (Cn := RX8) (T := TX8) (N := 5) C hf in_X8 rfl (by decide) q450 rfl dX6_check_49 (fun x9 hf => ?_)
          refine v_iload_n C 3 dX6_check_52 rfl rfl ?_
          refine v_iaload C hf dX6_check_53 (fun x10 hf => ?_)
          refine v_aaload C hf (by decide) rfl dX6_check_54 (fun x11 hf => ?_)
          refine v_callV (stk := fun b => .ref b :: []) C (ct_X3_take _ x7 x11) rfl ⟨rfl, nd_X3_take⟩ rfl (Nat.le_of_ble_eq_true rfl) (Nat.le_of_ble_eq_true rfl) [] (Nat.le_of_ble_eq_true rfl) (fun _ => rfl) rfl q1400 q636 q637 q103 q638 hf hl dX6_check_55 (fun x12 h13 hf => ?_)
          refine v_aload_n C 0 dX6_check_58 rfl rfl ?_
          refine v_gR (Cn := RX6) (T := TX6) (N := 6) C hf in_X6 rfl (by decide) q467 rfl dX6_check_59 (fun x14 hf => ?_)
          refine v_iload C 4 dX6_check_62 rfl ?_
          refine v_aaload C hf (by decide) rfl dX6_check_64 (fun x15 hf => ?_)
          refine v_callV (stk := fun b => .ref b :: []) C (ct_X3_then _ x12 x15) rfl ⟨rfl, nd_X3_then⟩ rfl (Nat.le_of_ble_eq_true rfl) (Nat.le_of_ble_eq_true rfl) [] (Nat.le_of_ble_eq_true rfl) (fun _ => rfl) rfl q1420 q1276 q1277 q103 q1278 hf hl dX6_check_65 (fun x16 h17 hf => ?_)
          refine v_pop C dX6_check_68 rfl ?_
          refine v_aload_n C 0 dX6_check_69 rfl rfl ?_
          refine v_gR (Cn := RX6) (T := TX6) (N := 6) C hf in_X6 rfl (by decide) q470 rfl dX6_check_70 (fun x18 hf => ?_)
          refine v_aload_n C 2 dX6_check_73 rfl rfl ?_
          refine v_gRN (Cn := RX8) (T := TX8) (N := 5) C hf in_X8 rfl (by decide) q448 rfl dX6_check_74 (fun x19 hf => ?_)
          refine v_aload_n C 0 dX6_check_77 rfl rfl ?_
          refine v_gR (Cn := RX6) (T := TX6) (N := 6) C hf in_X6 rfl (by decide) q467 rfl dX6_check_78 (fun x20 hf => ?_)
          refine v_iload C 4 dX6_check_81 rfl ?_
          refine v_aaload C hf (by decide) rfl dX6_check_83 (fun x21 hf => ?_)
          refine v_aload_n C 2 dX6_check_84 rfl rfl ?_
          refine v_gRN (Cn := RX8) (T := TX8) (N := 5) C hf in_X8 rfl (by decide) q450 rfl dX6_check_85 (fun x22 hf => ?_)
          refine v_iload_n C 3 dX6_check_88 rfl rfl ?_
          refine v_iaload C hf dX6_check_89 (fun x23 hf => ?_)
          refine v_callV (stk := fun b => .int b :: [.ref x19, .ref x18]) C (ct_X3_to _ x21 x23) rfl ⟨rfl, nd_X3_to⟩ rfl (Nat.le_of_ble_eq_true rfl) (Nat.le_of_ble_eq_true rfl) [.ref x19, .ref x18] (Nat.le_of_ble_eq_true rfl) (fun _ => rfl) rfl q1399 q646 q2328 q103 q648 hf hl dX6_check_90 (fun x24 h25 hf => ?_)
          refine v_aaload C hf (by decide) rfl dX6_check_93 (fun x26 hf => ?_)
          refine v_callV (stk := fun _ => []) C (ct_X3_thenBack _ x18 x26) rfl ⟨rfl, nd_X3_thenBack⟩ rfl (Nat.le_of_ble_eq_true rfl) (Nat.le_of_ble_eq_true rfl) [] (Nat.le_of_ble_eq_true rfl) (fun _ => rfl) rfl q1425 q1426 q1427 q103 q1428 hf hl dX6_check_94 (fun x27 h28 hf => ?_)
          refine v_aload_n C 0 dX6_check_97 rfl rfl ?_
          refine v_iload_n C 1 dX6_check_98 rfl rfl ?_
          refine v_iconst (x := 1) C dX6_check_99 (by decide) ?_
          refine v_iadd C dX6_check_100 ?_
          refine v_callV (stk := fun b => .int b :: []) C (ct_X6_sift _ a0 (i1 + (1 : Int32))) rfl ⟨rfl, nd_X6_sift⟩ rfl (Nat.le_of_ble_eq_true rfl) (Nat.le_of_ble_eq_true rfl) [] (Nat.le_of_ble_eq_true rfl) (fun _ => rfl) rfl q1429 q1431 qs28 q114 q1432 hf hl dX6_check_101 (fun x29 h30 hf => ?_)
          refine v_istore (ls' := [(5, _), (0, _), (1, _), (2, _), (3, _), (4, _)]) C dX6_check_104 (by decide) rfl ?_
          refine v_iload C 0 dX6_check_106 rfl ?_
          refine v_if_lt C hf (tgt := 122) dX6_check_108 (by decide) (fun c108 hf => ?_) (fun c108 hf => ?_)
          · refine v_iinc (ls' := [(4, _), (5, _), (0, _), (1, _), (2, _), (3, _)]) (y := i4 + (1 : Int32)) C 5 dX6_check_122 rfl rfl (by decide) rfl ?_
            refine v_goto (tgt := 20) C dX6_check_125 (by decide) ?_
            refine v_sub (ls' := _) [2, 3, 4, 5, 0] rfl (ih (i4 + (1 : Int32)) _ _ _ hf hl J hret)
          · refine v_aload_n C 1 dX6_check_111 rfl rfl ?_
            refine v_aload_n C 1 dX6_check_112 rfl rfl ?_
            refine v_gR (Cn := RX6) (T := TX6) (N := 6) C hf in_X6 rfl (by decide) q470 rfl dX6_check_113 (fun x31 hf => ?_)
            refine v_callV (stk := fun _ => []) C (ct_X6_add _ a0 x31) rfl ⟨rfl, nd_X6_add⟩ rfl (Nat.le_of_ble_eq_true rfl) (Nat.le_of_ble_eq_true rfl) [] (Nat.le_of_ble_eq_true rfl) (fun _ => rfl) rfl q1433 q1392 q1393 q114 q1394 hf hl dX6_check_116 (fun x32 h33 hf => ?_)
            refine v_iload C 0 dX6_check_119 rfl ?_
            exact v_iret C E (mret_up hf hret) dX6_check_121
  have L9 : ∀ (a0 : Nat) (i1 : Int32) (a2 : Nat) (n : Nat) (i3 : Int32) (h h1 : Hp) (o : (Unit) ⊕ (Int32)), (l_X6_check_9 a0 i1 a2 n i3).1 h = some (o, h1) → hle h1 he → (∀ b, o = Sum.inl b → V X h1 134 [] []) → (∀ c, o = Sum.inr c → (mret c).1 h1 = some (z, he)) → V X h 9 [(0, .ref a0), (1, .int i1), (2, .ref a2), (3, .int i3)] [] := by
    intro a0 i1 a2 n
    induction n with
    | zero => intro i3 h h1 o hf; exact mfail_inv hf
    | succ n ih =>
      intro i3 h h1 o hf hl J hret
      rw [l_X6_check_9] at hf
      refine v_iload_n C 3 dX6_check_9 rfl rfl ?_
      refine v_aload_n C 2 dX6_check_10 rfl rfl ?_
      refine v_gIN (Cn := RX8) (T := TX8) (N := 5) C hf in_X8 rfl (by decide) q454 rfl dX6_check_11 (fun x3 hf => ?_)
      refine v_icmp_ge C hf (tgt := 134) dX6_check_14 (by decide) (fun c14 hf => ?_) (fun c14 hf => ?_)
      · obtain ⟨e1, rfl⟩ := mret_inv hf
        subst e1
        exact v_sub (ls' := _) [] rfl (J _ rfl)
      · refine v_iconst (x := 0) C dX6_check_17 (by decide) ?_
        refine v_istore (ls' := [(4, _), (0, _), (1, _), (2, _), (3, _)]) C dX6_check_18 (by decide) rfl ?_
        obtain ⟨ox34, h35, eh35, hlh35, hkh35, hrh35⟩ := mbs_inv hf hl
        refine v_sub (ls' := _) [1, 2, 3, 4, 0] rfl (L20 a0 i1 a2 i3 FU (0 : Int32) _ _ _ eh35 hlh35 (fun x34 eo => ?_) (mbs_up hrh35 hret))
        have hf := hkh35 x34 eo
        clear hkh35 hrh35
        refine v_iinc (ls' := [(3, _), (0, _), (1, _), (2, _)]) (y := i3 + (1 : Int32)) C 3 dX6_check_128 rfl rfl (by decide) rfl ?_
        refine v_goto (tgt := 9) C dX6_check_131 (by decide) ?_
        refine v_sub (ls' := _) [1, 2, 3, 0] rfl (ih (i3 + (1 : Int32)) _ _ _ hf hl J hret)
  unfold f_X6_check at hf
  refine v_aload_n C 0 dX6_check_0 rfl rfl ?_
  refine v_gR (Cn := RX6) (T := TX6) (N := 6) C hf in_X6 rfl (by decide) q466 rfl dX6_check_1 (fun x1 hf => ?_)
  refine v_iload_n C 1 dX6_check_4 rfl rfl ?_
  refine v_aaload C hf (by decide) rfl dX6_check_5 (fun x2 hf => ?_)
  refine v_astore_n (ls' := [(2, _), (0, _), (1, _)]) C dX6_check_6 rfl (by decide) rfl ?_
  refine v_iconst (x := 0) C dX6_check_7 (by decide) ?_
  refine v_istore_n (ls' := [(3, _), (2, _), (0, _), (1, _)]) C dX6_check_8 rfl (by decide) rfl ?_
  obtain ⟨ox36, h37, eh37, hlh37, hkh37, hrh37⟩ := mbs_inv hf hl
  refine v_sub (ls' := _) [2, 3, 1, 0] rfl (L9 a0 i1 x2 FU (0 : Int32) _ _ _ eh37 hlh37 (fun x36 eo => ?_) hrh37)
  have hf := hkh37 x36 eo
  clear hkh37 hrh37
  refine v_bipush (x := (-4)) C dX6_check_134 (by decide) ?_
  exact v_iret C E hf dX6_check_136
def f_X6_isMade (a0 : Nat) (a1 : Nat) : hM Int32 :=
  mb (gR a0 6 4) fun x1 => mb (mat x1 3 (f_X3_take x1 a1)) fun x2 => mb (mat a0 6 (f_X6_sift a0 (0 : Int32))) fun x4 => mb (mi (0 ≤ x4) (mret (0 : Int32)) (mret (1 : Int32))) fun x6 => mrt .boolean x6
theorem nd_X6_isMade : yX6_isMade.cls ≠ "java/lang/invoke/MethodHandle" ∧ yX6_isMade.cls ≠ "java/lang/invoke/VarHandle" ∧ (parseMethodDescriptor yX6_isMade.desc).map (fun d => d.parameters.length) = some 1 := by decide +kernel
set_option maxHeartbeats 4000000 in
theorem ct_X6_isMade (l : Launch) (a0 : Nat) (a1 : Nat) : CT l yX6_isMade cX6_isMade 2 (some .boolean) 4 86 rvI [.ref a0, .ref a1] (f_X6_isMade a0 a1) := by
  refine CT_of (ls := [(0, .ref a0), (1, .ref a1)]) (by decide) (Nat.le_of_ble_eq_true rfl) rfl ?_
  intro X h he z hX hf C E hnm hh
  have hl := hle.rf he
  subst hX
  unfold f_X6_isMade at hf
  refine v_aload_n C 0 dX6_isMade_0 rfl rfl ?_
  refine v_gR (Cn := RX6) (T := TX6) (N := 6) C hf in_X6 rfl (by decide) q470 rfl dX6_isMade_1 (fun x1 hf => ?_)
  refine v_aload_n C 1 dX6_isMade_4 rfl rfl ?_
  refine v_callV (stk := fun b => .ref b :: []) C (ct_X3_take _ x1 a1) rfl ⟨rfl, nd_X3_take⟩ rfl (Nat.le_of_ble_eq_true rfl) (Nat.le_of_ble_eq_true rfl) [] (Nat.le_of_ble_eq_true rfl) (fun _ => rfl) rfl q1400 q636 q637 q103 q638 hf hl dX6_isMade_5 (fun x2 h3 hf => ?_)
  refine v_pop C dX6_isMade_8 rfl ?_
  refine v_aload_n C 0 dX6_isMade_9 rfl rfl ?_
  refine v_iconst (x := 0) C dX6_isMade_10 (by decide) ?_
  refine v_callV (stk := fun b => .int b :: []) C (ct_X6_sift _ a0 (0 : Int32)) rfl ⟨rfl, nd_X6_sift⟩ rfl (Nat.le_of_ble_eq_true rfl) (Nat.le_of_ble_eq_true rfl) [] (Nat.le_of_ble_eq_true rfl) (fun _ => rfl) rfl q1429 q1431 qs28 q114 q1432 hf hl dX6_isMade_11 (fun x4 h5 hf => ?_)
  obtain ⟨x6, h7, hAh7, hf, hlh7⟩ := mb_inv hf hl
  refine v_cut (h1 := h7) (pc1 := 22) (ls1 := []) (st1 := [.int x6]) ?_ (fun Jh7 => ?_)
  · clear hAh7 hlh7
    exact v_zret C E hf dX6_isMade_22
  · clear hf
    have hf := hAh7
    have hl := hlh7
    refine v_if_ge C hf (tgt := 21) dX6_isMade_14 (by decide) (fun c14 hf => ?_) (fun c14 hf => ?_)
    · refine v_iconst (x := 0) C dX6_isMade_21 (by decide) ?_
      obtain ⟨e1, rfl⟩ := mret_inv hf
      subst e1
      exact v_sub (ls' := _) [] rfl Jh7
    · refine v_iconst (x := 1) C dX6_isMade_17 (by decide) ?_
      refine v_goto (tgt := 22) C dX6_isMade_18 (by decide) ?_
      obtain ⟨e1, rfl⟩ := mret_inv hf
      subst e1
      exact v_sub (ls' := _) [] rfl Jh7
def l_X6_first_76 (a0 : Nat) (a1 : Nat) (i2 : Int32) (a3 : Nat) (i4 : Int32) (a5 : Nat) : Nat → Int32 → Int32 → hM (Int32)
  | 0, _, _ => mfail
  | n + 1, i6, i7 => mb (gI a5 8 4) fun x15 => mi (x15 ≤ i7) (mret i6) (mi (i4 < i2) (mret i6) (mb (gR a5 8 2) fun x16 => mb (aI 1 x16 i7) fun x17 => mb (mat a3 3 (f_X3_to a3 x17)) fun x18 => mb (mat a3 3 (f_X3_to a3 i6)) fun x20 => mb (mi (x20 ≤ x18) (mret i6) (mb (gR a5 8 2) fun x24 => mb (aI 1 x24 i7) fun x25 => mret x25)) fun x22 => l_X6_first_76 a0 a1 i2 a3 i4 a5 n x22 (i7 + (1 : Int32))))
def l_X6_first_18 (a0 : Nat) (a1 : Nat) (i2 : Int32) (a3 : Nat) : Nat → Int32 → hM ((Unit) ⊕ (Option Nat))
  | 0, _ => mfail
  | n + 1, i4 => mi ((24 : Int32) ≤ i4) (mret (Sum.inl ())) (mb (gR a0 6 0) fun x8 => mb (aR 7 x8 i4) fun x9 => mb (mi (i2 ≤ i4) (mb (gI x9 8 0) fun x32 => mret x32) (mb (aI 1 a1 i4) fun x33 => mb (mat a3 3 (f_X3_from a3 x33)) fun x34 => mret x34)) fun x10 => mb (gI x9 8 3) fun x12 => mb (f_X0_has x12 x10) fun x13 => mi (¬ x13 = 0) (mb (l_X6_first_76 a0 a1 i2 a3 i4 x9 FU x10 (0 : Int32)) fun x26 => mb (gR x9 8 1) fun x28 => mb (aR 6 x28 x26) fun x29 => mb (mat a3 3 (f_X3_behind a3 x29)) fun _ => l_X6_first_18 a0 a1 i2 a3 n (i4 + (1 : Int32))) (mret (Sum.inr none)))
def f_X6_first (a0 : Nat) (a1 : Nat) (i2 : Int32) : hM (Option Nat) :=
  mb (newO 3 2 [.null, .null]) fun x1 => mb (f_X3_init x1) fun _ => mb (gR a0 6 5) fun x5 => mb (mat x1 3 (f_X3_take x1 x5)) fun x6 => mbs (l_X6_first_18 a0 a1 i2 x6 FU (0 : Int32)) (fun x36 => mret (some x6)) id
theorem nd_X6_first : yX6_first.cls ≠ "java/lang/invoke/MethodHandle" ∧ yX6_first.cls ≠ "java/lang/invoke/VarHandle" ∧ (parseMethodDescriptor yX6_first.desc).map (fun d => d.parameters.length) = some 2 := by decide +kernel
set_option maxHeartbeats 4000000 in
theorem ct_X6_first (l : Launch) (a0 : Nat) (a1 : Nat) (i2 : Int32) : CT l yX6_first cX6_first 8 (some (.object "EightBlocks$Move")) 4 86 rvQ [.ref a0, .ref a1, .int i2] (f_X6_first a0 a1 i2) := by
  refine CT_of (ls := [(0, .ref a0), (1, .ref a1), (2, .int i2)]) (by decide) (Nat.le_of_ble_eq_true rfl) rfl ?_
  intro X h he z hX hf C E hnm hh
  have hl := hle.rf he
  subst hX
  have L76 : ∀ (a0 : Nat) (a1 : Nat) (i2 : Int32) (a3 : Nat) (i4 : Int32) (a5 : Nat) (n : Nat) (i6 : Int32) (i7 : Int32) (h h1 : Hp) (o : Int32), (l_X6_first_76 a0 a1 i2 a3 i4 a5 n i6 i7).1 h = some (o, h1) → hle h1 he → V X h1 134 [(0, .ref a0), (1, .ref a1), (2, .int i2), (3, .ref a3), (4, .int i4), (5, .ref a5), (6, .int o)] [] → V X h 76 [(0, .ref a0), (1, .ref a1), (2, .int i2), (3, .ref a3), (4, .int i4), (5, .ref a5), (6, .int i6), (7, .int i7)] [] := by
    intro a0 a1 i2 a3 i4 a5 n
    induction n with
    | zero => intro i6 i7 h h1 o hf; exact mfail_inv hf
    | succ n ih =>
      intro i6 i7 h h1 o hf hl J
      rw [l_X6_first_76] at hf
      refine v_iload C 7 dX6_first_76 rfl ?_
      refine v_aload C 5 dX6_first_78 rfl ?_
      refine v_gIN (Cn := RX8) (T := TX8) (N := 5) C hf in_X8 rfl (by decide) q454 rfl dX6_first_80 (fun x15 hf => ?_)
      refine v_icmp_ge C hf (tgt := 134) dX6_first_83 (by decide) (fun c83 hf => ?_) (fun c83 hf => ?_)
      · obtain ⟨e1, rfl⟩ := mret_inv hf
        subst e1
        exact v_sub (ls' := _) [0, 1, 2, 3, 4, 5, 6] rfl J
      · refine v_iload C 4 dX6_first_86 rfl ?_
        refine v_iload_n C 2 dX6_first_88 rfl rfl ?_
        refine v_icmp_lt C hf (tgt := 134) dX6_first_89 (by decide) (fun c89 hf => ?_) (fun c89 hf => ?_)
        · obtain ⟨e1, rfl⟩ := mret_inv hf
          subst e1
          exact v_sub (ls' := _) [0, 1, 2, 3, 4, 5, 6] rfl J
        · refine v_aload_n C 3 dX6_first_92 rfl rfl ?_
          refine v_aload C 5 dX6_first_93 rfl ?_
          refine v_gRN (Cn := RX8) (T := TX8) (N := 5) C hf in_X8 rfl (by decide) q450 rfl dX6_first_95 (fun x16 hf => ?_)
          refine v_iload C 7 dX6_first_98 rfl ?_
          refine v_iaload C hf dX6_first_100 (fun x17 hf => ?_)
          refine v_callV (stk := fun b => .int b :: []) C (ct_X3_to _ a3 x17) rfl ⟨rfl, nd_X3_to⟩ rfl (Nat.le_of_ble_eq_true rfl) (Nat.le_of_ble_eq_true rfl) [] (Nat.le_of_ble_eq_true rfl) (fun _ => rfl) rfl q1399 q646 q2328 q103 q648 hf hl dX6_first_101 (fun x18 h19 hf => ?_)
          refine v_aload_n C 3 dX6_first_104 rfl rfl ?_
          refine v_iload C 6 dX6_first_105 rfl ?_
          refine v_callV (stk := fun b => .int b :: [.int x18]) C (ct_X3_to _ a3 i6) rfl ⟨rfl, nd_X3_to⟩ rfl (Nat.le_of_ble_eq_true rfl) (Nat.le_of_ble_eq_true rfl) [.int x18] (Nat.le_of_ble_eq_true rfl) (fun _ => rfl) rfl q1399 q646 q2328 q103 q648 hf hl dX6_first_107 (fun x20 h21 hf => ?_)
          obtain ⟨x22, h23, hAh23, hf, hlh23⟩ := mb_inv hf hl
          refine v_cut (h1 := h23) (pc1 := 126) (ls1 := [(0, .ref a0), (1, .ref a1), (2, .int i2), (3, .ref a3), (4, .int i4), (5, .ref a5), (7, .int i7)]) (st1 := [.int x22]) ?_ (fun Jh23 => ?_)
          · clear hAh23 hlh23
            refine v_istore (ls' := [(6, _), (0, _), (1, _), (2, _), (3, _), (4, _), (5, _), (7, _)]) C dX6_first_126 (by decide) rfl ?_
            refine v_iinc (ls' := [(7, _), (6, _), (0, _), (1, _), (2, _), (3, _), (4, _), (5, _)]) (y := i7 + (1 : Int32)) C 7 dX6_first_128 rfl rfl (by decide) rfl ?_
            refine v_goto (tgt := 76) C dX6_first_131 (by decide) ?_
            refine v_sub (ls' := _) [2, 3, 4, 5, 6, 7, 1, 0] rfl (ih x22 (i7 + (1 : Int32)) _ _ _ hf hl J)
          · clear hf
            have hf := hAh23
            have hl := hlh23
            refine v_icmp_ge C hf (tgt := 124) dX6_first_110 (by decide) (fun c110 hf => ?_) (fun c110 hf => ?_)
            · refine v_iload C 6 dX6_first_124 rfl ?_
              obtain ⟨e1, rfl⟩ := mret_inv hf
              subst e1
              exact v_sub (ls' := _) [0, 1, 2, 3, 4, 5, 7] rfl Jh23
            · refine v_aload C 5 dX6_first_113 rfl ?_
              refine v_gRN (Cn := RX8) (T := TX8) (N := 5) C hf in_X8 rfl (by decide) q450 rfl dX6_first_115 (fun x24 hf => ?_)
              refine v_iload C 7 dX6_first_118 rfl ?_
              refine v_iaload C hf dX6_first_120 (fun x25 hf => ?_)
              refine v_goto (tgt := 126) C dX6_first_121 (by decide) ?_
              obtain ⟨e1, rfl⟩ := mret_inv hf
              subst e1
              exact v_sub (ls' := _) [0, 1, 2, 3, 4, 5, 7] rfl Jh23
  have L18 : ∀ (a0 : Nat) (a1 : Nat) (i2 : Int32) (a3 : Nat) (n : Nat) (i4 : Int32) (h h1 : Hp) (o : (Unit) ⊕ (Option Nat)), (l_X6_first_18 a0 a1 i2 a3 n i4).1 h = some (o, h1) → hle h1 he → (∀ b, o = Sum.inl b → V X h1 152 [(3, .ref a3)] []) → (∀ c, o = Sum.inr c → (mret c).1 h1 = some (z, he)) → V X h 18 [(0, .ref a0), (1, .ref a1), (2, .int i2), (3, .ref a3), (4, .int i4)] [] := by
    intro a0 a1 i2 a3 n
    induction n with
    | zero => intro i4 h h1 o hf; exact mfail_inv hf
    | succ n ih =>
      intro i4 h h1 o hf hl J hret
      rw [l_X6_first_18] at hf
      refine v_iload C 4 dX6_first_18 rfl ?_
      refine v_bipush (x := 24) C dX6_first_20 (by decide) ?_
      refine v_icmp_ge C hf (tgt := 152) dX6_first_22 (by decide) (fun c22 hf => ?_) (fun c22 hf => ?_)
      · obtain ⟨e1, rfl⟩ := mret_inv hf
        subst e1
        exact v_sub (ls' := _) [3] rfl (J _ rfl)
      · refine v_aload_n C 0 dX6_first_25 rfl rfl ?_
        refine v_gR (Cn := RX6) (T := TX6) (N := 6) C hf in_X6 rfl (by decide) q466 rfl dX6_first_26 (fun x8 hf => ?_)
        refine v_iload C 4 dX6_first_29 rfl ?_
        refine v_aaload C hf (by decide) rfl dX6_first_31 (fun x9 hf => ?_)
        refine v_astore (ls' := [(5, _), (0, _), (1, _), (2, _), (3, _), (4, _)]) C dX6_first_32 (by decide) rfl ?_
        refine v_iload C 5 dX6_first_34 rfl ?_
        refine v_iload_n C 3 dX6_first_36 rfl rfl ?_
        obtain ⟨x10, h11, hAh11, hf, hlh11⟩ := mb_inv hf hl
        refine v_cut (h1 := h11) (pc1 := 56) (ls1 := [(0, .ref a0), (1, .ref a1), (2, .int i2), (3, .ref a3), (4, .int i4), (5, .ref x9)]) (st1 := [.int x10]) ?_ (fun Jh11 => ?_)
        · clear hAh11 hlh11
          refine v_istore (ls' := [(6, _), (0, _), (1, _), (2, _), (3, _), (4, _), (5, _)]) C dX6_first_56 (by decide) rfl ?_
          refine v_aload C 6 dX6_first_58 rfl ?_
          refine v_gIN (Cn := RX8) (T := TX8) (N := 5) C hf in_X8 rfl (by decide) q452 rfl dX6_first_60 (fun x12 hf => ?_)
          refine v_iload C 0 dX6_first_63 rfl ?_
          refine v_callSN (stk := fun b => .int b :: []) C (ct_X0_has _ x12 x10) nd_X0_has rfl (Nat.le_of_ble_eq_true rfl) (Nat.le_of_ble_eq_true rfl) [] (Nat.le_of_ble_eq_true rfl) (fun _ => rfl) rfl q1390 q164 q96 q165 hf hl dX6_first_65 (fun x13 h14 hf => ?_)
          refine v_if_ne C hf (tgt := 73) dX6_first_68 (by decide) (fun c68 hf => ?_) (fun c68 hf => ?_)
          · refine v_iconst (x := 0) C dX6_first_73 (by decide) ?_
            refine v_istore (ls' := [(7, _), (6, _), (0, _), (1, _), (2, _), (3, _), (4, _), (5, _)]) C dX6_first_74 (by decide) rfl ?_
            obtain ⟨x26, h27, eh27, hf, hlh27⟩ := mb_inv hf hl
            refine v_sub (ls' := _) [2, 3, 4, 5, 6, 7, 1, 0] rfl (L76 a0 a1 i2 a3 i4 x9 FU x10 (0 : Int32) _ _ _ eh27 hlh27 ?_)
            refine v_aload_n C 3 dX6_first_134 rfl rfl ?_
            refine v_aload C 5 dX6_first_135 rfl ?_
            refine v_gRN (Cn := RX8) (T := TX8) (N := 5) C hf in_X8 rfl (by decide) q448 rfl dX6_first_137 (fun x28 hf => ?_)
            refine v_iload C 6 dX6_first_140 rfl ?_
            refine v_aaload C hf (by decide) rfl dX6_first_142 (fun x29 hf => ?_)
            refine v_callV (stk := fun _ => []) C (ct_X3_behind _ a3 x29) rfl ⟨rfl, nd_X3_behind⟩ rfl (Nat.le_of_ble_eq_true rfl) (Nat.le_of_ble_eq_true rfl) [] (Nat.le_of_ble_eq_true rfl) (fun _ => rfl) rfl q1680 q1681 q1682 q103 q1683 hf hl dX6_first_143 (fun x30 h31 hf => ?_)
            refine v_iinc (ls' := [(4, _), (0, _), (1, _), (2, _), (3, _), (5, _), (6, _)]) (y := i4 + (1 : Int32)) C 4 dX6_first_146 rfl rfl (by decide) rfl ?_
            refine v_goto (tgt := 18) C dX6_first_149 (by decide) ?_
            refine v_sub (ls' := _) [1, 2, 3, 4, 0] rfl (ih (i4 + (1 : Int32)) _ _ _ hf hl J hret)
          · refine v_null C dX6_first_71 ?_
            exact v_aretQ (x := none) C E (mret_up hf hret) (Or.inl ⟨_, rfl⟩) dX6_first_72
        · clear hf
          have hf := hAh11
          have hl := hlh11
          refine v_icmp_ge C hf (tgt := 51) dX6_first_37 (by decide) (fun c37 hf => ?_) (fun c37 hf => ?_)
          · refine v_aload C 0 dX6_first_51 rfl ?_
            refine v_gIN (Cn := RX8) (T := TX8) (N := 5) C hf in_X8 rfl (by decide) q446 rfl dX6_first_53 (fun x32 hf => ?_)
            obtain ⟨e1, rfl⟩ := mret_inv hf
            subst e1
            exact v_sub (ls' := _) [1, 2, 3, 4, 5, 0] rfl Jh11
          · refine v_aload_n C 4 dX6_first_40 rfl rfl ?_
            refine v_aload_n C 2 dX6_first_41 rfl rfl ?_
            refine v_iload C 5 dX6_first_42 rfl ?_
            refine v_iaload C hf dX6_first_44 (fun x33 hf => ?_)
            refine v_callV (stk := fun b => .int b :: []) C (ct_X3_from _ a3 x33) rfl ⟨rfl, nd_X3_from⟩ rfl (Nat.le_of_ble_eq_true rfl) (Nat.le_of_ble_eq_true rfl) [] (Nat.le_of_ble_eq_true rfl) (fun _ => rfl) rfl q1676 q1677 q1678 q103 q1679 hf hl dX6_first_45 (fun x34 h35 hf => ?_)
            refine v_goto (tgt := 56) C dX6_first_48 (by decide) ?_
            obtain ⟨e1, rfl⟩ := mret_inv hf
            subst e1
            exact v_sub (ls' := _) [1, 2, 3, 4, 5, 0] rfl Jh11
  unfold f_X6_first at hf
  refine v_new (Cn := RX3) (T := TX3) (N := 2) (ty0 := tyX3) C hf hl in_X3 tyX3_ok rfl q430 q243 q103 dvX3 dX6_first_0 (fun x1 h2 hf => ?_)
  refine v_dup C dX6_first_3 rfl ?_
  refine v_callIN (stk := fun _ => [.ref x1]) C (ct_X3_init _ x1) nd_X3_init rfl (Nat.le_of_ble_eq_true rfl) (Nat.le_of_ble_eq_true rfl) [.ref x1] (Nat.le_of_ble_eq_true rfl) (fun _ => rfl) rfl rfl q431 q245 q103 q246 hf hl dX6_first_4 (fun x3 h4 hf => ?_)
  refine v_aload_n C 0 dX6_first_7 rfl rfl ?_
  refine v_gR (Cn := RX6) (T := TX6) (N := 6) C hf in_X6 rfl (by decide) q471 rfl dX6_first_8 (fun x5 hf => ?_)
  refine v_callV (stk := fun b => .ref b :: []) C (ct_X3_take _ x1 x5) rfl ⟨rfl, nd_X3_take⟩ rfl (Nat.le_of_ble_eq_true rfl) (Nat.le_of_ble_eq_true rfl) [] (Nat.le_of_ble_eq_true rfl) (fun _ => rfl) rfl q1400 q636 q637 q103 q638 hf hl dX6_first_11 (fun x6 h7 hf => ?_)
  refine v_astore_n (ls' := [(3, _), (0, _), (1, _), (2, _)]) C dX6_first_14 rfl (by decide) rfl ?_
  refine v_iconst (x := 0) C dX6_first_15 (by decide) ?_
  refine v_istore (ls' := [(4, _), (3, _), (0, _), (1, _), (2, _)]) C dX6_first_16 (by decide) rfl ?_
  obtain ⟨ox36, h37, eh37, hlh37, hkh37, hrh37⟩ := mbs_inv hf hl
  refine v_sub (ls' := _) [2, 3, 4, 1, 0] rfl (L18 a0 a1 i2 x6 FU (0 : Int32) _ _ _ eh37 hlh37 (fun x36 eo => ?_) hrh37)
  have hf := hkh37 x36 eo
  clear hkh37 hrh37
  refine v_aload_n C 0 dX6_first_152 rfl rfl ?_
  exact v_aretQ (x := some x6) C E hf (Or.inl ⟨_, rfl⟩) dX6_first_153
def f_X8_begin (a0 : Nat) (a1 : Nat) : hM Unit :=
  mb (pF a0 8 3 (.int (0 : Int32))) fun _ => mb (pF a0 8 4 (.int (0 : Int32))) fun _ => mb (gI a0 8 0) fun x3 => mb (mat a0 8 (f_X8_reach a0 x3)) fun x4 => mb (mat x4 3 (f_X3_take x4 a1)) fun x6 => mret ()
theorem nd_X8_begin : yX8_begin.cls ≠ "java/lang/invoke/MethodHandle" ∧ yX8_begin.cls ≠ "java/lang/invoke/VarHandle" ∧ (parseMethodDescriptor yX8_begin.desc).map (fun d => d.parameters.length) = some 1 := by decide +kernel
set_option maxHeartbeats 4000000 in
theorem ct_X8_begin (l : Launch) (a0 : Nat) (a1 : Nat) : CT l yX8_begin cX8_begin 2 none 4 86 rv0 [.ref a0, .ref a1] (f_X8_begin a0 a1) := by
  refine CT_of (ls := [(0, .ref a0), (1, .ref a1)]) (by decide) (Nat.le_of_ble_eq_true rfl) rfl ?_
  intro X h he z hX hf C E hnm hh
  have hl := hle.rf he
  subst hX
  unfold f_X8_begin at hf
  refine v_aload_n C 0 dX8_begin_0 rfl rfl ?_
  refine v_iconst (x := 0) C dX8_begin_1 (by decide) ?_
  refine v_putv (Cn := RX8) (T := TX8) (N := 5) (ty0 := tyX8) C hf in_X8 tyX8_ok nmX8 rfl (by decide) q451 rfl rfl rfl rfl dX8_begin_2 (fun h1 hf => ?_)
  refine v_aload_n C 0 dX8_begin_5 rfl rfl ?_
  refine v_iconst (x := 0) C dX8_begin_6 (by decide) ?_
  refine v_putv (Cn := RX8) (T := TX8) (N := 5) (ty0 := tyX8) C hf in_X8 tyX8_ok nmX8 rfl (by decide) q453 rfl rfl rfl rfl dX8_begin_7 (fun h2 hf => ?_)
  refine v_aload_n C 0 dX8_begin_10 rfl rfl ?_
  refine v_aload_n C 0 dX8_begin_11 rfl rfl ?_
  refine v_gI (Cn := RX8) (T := TX8) (N := 5) C hf in_X8 rfl (by decide) q445 rfl dX8_begin_12 (fun x3 hf => ?_)
  refine v_callV (stk := fun b => .ref b :: []) C (ct_X8_reach _ a0 x3) rfl ⟨rfl, nd_X8_reach⟩ rfl (Nat.le_of_ble_eq_true rfl) (Nat.le_of_ble_eq_true rfl) [] (Nat.le_of_ble_eq_true rfl) (fun _ => rfl) rfl q1413 q1414 q1415 q116 q1416 hf hl dX8_begin_15 (fun x4 h5 hf => ?_)
  refine v_aload_n C 1 dX8_begin_18 rfl rfl ?_
  refine v_callV (stk := fun b => .ref b :: []) C (ct_X3_take _ x4 a1) rfl ⟨rfl, nd_X3_take⟩ rfl (Nat.le_of_ble_eq_true rfl) (Nat.le_of_ble_eq_true rfl) [] (Nat.le_of_ble_eq_true rfl) (fun _ => rfl) rfl q1418 q636 q637 q103 q638 hf hl dX8_begin_19 (fun x6 h7 hf => ?_)
  refine v_pop C dX8_begin_22 rfl ?_
  exact v_vret C E hf dX8_begin_23
def f_J11_hashCode (a0 : Nat) : hM Int32 :=
  mb (alen 0 a0) fun x1 => mb (mi (x1 = 0) (mret (0 : Int32)) (mi (x1 = 1) (mb (aI 0 a0 (0 : Int32)) fun x4 => mret (x4 &&& (255 : Int32))) (mb (alen 0 a0) fun x5 => mb (f_J12_vectorizedHashCode a0 (0 : Int32) x5 (0 : Int32) (4 : Int32)) fun x6 => mret x6))) fun x2 => mret x2
theorem nd_J11_hashCode : yJ11_hashCode.cls ≠ "java/lang/invoke/MethodHandle" ∧ yJ11_hashCode.cls ≠ "java/lang/invoke/VarHandle" ∧ (parseMethodDescriptor yJ11_hashCode.desc).map (fun d => d.parameters.length) = some 1 := by decide +kernel
set_option maxHeartbeats 4000000 in
theorem ct_J11_hashCode (l : Launch) (a0 : Nat) : CT l yJ11_hashCode cJ11_hashCode 1 (some .int) 2 49 rvI [.ref a0] (f_J11_hashCode a0) := by
  refine CT_of (ls := [(0, .ref a0)]) (by decide) (Nat.le_of_ble_eq_true rfl) rfl ?_
  intro X h he z hX hf C E hnm hh
  have hl := hle.rf he
  subst hX
  unfold f_J11_hashCode at hf
  refine v_aload_n C 0 dJ11_hashCode_0 rfl rfl ?_
  refine v_alen C hf (by decide) dJ11_hashCode_1 (fun x1 hf => ?_)
  obtain ⟨x2, h3, hAh3, hf, hlh3⟩ := mb_inv hf hl
  refine v_cut (h1 := h3) (pc1 := 51) (ls1 := []) (st1 := [.int x2]) ?_ (fun Jh3 => ?_)
  · clear hAh3 hlh3
    exact v_iret C E hf dJ11_hashCode_51
  · clear hf
    have hf := hAh3
    have hl := hlh3
    by_cases e2_0 : x1 = 0
    · have hf := mi_pos e2_0 hf
      refine v_lswI C (k := 0) e2_0 dJ11_hashCode_2 (by decide) rfl (tgt := 28) (by decide) ?_
      refine v_iconst (x := 0) C dJ11_hashCode_28 (by decide) ?_
      refine v_goto (tgt := 51) C dJ11_hashCode_29 (by decide) ?_
      obtain ⟨e1, rfl⟩ := mret_inv hf
      subst e1
      exact v_sub (ls' := _) [] rfl Jh3
    have hf := mi_neg e2_0 hf
    by_cases e2_1 : x1 = 1
    · have hf := mi_pos e2_1 hf
      refine v_lswI C (k := 1) e2_1 dJ11_hashCode_2 (by decide) rfl (tgt := 32) (by decide) ?_
      refine v_aload_n C 0 dJ11_hashCode_32 rfl rfl ?_
      refine v_iconst (x := 0) C dJ11_hashCode_33 (by decide) ?_
      refine v_baload C hf dJ11_hashCode_34 (fun x4 hf => ?_)
      refine v_sipush (x := 255) C dJ11_hashCode_35 (by decide) ?_
      refine v_iand C dJ11_hashCode_38 ?_
      refine v_goto (tgt := 51) C dJ11_hashCode_39 (by decide) ?_
      obtain ⟨e1, rfl⟩ := mret_inv hf
      subst e1
      exact v_sub (ls' := _) [] rfl Jh3
    have hf := mi_neg e2_1 hf
    refine v_lswO C dJ11_hashCode_2 ⟨lv_neT e2_0 (by decide), lv_neT e2_1 (by decide), trivial⟩ (by decide) (tgt := 42) (by decide) ?_
    refine v_aload_n C 0 dJ11_hashCode_42 rfl rfl ?_
    refine v_iconst (x := 0) C dJ11_hashCode_43 (by decide) ?_
    refine v_aload_n C 0 dJ11_hashCode_44 rfl rfl ?_
    refine v_alen C hf (by decide) dJ11_hashCode_45 (fun x5 hf => ?_)
    refine v_iconst (x := 0) C dJ11_hashCode_46 (by decide) ?_
    refine v_iconst (x := 4) C dJ11_hashCode_47 (by decide) ?_
    refine v_callS (stk := fun b => .int b :: []) C (ct_J12_vectorizedHashCode _ a0 (0 : Int32) x5 (0 : Int32) (4 : Int32)) nd_J12_vectorizedHashCode rfl (Nat.le_of_ble_eq_true rfl) (Nat.le_of_ble_eq_true rfl) [] (Nat.le_of_ble_eq_true rfl) (fun _ => rfl) rfl q535 q536 q121 q537 hf hl dJ11_hashCode_48 (fun x6 h7 hf => ?_)
    obtain ⟨e1, rfl⟩ := mret_inv hf
    subst e1
    exact v_sub (ls' := _) [] rfl Jh3
def f_J11_inflate (a0 : Nat) (i1 : Int32) (a2 : Nat) (i3 : Int32) (i4 : Int32) : hM Unit :=
  mb (f_J6_inflate a0 i1 a2 i3 i4) fun _ => mret ()
theorem nd_J11_inflate : yJ11_inflate.cls ≠ "java/lang/invoke/MethodHandle" ∧ yJ11_inflate.cls ≠ "java/lang/invoke/VarHandle" ∧ (parseMethodDescriptor yJ11_inflate.desc).map (fun d => d.parameters.length) = some 5 := by decide +kernel
set_option maxHeartbeats 4000000 in
theorem ct_J11_inflate (l : Launch) (a0 : Nat) (i1 : Int32) (a2 : Nat) (i3 : Int32) (i4 : Int32) : CT l yJ11_inflate cJ11_inflate 5 none 3 69 rv0 [.ref a0, .int i1, .ref a2, .int i3, .int i4] (f_J11_inflate a0 i1 a2 i3 i4) := by
  refine CT_of (ls := [(0, .ref a0), (1, .int i1), (2, .ref a2), (3, .int i3), (4, .int i4)]) (by decide) (Nat.le_of_ble_eq_true rfl) rfl ?_
  intro X h he z hX hf C E hnm hh
  have hl := hle.rf he
  subst hX
  unfold f_J11_inflate at hf
  refine v_aload_n C 0 dJ11_inflate_0 rfl rfl ?_
  refine v_iload_n C 1 dJ11_inflate_1 rfl rfl ?_
  refine v_aload_n C 2 dJ11_inflate_2 rfl rfl ?_
  refine v_iload_n C 3 dJ11_inflate_3 rfl rfl ?_
  refine v_iload C 4 dJ11_inflate_4 rfl ?_
  refine v_callS (stk := fun _ => []) C (ct_J6_inflate _ a0 i1 a2 i3 i4) nd_J6_inflate rfl (Nat.le_of_ble_eq_true rfl) (Nat.le_of_ble_eq_true rfl) [] (Nat.le_of_ble_eq_true rfl) (fun _ => rfl) rfl q964 q965 q108 q966 hf hl dJ11_inflate_6 (fun x1 h2 hf => ?_)
  exact v_vret C E hf dJ11_inflate_9
def f_J11_fillNull (a0 : Nat) (i1 : Int32) (i2 : Int32) : hM Unit :=
  mb (f_J2_fill_2 a0 i1 i2 (0 : Int32)) fun _ => mret ()
theorem nd_J11_fillNull : yJ11_fillNull.cls ≠ "java/lang/invoke/MethodHandle" ∧ yJ11_fillNull.cls ≠ "java/lang/invoke/VarHandle" ∧ (parseMethodDescriptor yJ11_fillNull.desc).map (fun d => d.parameters.length) = some 3 := by decide +kernel
set_option maxHeartbeats 4000000 in
theorem ct_J11_fillNull (l : Launch) (a0 : Nat) (i1 : Int32) (i2 : Int32) : CT l yJ11_fillNull cJ11_fillNull 3 none 2 46 rv0 [.ref a0, .int i1, .int i2] (f_J11_fillNull a0 i1 i2) := by
  refine CT_of (ls := [(0, .ref a0), (1, .int i1), (2, .int i2)]) (by decide) (Nat.le_of_ble_eq_true rfl) rfl ?_
  intro X h he z hX hf C E hnm hh
  have hl := hle.rf he
  subst hX
  unfold f_J11_fillNull at hf
  refine v_aload_n C 0 dJ11_fillNull_0 rfl rfl ?_
  refine v_iload_n C 1 dJ11_fillNull_1 rfl rfl ?_
  refine v_iload_n C 2 dJ11_fillNull_2 rfl rfl ?_
  refine v_iconst (x := 0) C dJ11_fillNull_3 (by decide) ?_
  refine v_callS (stk := fun _ => []) C (ct_J2_fill_2 _ a0 i1 i2 (0 : Int32)) nd_J2_fill_2 rfl (Nat.le_of_ble_eq_true rfl) (Nat.le_of_ble_eq_true rfl) [] (Nat.le_of_ble_eq_true rfl) (fun _ => rfl) rfl q1319 q1320 q101 q1321 hf hl dJ11_fillNull_4 (fun x1 h2 hf => ?_)
  exact v_vret C E hf dJ11_fillNull_7
def f_J2_copyOfRange (a0 : Nat) (i1 : Int32) (i2 : Int32) : hM Nat :=
  mi (¬ i1 = 0) (mb (f_J2_copyOfRangeByte a0 i1 i2) fun x1 => mret x1) (mb (alen 0 a0) fun x3 => mi (i2 = x3) (mb (clB a0) fun x4 => mb (mca 0 x4) fun _ => mret x4) (mb (f_J2_copyOfRangeByte a0 i1 i2) fun x6 => mret x6))
theorem nd_J2_copyOfRange : yJ2_copyOfRange.cls ≠ "java/lang/invoke/MethodHandle" ∧ yJ2_copyOfRange.cls ≠ "java/lang/invoke/VarHandle" ∧ (parseMethodDescriptor yJ2_copyOfRange.desc).map (fun d => d.parameters.length) = some 3 := by decide +kernel
set_option maxHeartbeats 4000000 in
theorem ct_J2_copyOfRange (l : Launch) (a0 : Nat) (i1 : Int32) (i2 : Int32) : CT l yJ2_copyOfRange cJ2_copyOfRange 3 (some (.array .byte)) 2 45 rvR [.ref a0, .int i1, .int i2] (f_J2_copyOfRange a0 i1 i2) := by
  refine CT_of (ls := [(0, .ref a0), (1, .int i1), (2, .int i2)]) (by decide) (Nat.le_of_ble_eq_true rfl) rfl ?_
  intro X h he z hX hf C E hnm hh
  have hl := hle.rf he
  subst hX
  unfold f_J2_copyOfRange at hf
  refine v_iload_n C 1 dJ2_copyOfRange_0 rfl rfl ?_
  refine v_if_ne C hf (tgt := 10) dJ2_copyOfRange_1 (by decide) (fun c1 hf => ?_) (fun c1 hf => ?_)
  · refine v_aload_n C 0 dJ2_copyOfRange_10 rfl rfl ?_
    refine v_iload_n C 1 dJ2_copyOfRange_11 rfl rfl ?_
    refine v_iload_n C 2 dJ2_copyOfRange_12 rfl rfl ?_
    refine v_callS (stk := fun b => .ref b :: []) C (ct_J2_copyOfRangeByte _ a0 i1 i2) nd_J2_copyOfRangeByte rfl (Nat.le_of_ble_eq_true rfl) (Nat.le_of_ble_eq_true rfl) [] (Nat.le_of_ble_eq_true rfl) (fun _ => rfl) rfl q1037 q1038 q101 q1039 hf hl dJ2_copyOfRange_13 (fun x1 h2 hf => ?_)
    exact v_aret C E hf (Or.inr ⟨_, rfl⟩) dJ2_copyOfRange_16
  · refine v_iload_n C 2 dJ2_copyOfRange_4 rfl rfl ?_
    refine v_aload_n C 0 dJ2_copyOfRange_5 rfl rfl ?_
    refine v_alen C hf (by decide) dJ2_copyOfRange_6 (fun x3 hf => ?_)
    refine v_icmp_eq C hf (tgt := 17) dJ2_copyOfRange_7 (by decide) (fun c7 hf => ?_) (fun c7 hf => ?_)
    · refine v_aload_n C 0 dJ2_copyOfRange_17 rfl rfl ?_
      refine v_clB C hf hl (Nat.le_of_ble_eq_true rfl) (Nat.le_of_ble_eq_true rfl) q907 q908 q909 q910 q911 q912 dJ2_copyOfRange_18 (fun x4 h5 hf => ?_)
      refine v_casta (kd := 0) C hf (by simp [kd4]) q913 dJ2_copyOfRange_21 (fun hf => ?_)
      exact v_aret C E hf (Or.inr ⟨_, rfl⟩) dJ2_copyOfRange_24
    · refine v_aload_n C 0 dJ2_copyOfRange_10 rfl rfl ?_
      refine v_iload_n C 1 dJ2_copyOfRange_11 rfl rfl ?_
      refine v_iload_n C 2 dJ2_copyOfRange_12 rfl rfl ?_
      refine v_callS (stk := fun b => .ref b :: []) C (ct_J2_copyOfRangeByte _ a0 i1 i2) nd_J2_copyOfRangeByte rfl (Nat.le_of_ble_eq_true rfl) (Nat.le_of_ble_eq_true rfl) [] (Nat.le_of_ble_eq_true rfl) (fun _ => rfl) rfl q1037 q1038 q101 q1039 hf hl dJ2_copyOfRange_13 (fun x6 h7 hf => ?_)
      exact v_aret C E hf (Or.inr ⟨_, rfl⟩) dJ2_copyOfRange_16
def f_J3_init (a0 : Nat) (i1 : Int32) : hM Unit :=
  mb (mi ((1 : Int32) = 0) (mb (f_J6_newBytesFor i1) fun x2 => mb (pF a0 19 0 (.ref x2)) fun _ => mb (pN .byte a0 19 1 (1 : Int32)) fun _ => mret ()) (mb (newA 0 i1) fun x6 => mb (pF a0 19 0 (.ref x6)) fun _ => mb (pN .byte a0 19 1 (0 : Int32)) fun _ => mret ())) fun _ => mret ()
theorem nd_J3_init : yJ3_init.cls ≠ "java/lang/invoke/MethodHandle" ∧ yJ3_init.cls ≠ "java/lang/invoke/VarHandle" ∧ (parseMethodDescriptor yJ3_init.desc).map (fun d => d.parameters.length) = some 1 := by decide +kernel
set_option maxHeartbeats 4000000 in
theorem ct_J3_init (l : Launch) (a0 : Nat) (i1 : Int32) : CT l yJ3_init cJ3_init 2 none 2 40 rv0 [.ref a0, .int i1] (f_J3_init a0 i1) := by
  refine CT_of (ls := [(0, .ref a0), (1, .int i1)]) (by decide) (Nat.le_of_ble_eq_true rfl) rfl ?_
  intro X h he z hX hf C E hnm hh
  have hl := hle.rf he
  subst hX
  unfold f_J3_init at hf
  refine v_aload_n C 0 dJ3_init_0 rfl rfl ?_
  refine v_objInit C q285 q147 q148 (Nat.le_of_ble_eq_true rfl) (Nat.le_of_ble_eq_true rfl) dJ3_init_1 ?_
  refine v_getsI (z := 1) C q287 q107 nw_0 q286 rfl dJ3_init_4 ?_
  obtain ⟨_u, h1, hAh1, hf, hlh1⟩ := mb_inv hf hl
  refine v_cut (h1 := h1) (pc1 := 38) (ls1 := []) (st1 := []) ?_ (fun Jh1 => ?_)
  · clear hAh1 hlh1
    exact v_vret C E hf dJ3_init_38
  · clear hf
    have hf := hAh1
    have hl := hlh1
    refine v_if_eq C hf (tgt := 25) dJ3_init_7 (by decide) (fun c7 hf => ?_) (fun c7 hf => ?_)
    · refine v_aload_n C 0 dJ3_init_25 rfl rfl ?_
      refine v_iload_n C 1 dJ3_init_26 rfl rfl ?_
      refine v_callS (stk := fun b => .ref b :: [.ref a0]) C (ct_J6_newBytesFor _ i1) nd_J6_newBytesFor rfl (Nat.le_of_ble_eq_true rfl) (Nat.le_of_ble_eq_true rfl) [.ref a0] (Nat.le_of_ble_eq_true rfl) (fun _ => rfl) rfl q288 q289 q108 q290 hf hl dJ3_init_27 (fun x2 h3 hf => ?_)
      refine v_putv (Cn := RJ4) (T := TJ4) (N := 4) (ty0 := tyJ4) C hf in_J4 tyJ4_ok nmJ4 rfl (by decide) q376 rfl rfl rfl rfl dJ3_init_30 (fun h4 hf => ?_)
      refine v_aload_n C 0 dJ3_init_33 rfl rfl ?_
      refine v_iconst (x := 1) C dJ3_init_34 (by decide) ?_
      obtain ⟨hnar, hf⟩ := v_pN_inv hf
      refine v_putv (Cn := RJ4) (T := TJ4) (N := 4) (ty0 := tyJ4) C hf in_J4 tyJ4_ok nmJ4 rfl (by decide) q377 rfl rfl hnar.1 hnar.2 dJ3_init_35 (fun h5 hf => ?_)
      obtain ⟨e1, rfl⟩ := mret_inv hf
      exact v_sub (ls' := _) [] rfl Jh1
    · refine v_aload_n C 0 dJ3_init_10 rfl rfl ?_
      refine v_iload_n C 1 dJ3_init_11 rfl rfl ?_
      refine v_newarraybyte C hf hl q256 dJ3_init_12 (fun x6 h7 hf => ?_)
      refine v_putv (Cn := RJ4) (T := TJ4) (N := 4) (ty0 := tyJ4) C hf in_J4 tyJ4_ok nmJ4 rfl (by decide) q376 rfl rfl rfl rfl dJ3_init_14 (fun h8 hf => ?_)
      refine v_aload_n C 0 dJ3_init_17 rfl rfl ?_
      refine v_iconst (x := 0) C dJ3_init_18 (by decide) ?_
      obtain ⟨hnar, hf⟩ := v_pN_inv hf
      refine v_putv (Cn := RJ4) (T := TJ4) (N := 4) (ty0 := tyJ4) C hf in_J4 tyJ4_ok nmJ4 rfl (by decide) q377 rfl rfl hnar.1 hnar.2 dJ3_init_19 (fun h9 hf => ?_)
      refine v_goto (tgt := 38) C dJ3_init_22 (by decide) ?_
      obtain ⟨e1, rfl⟩ := mret_inv hf
      exact v_sub (ls' := _) [] rfl Jh1
def f_J3_ensureCapacityInternal (a0 : Nat) (i1 : Int32) : hM Unit :=
  mb (gR a0 19 0) fun x1 => mb (alen 0 x1) fun x2 => mb (gI a0 19 1) fun x3 => mb (mi ((i1 - (x2 >>> (x3 &&& 31))) ≤ 0) (mret ()) (mb (gR a0 19 0) fun x5 => mb (mat a0 19 (f_J3_newCapacity a0 i1)) fun x6 => mb (gI a0 19 1) fun x8 => mb (f_J2_copyOf x5 (x6 <<< (x8 &&& 31))) fun x9 => mb (pF a0 19 0 (.ref x9)) fun _ => mret ())) fun _ => mret ()
theorem nd_J3_ensureCapacityInternal : yJ3_ensureCapacityInternal.cls ≠ "java/lang/invoke/MethodHandle" ∧ yJ3_ensureCapacityInternal.cls ≠ "java/lang/invoke/VarHandle" ∧ (parseMethodDescriptor yJ3_ensureCapacityInternal.desc).map (fun d => d.parameters.length) = some 1 := by decide +kernel
set_option maxHeartbeats 4000000 in
theorem ct_J3_ensureCapacityInternal (l : Launch) (a0 : Nat) (i1 : Int32) : CT l yJ3_ensureCapacityInternal cJ3_ensureCapacityInternal 3 none 3 70 rv0 [.ref a0, .int i1] (f_J3_ensureCapacityInternal a0 i1) := by
  refine CT_of (ls := [(0, .ref a0), (1, .int i1)]) (by decide) (Nat.le_of_ble_eq_true rfl) rfl ?_
  intro X h he z hX hf C E hnm hh
  have hl := hle.rf he
  subst hX
  unfold f_J3_ensureCapacityInternal at hf
  refine v_aload_n C 0 dJ3_ensureCapacityInternal_0 rfl rfl ?_
  refine v_gR (Cn := RJ4) (T := TJ4) (N := 4) C hf in_J4 rfl (by decide) q376 rfl dJ3_ensureCapacityInternal_1 (fun x1 hf => ?_)
  refine v_alen C hf (by decide) dJ3_ensureCapacityInternal_4 (fun x2 hf => ?_)
  refine v_aload_n C 0 dJ3_ensureCapacityInternal_5 rfl rfl ?_
  refine v_gI (Cn := RJ4) (T := TJ4) (N := 4) C hf in_J4 rfl (by decide) q377 rfl dJ3_ensureCapacityInternal_6 (fun x3 hf => ?_)
  refine v_ishr C dJ3_ensureCapacityInternal_9 ?_
  refine v_istore_n (ls' := [(2, _), (0, _), (1, _)]) C dJ3_ensureCapacityInternal_10 rfl (by decide) rfl ?_
  refine v_iload_n C 2 dJ3_ensureCapacityInternal_11 rfl rfl ?_
  refine v_iload_n C 0 dJ3_ensureCapacityInternal_12 rfl rfl ?_
  refine v_isub C dJ3_ensureCapacityInternal_13 ?_
  obtain ⟨_u, h4, hAh4, hf, hlh4⟩ := mb_inv hf hl
  refine v_cut (h1 := h4) (pc1 := 38) (ls1 := []) (st1 := []) ?_ (fun Jh4 => ?_)
  · clear hAh4 hlh4
    exact v_vret C E hf dJ3_ensureCapacityInternal_38
  · clear hf
    have hf := hAh4
    have hl := hlh4
    refine v_if_le C hf (tgt := 38) dJ3_ensureCapacityInternal_14 (by decide) (fun c14 hf => ?_) (fun c14 hf => ?_)
    · obtain ⟨e1, rfl⟩ := mret_inv hf
      exact v_sub (ls' := _) [] rfl Jh4
    · refine v_aload_n C 1 dJ3_ensureCapacityInternal_17 rfl rfl ?_
      refine v_aload_n C 1 dJ3_ensureCapacityInternal_18 rfl rfl ?_
      refine v_gR (Cn := RJ4) (T := TJ4) (N := 4) C hf in_J4 rfl (by decide) q376 rfl dJ3_ensureCapacityInternal_19 (fun x5 hf => ?_)
      refine v_aload_n C 1 dJ3_ensureCapacityInternal_22 rfl rfl ?_
      refine v_iload_n C 2 dJ3_ensureCapacityInternal_23 rfl rfl ?_
      refine v_callU (stk := fun b => .int b :: [.ref x5, .ref a0]) C (ct_J3_newCapacity _ a0 i1) rfl ⟨by decide, by decide, nd_J3_newCapacity.2.2⟩ rfl (Nat.le_of_ble_eq_true rfl) (Nat.le_of_ble_eq_true rfl) [.ref x5, .ref a0] (Nat.le_of_ble_eq_true rfl) (fun _ => rfl) rfl q889 q2332 (se_p C ⟨by decide, by decide⟩ q278 q2332 q890 q891) q891 q105 q892 (dc_code C q891 q892) hf hl dJ3_ensureCapacityInternal_24 (fun x6 h7 hf => ?_)
      refine v_aload_n C 1 dJ3_ensureCapacityInternal_27 rfl rfl ?_
      refine v_gI (Cn := RJ4) (T := TJ4) (N := 4) C hf in_J4 rfl (by decide) q377 rfl dJ3_ensureCapacityInternal_28 (fun x8 hf => ?_)
      refine v_ishl C dJ3_ensureCapacityInternal_31 ?_
      refine v_callS (stk := fun b => .ref b :: [.ref a0]) C (ct_J2_copyOf _ x5 (x6 <<< (x8 &&& 31))) nd_J2_copyOf rfl (Nat.le_of_ble_eq_true rfl) (Nat.le_of_ble_eq_true rfl) [.ref a0] (Nat.le_of_ble_eq_true rfl) (fun _ => rfl) rfl q904 q905 q101 q906 hf hl dJ3_ensureCapacityInternal_32 (fun x9 h10 hf => ?_)
      refine v_putv (Cn := RJ4) (T := TJ4) (N := 4) (ty0 := tyJ4) C hf in_J4 tyJ4_ok nmJ4 rfl (by decide) q376 rfl rfl rfl rfl dJ3_ensureCapacityInternal_35 (fun h11 hf => ?_)
      obtain ⟨e1, rfl⟩ := mret_inv hf
      exact v_sub (ls' := _) [] rfl Jh4
def f_J3_inflate (a0 : Nat) : hM Unit :=
  mb (mat a0 19 (f_J3_isLatin1 a0)) fun x1 => mi (¬ x1 = 0) (mb (gR a0 19 0) fun x3 => mb (alen 0 x3) fun x4 => mb (f_J6_newBytesFor x4) fun x5 => mb (gR a0 19 0) fun x7 => mb (gI a0 19 3) fun x8 => mb (f_J11_inflate x7 (0 : Int32) x5 (0 : Int32) x8) fun _ => mb (pF a0 19 0 (.ref x5)) fun _ => mb (pN .byte a0 19 1 (1 : Int32)) fun _ => mret ()) (mret ())
theorem nd_J3_inflate : yJ3_inflate.cls ≠ "java/lang/invoke/MethodHandle" ∧ yJ3_inflate.cls ≠ "java/lang/invoke/VarHandle" ∧ (parseMethodDescriptor yJ3_inflate.desc).map (fun d => d.parameters.length) = some 0 := by decide +kernel
set_option maxHeartbeats 4000000 in
theorem ct_J3_inflate (l : Launch) (a0 : Nat) : CT l yJ3_inflate cJ3_inflate 2 none 4 93 rv0 [.ref a0] (f_J3_inflate a0) := by
  refine CT_of (ls := [(0, .ref a0)]) (by decide) (Nat.le_of_ble_eq_true rfl) rfl ?_
  intro X h he z hX hf C E hnm hh
  have hl := hle.rf he
  subst hX
  unfold f_J3_inflate at hf
  refine v_aload_n C 0 dJ3_inflate_0 rfl rfl ?_
  refine v_callU (stk := fun b => .int b :: []) C (ct_J3_isLatin1 _ a0) rfl ⟨by decide, by decide, nd_J3_isLatin1.2.2⟩ rfl (Nat.le_of_ble_eq_true rfl) (Nat.le_of_ble_eq_true rfl) [] (Nat.le_of_ble_eq_true rfl) (fun _ => rfl) rfl q918 q920 (se_w C q921) q919 q105 q922 (dc_code C q919 q922) hf hl dJ3_inflate_1 (fun x1 h2 hf => ?_)
  refine v_if_ne C hf (tgt := 8) dJ3_inflate_4 (by decide) (fun c4 hf => ?_) (fun c4 hf => ?_)
  · refine v_aload_n C 0 dJ3_inflate_8 rfl rfl ?_
    refine v_gR (Cn := RJ4) (T := TJ4) (N := 4) C hf in_J4 rfl (by decide) q376 rfl dJ3_inflate_9 (fun x3 hf => ?_)
    refine v_alen C hf (by decide) dJ3_inflate_12 (fun x4 hf => ?_)
    refine v_callS (stk := fun b => .ref b :: []) C (ct_J6_newBytesFor _ x4) nd_J6_newBytesFor rfl (Nat.le_of_ble_eq_true rfl) (Nat.le_of_ble_eq_true rfl) [] (Nat.le_of_ble_eq_true rfl) (fun _ => rfl) rfl q288 q289 q108 q290 hf hl dJ3_inflate_13 (fun x5 h6 hf => ?_)
    refine v_astore_n (ls' := [(1, _), (0, _)]) C dJ3_inflate_16 rfl (by decide) rfl ?_
    refine v_aload_n C 1 dJ3_inflate_17 rfl rfl ?_
    refine v_gR (Cn := RJ4) (T := TJ4) (N := 4) C hf in_J4 rfl (by decide) q376 rfl dJ3_inflate_18 (fun x7 hf => ?_)
    refine v_iconst (x := 0) C dJ3_inflate_21 (by decide) ?_
    refine v_aload_n C 0 dJ3_inflate_22 rfl rfl ?_
    refine v_iconst (x := 0) C dJ3_inflate_23 (by decide) ?_
    refine v_aload_n C 1 dJ3_inflate_24 rfl rfl ?_
    refine v_gI (Cn := RJ4) (T := TJ4) (N := 4) C hf in_J4 rfl (by decide) q380 rfl dJ3_inflate_25 (fun x8 hf => ?_)
    refine v_callS (stk := fun _ => []) C (ct_J11_inflate _ x7 (0 : Int32) x5 (0 : Int32) x8) nd_J11_inflate rfl (Nat.le_of_ble_eq_true rfl) (Nat.le_of_ble_eq_true rfl) [] (Nat.le_of_ble_eq_true rfl) (fun _ => rfl) rfl q961 q962 q120 q963 hf hl dJ3_inflate_28 (fun x9 h10 hf => ?_)
    refine v_aload_n C 1 dJ3_inflate_31 rfl rfl ?_
    refine v_aload_n C 0 dJ3_inflate_32 rfl rfl ?_
    refine v_putv (Cn := RJ4) (T := TJ4) (N := 4) (ty0 := tyJ4) C hf in_J4 tyJ4_ok nmJ4 rfl (by decide) q376 rfl rfl rfl rfl dJ3_inflate_33 (fun h11 hf => ?_)
    refine v_aload_n C 1 dJ3_inflate_36 rfl rfl ?_
    refine v_iconst (x := 1) C dJ3_inflate_37 (by decide) ?_
    obtain ⟨hnar, hf⟩ := v_pN_inv hf
    refine v_putv (Cn := RJ4) (T := TJ4) (N := 4) (ty0 := tyJ4) C hf in_J4 tyJ4_ok nmJ4 rfl (by decide) q377 rfl rfl hnar.1 hnar.2 dJ3_inflate_38 (fun h12 hf => ?_)
    exact v_vret C E hf dJ3_inflate_41
  · exact v_vret C E hf dJ3_inflate_7
def f_J3_append_2 (a0 : Nat) (i1 : Int32) : hM Nat :=
  mb (gI a0 19 3) fun x1 => mb (f_J1_stringSize i1) fun x2 => mb (mat a0 19 (f_J3_ensureCapacityInternal a0 (x1 + x2))) fun _ => mb (mat a0 19 (f_J3_isLatin1 a0)) fun x6 => mb (mi (x6 = 0) (mb (gR a0 19 0) fun x10 => mb (f_J6_getChars i1 x1 (x1 + x2) x10) fun x11 => mret ()) (mb (gR a0 19 0) fun x13 => mb (f_J1_getChars i1 (x1 + x2) x13) fun x14 => mret ())) fun _ => mb (pF a0 19 3 (.int (x1 + x2))) fun _ => mret a0
theorem nd_J3_append_2 : yJ3_append_2.cls ≠ "java/lang/invoke/MethodHandle" ∧ yJ3_append_2.cls ≠ "java/lang/invoke/VarHandle" ∧ (parseMethodDescriptor yJ3_append_2.desc).map (fun d => d.parameters.length) = some 1 := by decide +kernel
set_option maxHeartbeats 4000000 in
theorem ct_J3_append_2 (l : Launch) (a0 : Nat) (i1 : Int32) : CT l yJ3_append_2 cJ3_append_2 4 (some (.object "java/lang/AbstractStringBuilder")) 4 92 rvR [.ref a0, .int i1] (f_J3_append_2 a0 i1) := by
  refine CT_of (ls := [(0, .ref a0), (1, .int i1)]) (by decide) (Nat.le_of_ble_eq_true rfl) rfl ?_
  intro X h he z hX hf C E hnm hh
  have hl := hle.rf he
  subst hX
  unfold f_J3_append_2 at hf
  refine v_aload_n C 0 dJ3_append_2_0 rfl rfl ?_
  refine v_gI (Cn := RJ4) (T := TJ4) (N := 4) C hf in_J4 rfl (by decide) q380 rfl dJ3_append_2_1 (fun x1 hf => ?_)
  refine v_istore_n (ls' := [(2, _), (0, _), (1, _)]) C dJ3_append_2_4 rfl (by decide) rfl ?_
  refine v_iload_n C 0 dJ3_append_2_5 rfl rfl ?_
  refine v_iload_n C 2 dJ3_append_2_6 rfl rfl ?_
  refine v_callS (stk := fun b => .int b :: [.int x1]) C (ct_J1_stringSize _ i1) nd_J1_stringSize rfl (Nat.le_of_ble_eq_true rfl) (Nat.le_of_ble_eq_true rfl) [.int x1] (Nat.le_of_ble_eq_true rfl) (fun _ => rfl) rfl q989 q990 q100 q991 hf hl dJ3_append_2_7 (fun x2 h3 hf => ?_)
  refine v_iadd C dJ3_append_2_10 ?_
  refine v_istore_n (ls' := [(3, _), (2, _), (0, _), (1, _)]) C dJ3_append_2_11 rfl (by decide) rfl ?_
  refine v_aload_n C 2 dJ3_append_2_12 rfl rfl ?_
  refine v_iload_n C 0 dJ3_append_2_13 rfl rfl ?_
  refine v_callU (stk := fun _ => []) C (ct_J3_ensureCapacityInternal _ a0 (x1 + x2)) rfl ⟨by decide, by decide, nd_J3_ensureCapacityInternal.2.2⟩ rfl (Nat.le_of_ble_eq_true rfl) (Nat.le_of_ble_eq_true rfl) [] (Nat.le_of_ble_eq_true rfl) (fun _ => rfl) rfl q885 q2331 (se_p C ⟨by decide, by decide⟩ q278 q2331 q886 q887) q887 q105 q888 (dc_code C q887 q888) hf hl dJ3_append_2_14 (fun x4 h5 hf => ?_)
  refine v_aload_n C 2 dJ3_append_2_17 rfl rfl ?_
  refine v_callU (stk := fun b => .int b :: []) C (ct_J3_isLatin1 _ a0) rfl ⟨by decide, by decide, nd_J3_isLatin1.2.2⟩ rfl (Nat.le_of_ble_eq_true rfl) (Nat.le_of_ble_eq_true rfl) [] (Nat.le_of_ble_eq_true rfl) (fun _ => rfl) rfl q918 q920 (se_w C q921) q919 q105 q922 (dc_code C q919 q922) hf hl dJ3_append_2_18 (fun x6 h7 hf => ?_)
  obtain ⟨_u, h8, hAh8, hf, hlh8⟩ := mb_inv hf hl
  refine v_cut (h1 := h8) (pc1 := 48) (ls1 := [(0, .ref a0), (3, .int (x1 + x2))]) (st1 := []) ?_ (fun Jh8 => ?_)
  · clear hAh8 hlh8
    refine v_aload_n C 0 dJ3_append_2_48 rfl rfl ?_
    refine v_iload_n C 1 dJ3_append_2_49 rfl rfl ?_
    refine v_putv (Cn := RJ4) (T := TJ4) (N := 4) (ty0 := tyJ4) C hf in_J4 tyJ4_ok nmJ4 rfl (by decide) q380 rfl rfl rfl rfl dJ3_append_2_50 (fun h9 hf => ?_)
    refine v_aload_n C 0 dJ3_append_2_53 rfl rfl ?_
    exact v_aret C E hf (Or.inl ⟨_, rfl⟩) dJ3_append_2_54
  · clear hf
    have hf := hAh8
    have hl := hlh8
    refine v_if_eq C hf (tgt := 37) dJ3_append_2_21 (by decide) (fun c21 hf => ?_) (fun c21 hf => ?_)
    · refine v_iload_n C 3 dJ3_append_2_37 rfl rfl ?_
      refine v_iload_n C 1 dJ3_append_2_38 rfl rfl ?_
      refine v_iload_n C 0 dJ3_append_2_39 rfl rfl ?_
      refine v_aload_n C 2 dJ3_append_2_40 rfl rfl ?_
      refine v_gR (Cn := RJ4) (T := TJ4) (N := 4) C hf in_J4 rfl (by decide) q376 rfl dJ3_append_2_41 (fun x10 hf => ?_)
      refine v_callS (stk := fun b => .int b :: []) C (ct_J6_getChars _ i1 x1 (x1 + x2) x10) nd_J6_getChars rfl (Nat.le_of_ble_eq_true rfl) (Nat.le_of_ble_eq_true rfl) [] (Nat.le_of_ble_eq_true rfl) (fun _ => rfl) rfl q999 q1000 q108 q1001 hf hl dJ3_append_2_44 (fun x11 h12 hf => ?_)
      refine v_pop C dJ3_append_2_47 rfl ?_
      obtain ⟨e1, rfl⟩ := mret_inv hf
      exact v_sub (ls' := _) [2, 0] rfl Jh8
    · refine v_iload_n C 3 dJ3_append_2_24 rfl rfl ?_
      refine v_iload_n C 0 dJ3_append_2_25 rfl rfl ?_
      refine v_aload_n C 2 dJ3_append_2_26 rfl rfl ?_
      refine v_gR (Cn := RJ4) (T := TJ4) (N := 4) C hf in_J4 rfl (by decide) q376 rfl dJ3_append_2_27 (fun x13 hf => ?_)
      refine v_callS (stk := fun b => .int b :: []) C (ct_J1_getChars _ i1 (x1 + x2) x13) nd_J1_getChars rfl (Nat.le_of_ble_eq_true rfl) (Nat.le_of_ble_eq_true rfl) [] (Nat.le_of_ble_eq_true rfl) (fun _ => rfl) rfl q992 q993 q100 q994 hf hl dJ3_append_2_30 (fun x14 h15 hf => ?_)
      refine v_pop C dJ3_append_2_33 rfl ?_
      refine v_goto (tgt := 48) C dJ3_append_2_34 (by decide) ?_
      obtain ⟨e1, rfl⟩ := mret_inv hf
      exact v_sub (ls' := _) [2, 0] rfl Jh8
def f_J3_charAt (a0 : Nat) (i1 : Int32) : hM Int32 :=
  mb (gI a0 19 1) fun x1 => mb (gR a0 19 0) fun x2 => mb (gI a0 19 3) fun x3 => mb (alen 0 x2) fun x4 => mb (f_J0_min x3 (x4 >>> (x1 &&& 31))) fun x5 => mb (f_J5_checkIndex i1 x5) fun _ => mi (¬ x1 = 0) (mb (f_J6_getChar x2 i1) fun x9 => mrt .char x9) (mb (aI 0 x2 i1) fun x11 => mrt .char (ji2c (x11 &&& (255 : Int32))))
theorem nd_J3_charAt : yJ3_charAt.cls ≠ "java/lang/invoke/MethodHandle" ∧ yJ3_charAt.cls ≠ "java/lang/invoke/VarHandle" ∧ (parseMethodDescriptor yJ3_charAt.desc).map (fun d => d.parameters.length) = some 1 := by decide +kernel
set_option maxHeartbeats 4000000 in
theorem ct_J3_charAt (l : Launch) (a0 : Nat) (i1 : Int32) : CT l yJ3_charAt cJ3_charAt 5 (some .char) 2 41 rvI [.ref a0, .int i1] (f_J3_charAt a0 i1) := by
  refine CT_of (ls := [(0, .ref a0), (1, .int i1)]) (by decide) (Nat.le_of_ble_eq_true rfl) rfl ?_
  intro X h he z hX hf C E hnm hh
  have hl := hle.rf he
  subst hX
  unfold f_J3_charAt at hf
  refine v_aload_n C 0 dJ3_charAt_0 rfl rfl ?_
  refine v_gI (Cn := RJ4) (T := TJ4) (N := 4) C hf in_J4 rfl (by decide) q377 rfl dJ3_charAt_1 (fun x1 hf => ?_)
  refine v_istore_n (ls' := [(2, _), (0, _), (1, _)]) C dJ3_charAt_4 rfl (by decide) rfl ?_
  refine v_aload_n C 1 dJ3_charAt_5 rfl rfl ?_
  refine v_gR (Cn := RJ4) (T := TJ4) (N := 4) C hf in_J4 rfl (by decide) q376 rfl dJ3_charAt_6 (fun x2 hf => ?_)
  refine v_astore_n (ls' := [(3, _), (2, _), (0, _), (1, _)]) C dJ3_charAt_9 rfl (by decide) rfl ?_
  refine v_aload_n C 2 dJ3_charAt_10 rfl rfl ?_
  refine v_gI (Cn := RJ4) (T := TJ4) (N := 4) C hf in_J4 rfl (by decide) q380 rfl dJ3_charAt_11 (fun x3 hf => ?_)
  refine v_aload_n C 0 dJ3_charAt_14 rfl rfl ?_
  refine v_alen C hf (by decide) dJ3_charAt_15 (fun x4 hf => ?_)
  refine v_iload_n C 1 dJ3_charAt_16 rfl rfl ?_
  refine v_ishr C dJ3_charAt_17 ?_
  refine v_callS (stk := fun b => .int b :: []) C (ct_J0_min _ x3 (x4 >>> (x1 &&& 31))) nd_J0_min rfl (Nat.le_of_ble_eq_true rfl) (Nat.le_of_ble_eq_true rfl) [] (Nat.le_of_ble_eq_true rfl) (fun _ => rfl) rfl q1118 q771 q98 q772 hf hl dJ3_charAt_18 (fun x5 h6 hf => ?_)
  refine v_istore (ls' := [(4, _), (3, _), (2, _), (0, _), (1, _)]) C dJ3_charAt_21 (by decide) rfl ?_
  refine v_iload_n C 4 dJ3_charAt_23 rfl rfl ?_
  refine v_iload C 0 dJ3_charAt_24 rfl ?_
  refine v_callS (stk := fun _ => []) C (ct_J5_checkIndex _ i1 x5) nd_J5_checkIndex rfl (Nat.le_of_ble_eq_true rfl) (Nat.le_of_ble_eq_true rfl) [] (Nat.le_of_ble_eq_true rfl) (fun _ => rfl) rfl q1119 q1098 q107 q1099 hf hl dJ3_charAt_26 (fun x7 h8 hf => ?_)
  refine v_iload_n C 2 dJ3_charAt_29 rfl rfl ?_
  refine v_if_ne C hf (tgt := 42) dJ3_charAt_30 (by decide) (fun c30 hf => ?_) (fun c30 hf => ?_)
  · refine v_aload_n C 1 dJ3_charAt_42 rfl rfl ?_
    refine v_iload_n C 4 dJ3_charAt_43 rfl rfl ?_
    refine v_callS (stk := fun b => .int b :: []) C (ct_J6_getChar _ x2 i1) nd_J6_getChar rfl (Nat.le_of_ble_eq_true rfl) (Nat.le_of_ble_eq_true rfl) [] (Nat.le_of_ble_eq_true rfl) (fun _ => rfl) rfl q1120 q558 q108 q559 hf hl dJ3_charAt_44 (fun x9 h10 hf => ?_)
    exact v_zret C E hf dJ3_charAt_47
  · refine v_aload_n C 1 dJ3_charAt_33 rfl rfl ?_
    refine v_iload_n C 4 dJ3_charAt_34 rfl rfl ?_
    refine v_baload C hf dJ3_charAt_35 (fun x11 hf => ?_)
    refine v_sipush (x := 255) C dJ3_charAt_36 (by decide) ?_
    refine v_iand C dJ3_charAt_39 ?_
    refine v_i2c C dJ3_charAt_40 ?_
    exact v_zret C E hf dJ3_charAt_41
def f_J3_append_3 (a0 : Nat) (i1 : Int32) : hM Nat :=
  mb (gI a0 19 3) fun x1 => mb (mat a0 19 (f_J3_ensureCapacityInternal a0 (x1 + (1 : Int32)))) fun _ => mb (mat a0 19 (f_J3_isLatin1 a0)) fun x4 => mb (mi (x4 = 0) (mb (mat a0 19 (f_J3_isLatin1 a0)) fun x7 => mb (mi (x7 = 0) (mret ()) (mb (mat a0 19 (f_J3_inflate a0)) fun _ => mret ())) fun _ => mb (gR a0 19 0) fun x10 => mb (gI a0 19 3) fun x11 => mb (pF a0 19 3 (.int (x11 + (1 : Int32)))) fun _ => mb (f_J6_putCharSB x10 x11 i1) fun _ => mret ()) (mb (f_J11_canEncode i1) fun x17 => mi (x17 = 0) (mb (mat a0 19 (f_J3_isLatin1 a0)) fun x19 => mb (mi (x19 = 0) (mret ()) (mb (mat a0 19 (f_J3_inflate a0)) fun _ => mret ())) fun _ => mb (gR a0 19 0) fun x22 => mb (gI a0 19 3) fun x23 => mb (pF a0 19 3 (.int (x23 + (1 : Int32)))) fun _ => mb (f_J6_putCharSB x22 x23 i1) fun _ => mret ()) (mb (gR a0 19 0) fun x29 => mb (gI a0 19 3) fun x30 => mb (pF a0 19 3 (.int (x30 + (1 : Int32)))) fun _ => mb (sI 0 x29 x30 i1.toInt8.toInt32) fun _ => mret ()))) fun _ => mret a0
theorem nd_J3_append_3 : yJ3_append_3.cls ≠ "java/lang/invoke/MethodHandle" ∧ yJ3_append_3.cls ≠ "java/lang/invoke/VarHandle" ∧ (parseMethodDescriptor yJ3_append_3.desc).map (fun d => d.parameters.length) = some 1 := by decide +kernel
set_option maxHeartbeats 4000000 in
theorem ct_J3_append_3 (l : Launch) (a0 : Nat) (i1 : Int32) : CT l yJ3_append_3 cJ3_append_3 2 (some (.object "java/lang/AbstractStringBuilder")) 5 114 rvR [.ref a0, .int i1] (f_J3_append_3 a0 i1) := by
  refine CT_of (ls := [(0, .ref a0), (1, .int i1)]) (by decide) (Nat.le_of_ble_eq_true rfl) rfl ?_
  intro X h he z hX hf C E hnm hh
  have hl := hle.rf he
  subst hX
  unfold f_J3_append_3 at hf
  refine v_aload_n C 0 dJ3_append_3_0 rfl rfl ?_
  refine v_aload_n C 0 dJ3_append_3_1 rfl rfl ?_
  refine v_gI (Cn := RJ4) (T := TJ4) (N := 4) C hf in_J4 rfl (by decide) q380 rfl dJ3_append_3_2 (fun x1 hf => ?_)
  refine v_iconst (x := 1) C dJ3_append_3_5 (by decide) ?_
  refine v_iadd C dJ3_append_3_6 ?_
  refine v_callU (stk := fun _ => []) C (ct_J3_ensureCapacityInternal _ a0 (x1 + (1 : Int32))) rfl ⟨by decide, by decide, nd_J3_ensureCapacityInternal.2.2⟩ rfl (Nat.le_of_ble_eq_true rfl) (Nat.le_of_ble_eq_true rfl) [] (Nat.le_of_ble_eq_true rfl) (fun _ => rfl) rfl q885 q2331 (se_p C ⟨by decide, by decide⟩ q278 q2331 q886 q887) q887 q105 q888 (dc_code C q887 q888) hf hl dJ3_append_3_7 (fun x2 h3 hf => ?_)
  refine v_aload_n C 0 dJ3_append_3_10 rfl rfl ?_
  refine v_callU (stk := fun b => .int b :: []) C (ct_J3_isLatin1 _ a0) rfl ⟨by decide, by decide, nd_J3_isLatin1.2.2⟩ rfl (Nat.le_of_ble_eq_true rfl) (Nat.le_of_ble_eq_true rfl) [] (Nat.le_of_ble_eq_true rfl) (fun _ => rfl) rfl q918 q920 (se_w C q921) q919 q105 q922 (dc_code C q919 q922) hf hl dJ3_append_3_11 (fun x4 h5 hf => ?_)
  obtain ⟨_u, h6, hAh6, hf, hlh6⟩ := mb_inv hf hl
  refine v_cut (h1 := h6) (pc1 := 75) (ls1 := [(0, .ref a0)]) (st1 := []) ?_ (fun Jh6 => ?_)
  · clear hAh6 hlh6
    refine v_aload_n C 0 dJ3_append_3_75 rfl rfl ?_
    exact v_aret C E hf (Or.inl ⟨_, rfl⟩) dJ3_append_3_76
  · clear hf
    have hf := hAh6
    have hl := hlh6
    refine v_if_eq C hf (tgt := 45) dJ3_append_3_14 (by decide) (fun c14 hf => ?_) (fun c14 hf => ?_)
    · refine v_aload_n C 0 dJ3_append_3_45 rfl rfl ?_
      refine v_callU (stk := fun b => .int b :: []) C (ct_J3_isLatin1 _ a0) rfl ⟨by decide, by decide, nd_J3_isLatin1.2.2⟩ rfl (Nat.le_of_ble_eq_true rfl) (Nat.le_of_ble_eq_true rfl) [] (Nat.le_of_ble_eq_true rfl) (fun _ => rfl) rfl q918 q920 (se_w C q921) q919 q105 q922 (dc_code C q919 q922) hf hl dJ3_append_3_46 (fun x7 h8 hf => ?_)
      obtain ⟨_u, h9, hAh9, hf, hlh9⟩ := mb_inv hf hl
      refine v_cut (h1 := h9) (pc1 := 56) (ls1 := [(0, .ref a0), (1, .int i1)]) (st1 := []) ?_ (fun Jh9 => ?_)
      · clear hAh9 hlh9
        refine v_aload_n C 0 dJ3_append_3_56 rfl rfl ?_
        refine v_gR (Cn := RJ4) (T := TJ4) (N := 4) C hf in_J4 rfl (by decide) q376 rfl dJ3_append_3_57 (fun x10 hf => ?_)
        refine v_aload_n C 0 dJ3_append_3_60 rfl rfl ?_
        refine v_dup C dJ3_append_3_61 rfl ?_
        refine v_gI (Cn := RJ4) (T := TJ4) (N := 4) C hf in_J4 rfl (by decide) q380 rfl dJ3_append_3_62 (fun x11 hf => ?_)
        refine v_dup_x1 C dJ3_append_3_65 rfl rfl ?_
        refine v_iconst (x := 1) C dJ3_append_3_66 (by decide) ?_
        refine v_iadd C dJ3_append_3_67 ?_
        refine v_putv (Cn := RJ4) (T := TJ4) (N := 4) (ty0 := tyJ4) C hf in_J4 tyJ4_ok nmJ4 rfl (by decide) q380 rfl rfl rfl rfl dJ3_append_3_68 (fun h12 hf => ?_)
        refine v_iload_n C 1 dJ3_append_3_71 rfl rfl ?_
        refine v_callS (stk := fun _ => []) C (ct_J6_putCharSB _ x10 x11 i1) nd_J6_putCharSB rfl (Nat.le_of_ble_eq_true rfl) (Nat.le_of_ble_eq_true rfl) [] (Nat.le_of_ble_eq_true rfl) (fun _ => rfl) rfl q1142 q1143 q108 q1144 hf hl dJ3_append_3_72 (fun x13 h14 hf => ?_)
        obtain ⟨e1, rfl⟩ := mret_inv hf
        exact v_sub (ls' := _) [0] rfl Jh6
      · clear hf
        have hf := hAh9
        have hl := hlh9
        refine v_if_eq C hf (tgt := 56) dJ3_append_3_49 (by decide) (fun c49 hf => ?_) (fun c49 hf => ?_)
        · obtain ⟨e1, rfl⟩ := mret_inv hf
          exact v_sub (ls' := _) [0, 1] rfl Jh9
        · refine v_aload_n C 0 dJ3_append_3_52 rfl rfl ?_
          refine v_callU (stk := fun _ => []) C (ct_J3_inflate _ a0) rfl ⟨by decide, by decide, nd_J3_inflate.2.2⟩ rfl (Nat.le_of_ble_eq_true rfl) (Nat.le_of_ble_eq_true rfl) [] (Nat.le_of_ble_eq_true rfl) (fun _ => rfl) rfl q957 q2335 (se_p C ⟨by decide, by decide⟩ q278 q2335 q958 q959) q959 q105 q960 (dc_code C q959 q960) hf hl dJ3_append_3_53 (fun x15 h16 hf => ?_)
          obtain ⟨e1, rfl⟩ := mret_inv hf
          exact v_sub (ls' := _) [0, 1] rfl Jh9
    · refine v_iload_n C 1 dJ3_append_3_17 rfl rfl ?_
      refine v_callS (stk := fun b => .int b :: []) C (ct_J11_canEncode _ i1) nd_J11_canEncode rfl (Nat.le_of_ble_eq_true rfl) (Nat.le_of_ble_eq_true rfl) [] (Nat.le_of_ble_eq_true rfl) (fun _ => rfl) rfl q1139 q1140 q120 q1141 hf hl dJ3_append_3_18 (fun x17 h18 hf => ?_)
      refine v_if_eq C hf (tgt := 45) dJ3_append_3_21 (by decide) (fun c21 hf => ?_) (fun c21 hf => ?_)
      · refine v_aload_n C 0 dJ3_append_3_45 rfl rfl ?_
        refine v_callU (stk := fun b => .int b :: []) C (ct_J3_isLatin1 _ a0) rfl ⟨by decide, by decide, nd_J3_isLatin1.2.2⟩ rfl (Nat.le_of_ble_eq_true rfl) (Nat.le_of_ble_eq_true rfl) [] (Nat.le_of_ble_eq_true rfl) (fun _ => rfl) rfl q918 q920 (se_w C q921) q919 q105 q922 (dc_code C q919 q922) hf hl dJ3_append_3_46 (fun x19 h20 hf => ?_)
        obtain ⟨_u, h21, hAh21, hf, hlh21⟩ := mb_inv hf hl
        refine v_cut (h1 := h21) (pc1 := 56) (ls1 := [(0, .ref a0), (1, .int i1)]) (st1 := []) ?_ (fun Jh21 => ?_)
        · clear hAh21 hlh21
          refine v_aload_n C 0 dJ3_append_3_56 rfl rfl ?_
          refine v_gR (Cn := RJ4) (T := TJ4) (N := 4) C hf in_J4 rfl (by decide) q376 rfl dJ3_append_3_57 (fun x22 hf => ?_)
          refine v_aload_n C 0 dJ3_append_3_60 rfl rfl ?_
          refine v_dup C dJ3_append_3_61 rfl ?_
          refine v_gI (Cn := RJ4) (T := TJ4) (N := 4) C hf in_J4 rfl (by decide) q380 rfl dJ3_append_3_62 (fun x23 hf => ?_)
          refine v_dup_x1 C dJ3_append_3_65 rfl rfl ?_
          refine v_iconst (x := 1) C dJ3_append_3_66 (by decide) ?_
          refine v_iadd C dJ3_append_3_67 ?_
          refine v_putv (Cn := RJ4) (T := TJ4) (N := 4) (ty0 := tyJ4) C hf in_J4 tyJ4_ok nmJ4 rfl (by decide) q380 rfl rfl rfl rfl dJ3_append_3_68 (fun h24 hf => ?_)
          refine v_iload_n C 1 dJ3_append_3_71 rfl rfl ?_
          refine v_callS (stk := fun _ => []) C (ct_J6_putCharSB _ x22 x23 i1) nd_J6_putCharSB rfl (Nat.le_of_ble_eq_true rfl) (Nat.le_of_ble_eq_true rfl) [] (Nat.le_of_ble_eq_true rfl) (fun _ => rfl) rfl q1142 q1143 q108 q1144 hf hl dJ3_append_3_72 (fun x25 h26 hf => ?_)
          obtain ⟨e1, rfl⟩ := mret_inv hf
          exact v_sub (ls' := _) [0] rfl Jh6
        · clear hf
          have hf := hAh21
          have hl := hlh21
          refine v_if_eq C hf (tgt := 56) dJ3_append_3_49 (by decide) (fun c49 hf => ?_) (fun c49 hf => ?_)
          · obtain ⟨e1, rfl⟩ := mret_inv hf
            exact v_sub (ls' := _) [0, 1] rfl Jh21
          · refine v_aload_n C 0 dJ3_append_3_52 rfl rfl ?_
            refine v_callU (stk := fun _ => []) C (ct_J3_inflate _ a0) rfl ⟨by decide, by decide, nd_J3_inflate.2.2⟩ rfl (Nat.le_of_ble_eq_true rfl) (Nat.le_of_ble_eq_true rfl) [] (Nat.le_of_ble_eq_true rfl) (fun _ => rfl) rfl q957 q2335 (se_p C ⟨by decide, by decide⟩ q278 q2335 q958 q959) q959 q105 q960 (dc_code C q959 q960) hf hl dJ3_append_3_53 (fun x27 h28 hf => ?_)
            obtain ⟨e1, rfl⟩ := mret_inv hf
            exact v_sub (ls' := _) [0, 1] rfl Jh21
      · refine v_aload_n C 0 dJ3_append_3_24 rfl rfl ?_
        refine v_gR (Cn := RJ4) (T := TJ4) (N := 4) C hf in_J4 rfl (by decide) q376 rfl dJ3_append_3_25 (fun x29 hf => ?_)
        refine v_aload_n C 0 dJ3_append_3_28 rfl rfl ?_
        refine v_dup C dJ3_append_3_29 rfl ?_
        refine v_gI (Cn := RJ4) (T := TJ4) (N := 4) C hf in_J4 rfl (by decide) q380 rfl dJ3_append_3_30 (fun x30 hf => ?_)
        refine v_dup_x1 C dJ3_append_3_33 rfl rfl ?_
        refine v_iconst (x := 1) C dJ3_append_3_34 (by decide) ?_
        refine v_iadd C dJ3_append_3_35 ?_
        refine v_putv (Cn := RJ4) (T := TJ4) (N := 4) (ty0 := tyJ4) C hf in_J4 tyJ4_ok nmJ4 rfl (by decide) q380 rfl rfl rfl rfl dJ3_append_3_36 (fun h31 hf => ?_)
        refine v_iload_n C 1 dJ3_append_3_39 rfl rfl ?_
        refine v_i2b C dJ3_append_3_40 ?_
        refine v_bastore C hf dJ3_append_3_41 (fun h32 hf => ?_)
        refine v_goto (tgt := 75) C dJ3_append_3_42 (by decide) ?_
        obtain ⟨e1, rfl⟩ := mret_inv hf
        exact v_sub (ls' := _) [0] rfl Jh6
def f_J3_setLength (a0 : Nat) (i1 : Int32) : hM Unit :=
  mi (0 ≤ i1) (mb (mat a0 19 (f_J3_ensureCapacityInternal a0 i1)) fun _ => mb (gI a0 19 3) fun x3 => mb (mi (i1 ≤ x3) (mb (gI a0 19 3) fun x6 => mi (x6 ≤ i1) (mret ()) (mb (pN .boolean a0 19 2 (1 : Int32)) fun _ => mret ())) (mb (mat a0 19 (f_J3_isLatin1 a0)) fun x8 => mi (x8 = 0) (mb (gR a0 19 0) fun x10 => mb (gI a0 19 3) fun x11 => mb (f_J6_fillNull x10 x11 i1) fun _ => mret ()) (mb (gR a0 19 0) fun x14 => mb (gI a0 19 3) fun x15 => mb (f_J11_fillNull x14 x15 i1) fun _ => mret ()))) fun _ => mb (pF a0 19 3 (.int i1)) fun _ => mret ()) (mfail)
theorem nd_J3_setLength : yJ3_setLength.cls ≠ "java/lang/invoke/MethodHandle" ∧ yJ3_setLength.cls ≠ "java/lang/invoke/VarHandle" ∧ (parseMethodDescriptor yJ3_setLength.desc).map (fun d => d.parameters.length) = some 1 := by decide +kernel
set_option maxHeartbeats 4000000 in
theorem ct_J3_setLength (l : Launch) (a0 : Nat) (i1 : Int32) : CT l yJ3_setLength cJ3_setLength 2 none 4 92 rv0 [.ref a0, .int i1] (f_J3_setLength a0 i1) := by
  refine CT_of (ls := [(0, .ref a0), (1, .int i1)]) (by decide) (Nat.le_of_ble_eq_true rfl) rfl ?_
  intro X h he z hX hf C E hnm hh
  have hl := hle.rf he
  subst hX
  unfold f_J3_setLength at hf
  refine v_iload_n C 1 dJ3_setLength_0 rfl rfl ?_
  refine v_if_ge C hf (tgt := 13) dJ3_setLength_1 (by decide) (fun c1 hf => ?_) (fun c1 hf => ?_)
  · refine v_aload_n C 0 dJ3_setLength_13 rfl rfl ?_
    refine v_iload_n C 1 dJ3_setLength_14 rfl rfl ?_
    refine v_callU (stk := fun _ => []) C (ct_J3_ensureCapacityInternal _ a0 i1) rfl ⟨by decide, by decide, nd_J3_ensureCapacityInternal.2.2⟩ rfl (Nat.le_of_ble_eq_true rfl) (Nat.le_of_ble_eq_true rfl) [] (Nat.le_of_ble_eq_true rfl) (fun _ => rfl) rfl q885 q2331 (se_p C ⟨by decide, by decide⟩ q278 q2331 q886 q887) q887 q105 q888 (dc_code C q887 q888) hf hl dJ3_setLength_15 (fun x1 h2 hf => ?_)
    refine v_aload_n C 0 dJ3_setLength_18 rfl rfl ?_
    refine v_gI (Cn := RJ4) (T := TJ4) (N := 4) C hf in_J4 rfl (by decide) q380 rfl dJ3_setLength_19 (fun x3 hf => ?_)
    refine v_iload_n C 1 dJ3_setLength_22 rfl rfl ?_
    obtain ⟨_u, h4, hAh4, hf, hlh4⟩ := mb_inv hf hl
    refine v_cut (h1 := h4) (pc1 := 76) (ls1 := [(0, .ref a0), (1, .int i1)]) (st1 := []) ?_ (fun Jh4 => ?_)
    · clear hAh4 hlh4
      refine v_aload_n C 0 dJ3_setLength_76 rfl rfl ?_
      refine v_iload_n C 1 dJ3_setLength_77 rfl rfl ?_
      refine v_putv (Cn := RJ4) (T := TJ4) (N := 4) (ty0 := tyJ4) C hf in_J4 tyJ4_ok nmJ4 rfl (by decide) q380 rfl rfl rfl rfl dJ3_setLength_78 (fun h5 hf => ?_)
      exact v_vret C E hf dJ3_setLength_81
    · clear hf
      have hf := hAh4
      have hl := hlh4
      refine v_icmp_ge C hf (tgt := 63) dJ3_setLength_23 (by decide) (fun c23 hf => ?_) (fun c23 hf => ?_)
      · refine v_aload_n C 0 dJ3_setLength_63 rfl rfl ?_
        refine v_gI (Cn := RJ4) (T := TJ4) (N := 4) C hf in_J4 rfl (by decide) q380 rfl dJ3_setLength_64 (fun x6 hf => ?_)
        refine v_iload_n C 1 dJ3_setLength_67 rfl rfl ?_
        refine v_icmp_le C hf (tgt := 76) dJ3_setLength_68 (by decide) (fun c68 hf => ?_) (fun c68 hf => ?_)
        · obtain ⟨e1, rfl⟩ := mret_inv hf
          exact v_sub (ls' := _) [0, 1] rfl Jh4
        · refine v_aload_n C 0 dJ3_setLength_71 rfl rfl ?_
          refine v_iconst (x := 1) C dJ3_setLength_72 (by decide) ?_
          obtain ⟨hnar, hf⟩ := v_pN_inv hf
          refine v_putv (Cn := RJ4) (T := TJ4) (N := 4) (ty0 := tyJ4) C hf in_J4 tyJ4_ok nmJ4 rfl (by decide) q378 rfl rfl hnar.1 hnar.2 dJ3_setLength_73 (fun h7 hf => ?_)
          obtain ⟨e1, rfl⟩ := mret_inv hf
          exact v_sub (ls' := _) [0, 1] rfl Jh4
      · refine v_aload_n C 0 dJ3_setLength_26 rfl rfl ?_
        refine v_callU (stk := fun b => .int b :: []) C (ct_J3_isLatin1 _ a0) rfl ⟨by decide, by decide, nd_J3_isLatin1.2.2⟩ rfl (Nat.le_of_ble_eq_true rfl) (Nat.le_of_ble_eq_true rfl) [] (Nat.le_of_ble_eq_true rfl) (fun _ => rfl) rfl q918 q920 (se_w C q921) q919 q105 q922 (dc_code C q919 q922) hf hl dJ3_setLength_27 (fun x8 h9 hf => ?_)
        refine v_if_eq C hf (tgt := 48) dJ3_setLength_30 (by decide) (fun c30 hf => ?_) (fun c30 hf => ?_)
        · refine v_aload_n C 0 dJ3_setLength_48 rfl rfl ?_
          refine v_gR (Cn := RJ4) (T := TJ4) (N := 4) C hf in_J4 rfl (by decide) q376 rfl dJ3_setLength_49 (fun x10 hf => ?_)
          refine v_aload_n C 0 dJ3_setLength_52 rfl rfl ?_
          refine v_gI (Cn := RJ4) (T := TJ4) (N := 4) C hf in_J4 rfl (by decide) q380 rfl dJ3_setLength_53 (fun x11 hf => ?_)
          refine v_iload_n C 1 dJ3_setLength_56 rfl rfl ?_
          refine v_callS (stk := fun _ => []) C (ct_J6_fillNull _ x10 x11 i1) nd_J6_fillNull rfl (Nat.le_of_ble_eq_true rfl) (Nat.le_of_ble_eq_true rfl) [] (Nat.le_of_ble_eq_true rfl) (fun _ => rfl) rfl q1348 q1349 q108 q1350 hf hl dJ3_setLength_57 (fun x12 h13 hf => ?_)
          refine v_goto (tgt := 76) C dJ3_setLength_60 (by decide) ?_
          obtain ⟨e1, rfl⟩ := mret_inv hf
          exact v_sub (ls' := _) [0, 1] rfl Jh4
        · refine v_aload_n C 0 dJ3_setLength_33 rfl rfl ?_
          refine v_gR (Cn := RJ4) (T := TJ4) (N := 4) C hf in_J4 rfl (by decide) q376 rfl dJ3_setLength_34 (fun x14 hf => ?_)
          refine v_aload_n C 0 dJ3_setLength_37 rfl rfl ?_
          refine v_gI (Cn := RJ4) (T := TJ4) (N := 4) C hf in_J4 rfl (by decide) q380 rfl dJ3_setLength_38 (fun x15 hf => ?_)
          refine v_iload_n C 1 dJ3_setLength_41 rfl rfl ?_
          refine v_callS (stk := fun _ => []) C (ct_J11_fillNull _ x14 x15 i1) nd_J11_fillNull rfl (Nat.le_of_ble_eq_true rfl) (Nat.le_of_ble_eq_true rfl) [] (Nat.le_of_ble_eq_true rfl) (fun _ => rfl) rfl q1316 q1317 q120 q1318 hf hl dJ3_setLength_42 (fun x16 h17 hf => ?_)
          refine v_goto (tgt := 76) C dJ3_setLength_45 (by decide) ?_
          obtain ⟨e1, rfl⟩ := mret_inv hf
          exact v_sub (ls' := _) [0, 1] rfl Jh4
  · exact mfail_inv hf
def f_J4_init (a0 : Nat) (i1 : Int32) : hM Unit :=
  mb (f_J3_init a0 i1) fun _ => mret ()
theorem nd_J4_init : yJ4_init.cls ≠ "java/lang/invoke/MethodHandle" ∧ yJ4_init.cls ≠ "java/lang/invoke/VarHandle" ∧ (parseMethodDescriptor yJ4_init.desc).map (fun d => d.parameters.length) = some 1 := by decide +kernel
set_option maxHeartbeats 4000000 in
theorem ct_J4_init (l : Launch) (a0 : Nat) (i1 : Int32) : CT l yJ4_init cJ4_init 2 none 3 61 rv0 [.ref a0, .int i1] (f_J4_init a0 i1) := by
  refine CT_of (ls := [(0, .ref a0), (1, .int i1)]) (by decide) (Nat.le_of_ble_eq_true rfl) rfl ?_
  intro X h he z hX hf C E hnm hh
  have hl := hle.rf he
  subst hX
  unfold f_J4_init at hf
  refine v_aload_n C 0 dJ4_init_0 rfl rfl ?_
  refine v_iload_n C 1 dJ4_init_1 rfl rfl ?_
  refine v_callI (stk := fun _ => []) C (ct_J3_init _ a0 i1) nd_J3_init rfl (Nat.le_of_ble_eq_true rfl) (Nat.le_of_ble_eq_true rfl) [] (Nat.le_of_ble_eq_true rfl) (fun _ => rfl) rfl rfl q282 q283 q105 q284 hf hl dJ4_init_2 (fun x1 h2 hf => ?_)
  exact v_vret C E hf dJ4_init_5
def f_J4_init_2 (a0 : Nat) : hM Unit :=
  mb (f_J3_init a0 (16 : Int32)) fun _ => mret ()
theorem nd_J4_init_2 : yJ4_init_2.cls ≠ "java/lang/invoke/MethodHandle" ∧ yJ4_init_2.cls ≠ "java/lang/invoke/VarHandle" ∧ (parseMethodDescriptor yJ4_init_2.desc).map (fun d => d.parameters.length) = some 0 := by decide +kernel
set_option maxHeartbeats 4000000 in
theorem ct_J4_init_2 (l : Launch) (a0 : Nat) : CT l yJ4_init_2 cJ4_init_2 1 none 3 61 rv0 [.ref a0] (f_J4_init_2 a0) := by
  refine CT_of (ls := [(0, .ref a0)]) (by decide) (Nat.le_of_ble_eq_true rfl) rfl ?_
  intro X h he z hX hf C E hnm hh
  have hl := hle.rf he
  subst hX
  unfold f_J4_init_2 at hf
  refine v_aload_n C 0 dJ4_init_2_0 rfl rfl ?_
  refine v_bipush (x := 16) C dJ4_init_2_1 (by decide) ?_
  refine v_callI (stk := fun _ => []) C (ct_J3_init _ a0 (16 : Int32)) nd_J3_init rfl (Nat.le_of_ble_eq_true rfl) (Nat.le_of_ble_eq_true rfl) [] (Nat.le_of_ble_eq_true rfl) (fun _ => rfl) rfl rfl q282 q283 q105 q284 hf hl dJ4_init_2_3 (fun x1 h2 hf => ?_)
  exact v_vret C E hf dJ4_init_2_6
def f_J4_append_2 (a0 : Nat) (i1 : Int32) : hM Nat :=
  mb (mat a0 19 (f_J3_append_2 a0 i1)) fun x1 => mret a0
theorem nd_J4_append_2 : yJ4_append_2.cls ≠ "java/lang/invoke/MethodHandle" ∧ yJ4_append_2.cls ≠ "java/lang/invoke/VarHandle" ∧ (parseMethodDescriptor yJ4_append_2.desc).map (fun d => d.parameters.length) = some 1 := by decide +kernel
set_option maxHeartbeats 4000000 in
theorem ct_J4_append_2 (l : Launch) (a0 : Nat) (i1 : Int32) : CT l yJ4_append_2 cJ4_append_2 2 (some (.object "java/lang/StringBuilder")) 5 115 rvR [.ref a0, .int i1] (f_J4_append_2 a0 i1) := by
  refine CT_of (ls := [(0, .ref a0), (1, .int i1)]) (by decide) (Nat.le_of_ble_eq_true rfl) rfl ?_
  intro X h he z hX hf C E hnm hh
  have hl := hle.rf he
  subst hX
  unfold f_J4_append_2 at hf
  refine v_aload_n C 0 dJ4_append_2_0 rfl rfl ?_
  refine v_iload_n C 1 dJ4_append_2_1 rfl rfl ?_
  refine v_callSU (stk := fun b => .ref b :: []) C (ct_J3_append_2 _ a0 i1) rfl ⟨by decide, nd_J3_append_2.2.2⟩ rfl (Nat.le_of_ble_eq_true rfl) (Nat.le_of_ble_eq_true rfl) [] (Nat.le_of_ble_eq_true rfl) (fun _ => rfl) rfl q986 q2336 q389 q987 q105 q988 hf hl dJ4_append_2_2 (fun x1 h2 hf => ?_)
  refine v_pop C dJ4_append_2_5 rfl ?_
  refine v_aload_n C 0 dJ4_append_2_6 rfl rfl ?_
  exact v_aret C E hf (Or.inl ⟨_, rfl⟩) dJ4_append_2_7
def f_J4_charAt (a0 : Nat) (i1 : Int32) : hM Int32 :=
  mb (mat a0 19 (f_J3_charAt a0 i1)) fun x1 => mrt .char x1
theorem nd_J4_charAt : yJ4_charAt.cls ≠ "java/lang/invoke/MethodHandle" ∧ yJ4_charAt.cls ≠ "java/lang/invoke/VarHandle" ∧ (parseMethodDescriptor yJ4_charAt.desc).map (fun d => d.parameters.length) = some 1 := by decide +kernel
set_option maxHeartbeats 4000000 in
theorem ct_J4_charAt (l : Launch) (a0 : Nat) (i1 : Int32) : CT l yJ4_charAt cJ4_charAt 2 (some .char) 3 65 rvI [.ref a0, .int i1] (f_J4_charAt a0 i1) := by
  refine CT_of (ls := [(0, .ref a0), (1, .int i1)]) (by decide) (Nat.le_of_ble_eq_true rfl) rfl ?_
  intro X h he z hX hf C E hnm hh
  have hl := hle.rf he
  subst hX
  unfold f_J4_charAt at hf
  refine v_aload_n C 0 dJ4_charAt_0 rfl rfl ?_
  refine v_iload_n C 1 dJ4_charAt_1 rfl rfl ?_
  refine v_callSU (stk := fun b => .int b :: []) C (ct_J3_charAt _ a0 i1) rfl ⟨by decide, nd_J3_charAt.2.2⟩ rfl (Nat.le_of_ble_eq_true rfl) (Nat.le_of_ble_eq_true rfl) [] (Nat.le_of_ble_eq_true rfl) (fun _ => rfl) rfl q1115 q2337 q389 q1116 q105 q1117 hf hl dJ4_charAt_2 (fun x1 h2 hf => ?_)
  exact v_zret C E hf dJ4_charAt_5
def f_J4_append_3 (a0 : Nat) (i1 : Int32) : hM Nat :=
  mb (mat a0 19 (f_J3_append_3 a0 i1)) fun x1 => mret a0
theorem nd_J4_append_3 : yJ4_append_3.cls ≠ "java/lang/invoke/MethodHandle" ∧ yJ4_append_3.cls ≠ "java/lang/invoke/VarHandle" ∧ (parseMethodDescriptor yJ4_append_3.desc).map (fun d => d.parameters.length) = some 1 := by decide +kernel
set_option maxHeartbeats 4000000 in
theorem ct_J4_append_3 (l : Launch) (a0 : Nat) (i1 : Int32) : CT l yJ4_append_3 cJ4_append_3 2 (some (.object "java/lang/StringBuilder")) 6 135 rvR [.ref a0, .int i1] (f_J4_append_3 a0 i1) := by
  refine CT_of (ls := [(0, .ref a0), (1, .int i1)]) (by decide) (Nat.le_of_ble_eq_true rfl) rfl ?_
  intro X h he z hX hf C E hnm hh
  have hl := hle.rf he
  subst hX
  unfold f_J4_append_3 at hf
  refine v_aload_n C 0 dJ4_append_3_0 rfl rfl ?_
  refine v_iload_n C 1 dJ4_append_3_1 rfl rfl ?_
  refine v_callSU (stk := fun b => .ref b :: []) C (ct_J3_append_3 _ a0 i1) rfl ⟨by decide, nd_J3_append_3.2.2⟩ rfl (Nat.le_of_ble_eq_true rfl) (Nat.le_of_ble_eq_true rfl) [] (Nat.le_of_ble_eq_true rfl) (fun _ => rfl) rfl q1136 q2339 q389 q1137 q105 q1138 hf hl dJ4_append_3_2 (fun x1 h2 hf => ?_)
  refine v_pop C dJ4_append_3_5 rfl ?_
  refine v_aload_n C 0 dJ4_append_3_6 rfl rfl ?_
  exact v_aret C E hf (Or.inl ⟨_, rfl⟩) dJ4_append_3_7
def f_J4_setLength (a0 : Nat) (i1 : Int32) : hM Unit :=
  mb (mat a0 19 (f_J3_setLength a0 i1)) fun _ => mret ()
theorem nd_J4_setLength : yJ4_setLength.cls ≠ "java/lang/invoke/MethodHandle" ∧ yJ4_setLength.cls ≠ "java/lang/invoke/VarHandle" ∧ (parseMethodDescriptor yJ4_setLength.desc).map (fun d => d.parameters.length) = some 1 := by decide +kernel
set_option maxHeartbeats 4000000 in
theorem ct_J4_setLength (l : Launch) (a0 : Nat) (i1 : Int32) : CT l yJ4_setLength cJ4_setLength 2 none 5 113 rv0 [.ref a0, .int i1] (f_J4_setLength a0 i1) := by
  refine CT_of (ls := [(0, .ref a0), (1, .int i1)]) (by decide) (Nat.le_of_ble_eq_true rfl) rfl ?_
  intro X h he z hX hf C E hnm hh
  have hl := hle.rf he
  subst hX
  unfold f_J4_setLength at hf
  refine v_aload_n C 0 dJ4_setLength_0 rfl rfl ?_
  refine v_iload_n C 1 dJ4_setLength_1 rfl rfl ?_
  refine v_callSU (stk := fun _ => []) C (ct_J3_setLength _ a0 i1) rfl ⟨by decide, nd_J3_setLength.2.2⟩ rfl (Nat.le_of_ble_eq_true rfl) (Nat.le_of_ble_eq_true rfl) [] (Nat.le_of_ble_eq_true rfl) (fun _ => rfl) rfl q1283 q2343 q389 q1284 q105 q1285 hf hl dJ4_setLength_2 (fun x1 h2 hf => ?_)
  exact v_vret C E hf dJ4_setLength_5
def f_J5_hashCode (a0 : Nat) : hM Int32 :=
  mb (gI a0 20 2) fun x1 => mb (mi (¬ x1 = 0) (mret x1) (mb (gI a0 20 3) fun x4 => mi (¬ x4 = 0) (mret x1) (mb (mat a0 20 (f_J5_isLatin1 a0)) fun x5 => mb (mi (x5 = 0) (mb (gR a0 20 0) fun x11 => mb (f_J6_hashCode x11) fun x12 => mret x12) (mb (gR a0 20 0) fun x14 => mb (f_J11_hashCode x14) fun x15 => mret x15)) fun x7 => mi (¬ x7 = 0) (mb (pF a0 20 2 (.int x7)) fun _ => mret x7) (mb (pN .boolean a0 20 3 (1 : Int32)) fun _ => mret x7)))) fun x2 => mret x2
theorem nd_J5_hashCode : yJ5_hashCode.cls ≠ "java/lang/invoke/MethodHandle" ∧ yJ5_hashCode.cls ≠ "java/lang/invoke/VarHandle" ∧ (parseMethodDescriptor yJ5_hashCode.desc).map (fun d => d.parameters.length) = some 0 := by decide +kernel
set_option maxHeartbeats 4000000 in
theorem ct_J5_hashCode (l : Launch) (a0 : Nat) : CT l yJ5_hashCode cJ5_hashCode 2 (some .int) 3 69 rvI [.ref a0] (f_J5_hashCode a0) := by
  refine CT_of (ls := [(0, .ref a0)]) (by decide) (Nat.le_of_ble_eq_true rfl) rfl ?_
  intro X h he z hX hf C E hnm hh
  have hl := hle.rf he
  subst hX
  unfold f_J5_hashCode at hf
  refine v_aload_n C 0 dJ5_hashCode_0 rfl rfl ?_
  refine v_gI (Cn := RJ5) (T := TJ5) (N := 4) C hf in_J5 rfl (by decide) q1055 rfl dJ5_hashCode_1 (fun x1 hf => ?_)
  refine v_istore_n (ls' := [(1, _), (0, _)]) C dJ5_hashCode_4 rfl (by decide) rfl ?_
  refine v_iload_n C 0 dJ5_hashCode_5 rfl rfl ?_
  obtain ⟨x2, h3, hAh3, hf, hlh3⟩ := mb_inv hf hl
  refine v_cut (h1 := h3) (pc1 := 58) (ls1 := [(1, .int x2)]) (st1 := []) ?_ (fun Jh3 => ?_)
  · clear hAh3 hlh3
    refine v_iload_n C 0 dJ5_hashCode_58 rfl rfl ?_
    exact v_iret C E hf dJ5_hashCode_59
  · clear hf
    have hf := hAh3
    have hl := hlh3
    refine v_if_ne C hf (tgt := 58) dJ5_hashCode_6 (by decide) (fun c6 hf => ?_) (fun c6 hf => ?_)
    · obtain ⟨e1, rfl⟩ := mret_inv hf
      subst e1
      exact v_sub (ls' := _) [0] rfl Jh3
    · refine v_aload_n C 1 dJ5_hashCode_9 rfl rfl ?_
      refine v_gI (Cn := RJ5) (T := TJ5) (N := 4) C hf in_J5 rfl (by decide) q1056 rfl dJ5_hashCode_10 (fun x4 hf => ?_)
      refine v_if_ne C hf (tgt := 58) dJ5_hashCode_13 (by decide) (fun c13 hf => ?_) (fun c13 hf => ?_)
      · obtain ⟨e1, rfl⟩ := mret_inv hf
        subst e1
        exact v_sub (ls' := _) [0] rfl Jh3
      · refine v_aload_n C 1 dJ5_hashCode_16 rfl rfl ?_
        refine v_callV (stk := fun b => .int b :: []) C (ct_J5_isLatin1 _ a0) (show clG[20]? = some (RJ5, TJ5, 4) from rfl) ⟨rfl, nd_J5_isLatin1⟩ rfl (Nat.le_of_ble_eq_true rfl) (Nat.le_of_ble_eq_true rfl) [] (Nat.le_of_ble_eq_true rfl) (fun _ => rfl) rfl q527 q528 q529 q107 q530 hf hl dJ5_hashCode_17 (fun x5 h6 hf => ?_)
        obtain ⟨x7, h8, hAh8, hf, hlh8⟩ := mb_inv hf hl
        refine v_cut (h1 := h8) (pc1 := 40) (ls1 := [(0, .ref a0)]) (st1 := [.int x7]) ?_ (fun Jh8 => ?_)
        · clear hAh8 hlh8
          refine v_istore_n (ls' := [(1, _), (0, _)]) C dJ5_hashCode_40 rfl (by decide) rfl ?_
          refine v_iload_n C 0 dJ5_hashCode_41 rfl rfl ?_
          refine v_if_ne C hf (tgt := 53) dJ5_hashCode_42 (by decide) (fun c42 hf => ?_) (fun c42 hf => ?_)
          · refine v_aload_n C 1 dJ5_hashCode_53 rfl rfl ?_
            refine v_iload_n C 0 dJ5_hashCode_54 rfl rfl ?_
            refine v_putv (Cn := RJ5) (T := TJ5) (N := 4) (ty0 := tyJ5) C hf in_J5 tyJ5_ok nmJ5 rfl (by decide) q1055 rfl rfl rfl rfl dJ5_hashCode_55 (fun h9 hf => ?_)
            obtain ⟨e1, rfl⟩ := mret_inv hf
            subst e1
            exact v_sub (ls' := _) [0] rfl Jh3
          · refine v_aload_n C 1 dJ5_hashCode_45 rfl rfl ?_
            refine v_iconst (x := 1) C dJ5_hashCode_46 (by decide) ?_
            obtain ⟨hnar, hf⟩ := v_pN_inv hf
            refine v_putv (Cn := RJ5) (T := TJ5) (N := 4) (ty0 := tyJ5) C hf in_J5 tyJ5_ok nmJ5 rfl (by decide) q1056 rfl rfl hnar.1 hnar.2 dJ5_hashCode_47 (fun h10 hf => ?_)
            refine v_goto (tgt := 58) C dJ5_hashCode_50 (by decide) ?_
            obtain ⟨e1, rfl⟩ := mret_inv hf
            subst e1
            exact v_sub (ls' := _) [0] rfl Jh3
        · clear hf
          have hf := hAh8
          have hl := hlh8
          refine v_if_eq C hf (tgt := 33) dJ5_hashCode_20 (by decide) (fun c20 hf => ?_) (fun c20 hf => ?_)
          · refine v_aload_n C 1 dJ5_hashCode_33 rfl rfl ?_
            refine v_gR (Cn := RJ5) (T := TJ5) (N := 4) C hf in_J5 rfl (by decide) q1053 rfl dJ5_hashCode_34 (fun x11 hf => ?_)
            refine v_callS (stk := fun b => .int b :: []) C (ct_J6_hashCode _ x11) nd_J6_hashCode rfl (Nat.le_of_ble_eq_true rfl) (Nat.le_of_ble_eq_true rfl) [] (Nat.le_of_ble_eq_true rfl) (fun _ => rfl) rfl q584 q585 q108 q586 hf hl dJ5_hashCode_37 (fun x12 h13 hf => ?_)
            obtain ⟨e1, rfl⟩ := mret_inv hf
            subst e1
            exact v_sub (ls' := _) [1] rfl Jh8
          · refine v_aload_n C 1 dJ5_hashCode_23 rfl rfl ?_
            refine v_gR (Cn := RJ5) (T := TJ5) (N := 4) C hf in_J5 rfl (by decide) q1053 rfl dJ5_hashCode_24 (fun x14 hf => ?_)
            refine v_callS (stk := fun b => .int b :: []) C (ct_J11_hashCode _ x14) nd_J11_hashCode rfl (Nat.le_of_ble_eq_true rfl) (Nat.le_of_ble_eq_true rfl) [] (Nat.le_of_ble_eq_true rfl) (fun _ => rfl) rfl q532 q533 q120 q534 hf hl dJ5_hashCode_27 (fun x15 h16 hf => ?_)
            refine v_goto (tgt := 40) C dJ5_hashCode_30 (by decide) ?_
            obtain ⟨e1, rfl⟩ := mret_inv hf
            subst e1
            exact v_sub (ls' := _) [1] rfl Jh8
def f_J5_getBytes (a0 : Nat) (a1 : Nat) (i2 : Int32) (i3 : Int32) : hM Unit :=
  mb (mat a0 20 (f_J5_coder a0)) fun x1 => mb (mi (¬ x1 = i3) (mb (gR a0 20 0) fun x4 => mb (gR a0 20 0) fun x5 => mb (alen 0 x5) fun x6 => mb (f_J11_inflate x4 (0 : Int32) a1 i2 x6) fun _ => mret ()) (mb (gR a0 20 0) fun x9 => mb (gR a0 20 0) fun x10 => mb (alen 0 x10) fun x11 => mb (cpI 0 x9 (0 : Int32) a1 (i2 <<< (i3 &&& 31)) x11) fun _ => mret ())) fun _ => mret ()
theorem nd_J5_getBytes : yJ5_getBytes.cls ≠ "java/lang/invoke/MethodHandle" ∧ yJ5_getBytes.cls ≠ "java/lang/invoke/VarHandle" ∧ (parseMethodDescriptor yJ5_getBytes.desc).map (fun d => d.parameters.length) = some 3 := by decide +kernel
set_option maxHeartbeats 4000000 in
theorem ct_J5_getBytes (l : Launch) (a0 : Nat) (a1 : Nat) (i2 : Int32) (i3 : Int32) : CT l yJ5_getBytes cJ5_getBytes 4 none 4 93 rv0 [.ref a0, .ref a1, .int i2, .int i3] (f_J5_getBytes a0 a1 i2 i3) := by
  refine CT_of (ls := [(0, .ref a0), (1, .ref a1), (2, .int i2), (3, .int i3)]) (by decide) (Nat.le_of_ble_eq_true rfl) rfl ?_
  intro X h he z hX hf C E hnm hh
  have hl := hle.rf he
  subst hX
  unfold f_J5_getBytes at hf
  refine v_aload_n C 0 dJ5_getBytes_0 rfl rfl ?_
  refine v_callV (stk := fun b => .int b :: []) C (ct_J5_coder _ a0) (show clG[20]? = some (RJ5, TJ5, 4) from rfl) ⟨rfl, nd_J5_coder⟩ rfl (Nat.le_of_ble_eq_true rfl) (Nat.le_of_ble_eq_true rfl) [] (Nat.le_of_ble_eq_true rfl) (fun _ => rfl) rfl q944 q945 q946 q107 q947 hf hl dJ5_getBytes_1 (fun x1 h2 hf => ?_)
  refine v_iload_n C 3 dJ5_getBytes_4 rfl rfl ?_
  obtain ⟨_u, h3, hAh3, hf, hlh3⟩ := mb_inv hf hl
  refine v_cut (h1 := h3) (pc1 := 43) (ls1 := []) (st1 := []) ?_ (fun Jh3 => ?_)
  · clear hAh3 hlh3
    exact v_vret C E hf dJ5_getBytes_43
  · clear hf
    have hf := hAh3
    have hl := hlh3
    refine v_icmp_ne C hf (tgt := 28) dJ5_getBytes_5 (by decide) (fun c5 hf => ?_) (fun c5 hf => ?_)
    · refine v_aload_n C 0 dJ5_getBytes_28 rfl rfl ?_
      refine v_gR (Cn := RJ5) (T := TJ5) (N := 4) C hf in_J5 rfl (by decide) q1053 rfl dJ5_getBytes_29 (fun x4 hf => ?_)
      refine v_iconst (x := 0) C dJ5_getBytes_32 (by decide) ?_
      refine v_aload_n C 1 dJ5_getBytes_33 rfl rfl ?_
      refine v_iload_n C 2 dJ5_getBytes_34 rfl rfl ?_
      refine v_aload_n C 0 dJ5_getBytes_35 rfl rfl ?_
      refine v_gR (Cn := RJ5) (T := TJ5) (N := 4) C hf in_J5 rfl (by decide) q1053 rfl dJ5_getBytes_36 (fun x5 hf => ?_)
      refine v_alen C hf (by decide) dJ5_getBytes_39 (fun x6 hf => ?_)
      refine v_callS (stk := fun _ => []) C (ct_J11_inflate _ x4 (0 : Int32) a1 i2 x6) nd_J11_inflate rfl (Nat.le_of_ble_eq_true rfl) (Nat.le_of_ble_eq_true rfl) [] (Nat.le_of_ble_eq_true rfl) (fun _ => rfl) rfl q981 q962 q120 q963 hf hl dJ5_getBytes_40 (fun x7 h8 hf => ?_)
      obtain ⟨e1, rfl⟩ := mret_inv hf
      exact v_sub (ls' := _) [] rfl Jh3
    · refine v_aload_n C 0 dJ5_getBytes_8 rfl rfl ?_
      refine v_gR (Cn := RJ5) (T := TJ5) (N := 4) C hf in_J5 rfl (by decide) q1053 rfl dJ5_getBytes_9 (fun x9 hf => ?_)
      refine v_iconst (x := 0) C dJ5_getBytes_12 (by decide) ?_
      refine v_aload_n C 1 dJ5_getBytes_13 rfl rfl ?_
      refine v_iload_n C 2 dJ5_getBytes_14 rfl rfl ?_
      refine v_iload_n C 3 dJ5_getBytes_15 rfl rfl ?_
      refine v_ishl C dJ5_getBytes_16 ?_
      refine v_aload_n C 0 dJ5_getBytes_17 rfl rfl ?_
      refine v_gR (Cn := RJ5) (T := TJ5) (N := 4) C hf in_J5 rfl (by decide) q1053 rfl dJ5_getBytes_18 (fun x10 hf => ?_)
      refine v_alen C hf (by decide) dJ5_getBytes_21 (fun x11 hf => ?_)
      refine v_cpI C hf (by decide) (Nat.le_of_ble_eq_true rfl) (Nat.le_of_ble_eq_true rfl) q980 q917 q916 q128 dJ5_getBytes_22 (fun h12 hf => ?_)
      refine v_goto (tgt := 43) C dJ5_getBytes_25 (by decide) ?_
      obtain ⟨e1, rfl⟩ := mret_inv hf
      exact v_sub (ls' := _) [] rfl Jh3
def f_J5_charAt (a0 : Nat) (i1 : Int32) : hM Int32 :=
  mb (mat a0 20 (f_J5_isLatin1 a0)) fun x1 => mi (x1 = 0) (mb (gR a0 20 0) fun x3 => mb (f_J6_charAt x3 i1) fun x4 => mrt .char x4) (mb (gR a0 20 0) fun x6 => mb (f_J11_charAt x6 i1) fun x7 => mrt .char x7)
theorem nd_J5_charAt : yJ5_charAt.cls ≠ "java/lang/invoke/MethodHandle" ∧ yJ5_charAt.cls ≠ "java/lang/invoke/VarHandle" ∧ (parseMethodDescriptor yJ5_charAt.desc).map (fun d => d.parameters.length) = some 1 := by decide +kernel
set_option maxHeartbeats 4000000 in
theorem ct_J5_charAt (l : Launch) (a0 : Nat) (i1 : Int32) : CT l yJ5_charAt cJ5_charAt 2 (some .char) 3 63 rvI [.ref a0, .int i1] (f_J5_charAt a0 i1) := by
  refine CT_of (ls := [(0, .ref a0), (1, .int i1)]) (by decide) (Nat.le_of_ble_eq_true rfl) rfl ?_
  intro X h he z hX hf C E hnm hh
  have hl := hle.rf he
  subst hX
  unfold f_J5_charAt at hf
  refine v_aload_n C 0 dJ5_charAt_0 rfl rfl ?_
  refine v_callV (stk := fun b => .int b :: []) C (ct_J5_isLatin1 _ a0) (show clG[20]? = some (RJ5, TJ5, 4) from rfl) ⟨rfl, nd_J5_isLatin1⟩ rfl (Nat.le_of_ble_eq_true rfl) (Nat.le_of_ble_eq_true rfl) [] (Nat.le_of_ble_eq_true rfl) (fun _ => rfl) rfl q527 q528 q529 q107 q530 hf hl dJ5_charAt_1 (fun x1 h2 hf => ?_)
  refine v_if_eq C hf (tgt := 16) dJ5_charAt_4 (by decide) (fun c4 hf => ?_) (fun c4 hf => ?_)
  · refine v_aload_n C 0 dJ5_charAt_16 rfl rfl ?_
    refine v_gR (Cn := RJ5) (T := TJ5) (N := 4) C hf in_J5 rfl (by decide) q1053 rfl dJ5_charAt_17 (fun x3 hf => ?_)
    refine v_iload_n C 1 dJ5_charAt_20 rfl rfl ?_
    refine v_callS (stk := fun b => .int b :: []) C (ct_J6_charAt _ x3 i1) nd_J6_charAt rfl (Nat.le_of_ble_eq_true rfl) (Nat.le_of_ble_eq_true rfl) [] (Nat.le_of_ble_eq_true rfl) (fun _ => rfl) rfl q1103 q1104 q108 q1105 hf hl dJ5_charAt_21 (fun x4 h5 hf => ?_)
    exact v_zret C E hf dJ5_charAt_24
  · refine v_aload_n C 0 dJ5_charAt_7 rfl rfl ?_
    refine v_gR (Cn := RJ5) (T := TJ5) (N := 4) C hf in_J5 rfl (by decide) q1053 rfl dJ5_charAt_8 (fun x6 hf => ?_)
    refine v_iload_n C 1 dJ5_charAt_11 rfl rfl ?_
    refine v_callS (stk := fun b => .int b :: []) C (ct_J11_charAt _ x6 i1) nd_J11_charAt rfl (Nat.le_of_ble_eq_true rfl) (Nat.le_of_ble_eq_true rfl) [] (Nat.le_of_ble_eq_true rfl) (fun _ => rfl) rfl q1094 q1095 q120 q1096 hf hl dJ5_charAt_12 (fun x7 h8 hf => ?_)
    exact v_zret C E hf dJ5_charAt_15
def f_J6_compress (a0 : Nat) (i1 : Int32) (i2 : Int32) : hM Nat :=
  mb (newA 0 i2) fun x1 => mb (f_J6_compress_2 a0 i1 x1 (0 : Int32) i2) fun x3 => mi (x3 = i2) (mret x1) (mb (f_J6_newBytesLength (i1 + i2)) fun x5 => mb (f_J2_copyOfRange a0 (i1 <<< ((1 : Int32) &&& 31)) x5) fun x7 => mb (f_J6_getChar x7 x3) fun x9 => mi ((255 : Int32) < x9) (mret x7) (mb (f_J6_compress_2 x7 (0 : Int32) x1 (0 : Int32) i2) fun x11 => mi (x11 = i2) (mret x1) (mret x7)))
theorem nd_J6_compress : yJ6_compress.cls ≠ "java/lang/invoke/MethodHandle" ∧ yJ6_compress.cls ≠ "java/lang/invoke/VarHandle" ∧ (parseMethodDescriptor yJ6_compress.desc).map (fun d => d.parameters.length) = some 3 := by decide +kernel
set_option maxHeartbeats 4000000 in
theorem ct_J6_compress (l : Launch) (a0 : Nat) (i1 : Int32) (i2 : Int32) : CT l yJ6_compress cJ6_compress 6 (some (.array .byte)) 3 70 rvR [.ref a0, .int i1, .int i2] (f_J6_compress a0 i1 i2) := by
  refine CT_of (ls := [(0, .ref a0), (1, .int i1), (2, .int i2)]) (by decide) (Nat.le_of_ble_eq_true rfl) rfl ?_
  intro X h he z hX hf C E hnm hh
  have hl := hle.rf he
  subst hX
  unfold f_J6_compress at hf
  refine v_iload_n C 2 dJ6_compress_0 rfl rfl ?_
  refine v_newarraybyte C hf hl q256 dJ6_compress_1 (fun x1 h2 hf => ?_)
  refine v_astore_n (ls' := [(3, _), (0, _), (1, _), (2, _)]) C dJ6_compress_3 rfl (by decide) rfl ?_
  refine v_aload_n C 1 dJ6_compress_4 rfl rfl ?_
  refine v_iload_n C 2 dJ6_compress_5 rfl rfl ?_
  refine v_aload_n C 0 dJ6_compress_6 rfl rfl ?_
  refine v_iconst (x := 0) C dJ6_compress_7 (by decide) ?_
  refine v_iload_n C 3 dJ6_compress_8 rfl rfl ?_
  refine v_callS (stk := fun b => .int b :: []) C (ct_J6_compress_2 _ a0 i1 x1 (0 : Int32) i2) nd_J6_compress_2 rfl (Nat.le_of_ble_eq_true rfl) (Nat.le_of_ble_eq_true rfl) [] (Nat.le_of_ble_eq_true rfl) (fun _ => rfl) rfl q1046 q1047 q108 q1048 hf hl dJ6_compress_9 (fun x3 h4 hf => ?_)
  refine v_istore (ls' := [(4, _), (3, _), (0, _), (1, _), (2, _)]) C dJ6_compress_12 (by decide) rfl ?_
  refine v_iload C 0 dJ6_compress_14 rfl ?_
  refine v_iload_n C 4 dJ6_compress_16 rfl rfl ?_
  refine v_icmp_eq C hf (tgt := 64) dJ6_compress_17 (by decide) (fun c17 hf => ?_) (fun c17 hf => ?_)
  · refine v_aload_n C 1 dJ6_compress_64 rfl rfl ?_
    exact v_aret C E hf (Or.inr ⟨_, rfl⟩) dJ6_compress_65
  · refine v_aload_n C 2 dJ6_compress_20 rfl rfl ?_
    refine v_iload_n C 3 dJ6_compress_21 rfl rfl ?_
    refine v_iconst (x := 1) C dJ6_compress_22 (by decide) ?_
    refine v_ishl C dJ6_compress_23 ?_
    refine v_iload_n C 3 dJ6_compress_24 rfl rfl ?_
    refine v_iload_n C 4 dJ6_compress_25 rfl rfl ?_
    refine v_iadd C dJ6_compress_26 ?_
    refine v_callS (stk := fun b => .int b :: [.int (i1 <<< ((1 : Int32) &&& 31)), .ref a0]) C (ct_J6_newBytesLength _ (i1 + i2)) nd_J6_newBytesLength rfl (Nat.le_of_ble_eq_true rfl) (Nat.le_of_ble_eq_true rfl) [.int (i1 <<< ((1 : Int32) &&& 31)), .ref a0] (Nat.le_of_ble_eq_true rfl) (fun _ => rfl) rfl q291 q292 q108 q293 hf hl dJ6_compress_27 (fun x5 h6 hf => ?_)
    refine v_callS (stk := fun b => .ref b :: []) C (ct_J2_copyOfRange _ a0 (i1 <<< ((1 : Int32) &&& 31)) x5) nd_J2_copyOfRange rfl (Nat.le_of_ble_eq_true rfl) (Nat.le_of_ble_eq_true rfl) [] (Nat.le_of_ble_eq_true rfl) (fun _ => rfl) rfl q1049 q1035 q101 q1036 hf hl dJ6_compress_30 (fun x7 h8 hf => ?_)
    refine v_astore (ls' := [(5, _), (4, _), (3, _), (0, _), (1, _), (2, _)]) C dJ6_compress_33 (by decide) rfl ?_
    refine v_aload C 0 dJ6_compress_35 rfl ?_
    refine v_iload C 1 dJ6_compress_37 rfl ?_
    refine v_callS (stk := fun b => .int b :: []) C (ct_J6_getChar _ x7 x3) nd_J6_getChar rfl (Nat.le_of_ble_eq_true rfl) (Nat.le_of_ble_eq_true rfl) [] (Nat.le_of_ble_eq_true rfl) (fun _ => rfl) rfl q587 q558 q108 q559 hf hl dJ6_compress_39 (fun x9 h10 hf => ?_)
    refine v_sipush (x := 255) C dJ6_compress_42 (by decide) ?_
    refine v_icmp_gt C hf (tgt := 61) dJ6_compress_45 (by decide) (fun c45 hf => ?_) (fun c45 hf => ?_)
    · refine v_aload C 0 dJ6_compress_61 rfl ?_
      exact v_aret C E hf (Or.inr ⟨_, rfl⟩) dJ6_compress_63
    · refine v_aload C 0 dJ6_compress_48 rfl ?_
      refine v_iconst (x := 0) C dJ6_compress_50 (by decide) ?_
      refine v_aload_n C 2 dJ6_compress_51 rfl rfl ?_
      refine v_iconst (x := 0) C dJ6_compress_52 (by decide) ?_
      refine v_iload_n C 5 dJ6_compress_53 rfl rfl ?_
      refine v_callS (stk := fun b => .int b :: []) C (ct_J6_compress_2 _ x7 (0 : Int32) x1 (0 : Int32) i2) nd_J6_compress_2 rfl (Nat.le_of_ble_eq_true rfl) (Nat.le_of_ble_eq_true rfl) [] (Nat.le_of_ble_eq_true rfl) (fun _ => rfl) rfl q1046 q1047 q108 q1048 hf hl dJ6_compress_54 (fun x11 h12 hf => ?_)
      refine v_iload_n C 5 dJ6_compress_57 rfl rfl ?_
      refine v_icmp_eq C hf (tgt := 64) dJ6_compress_58 (by decide) (fun c58 hf => ?_) (fun c58 hf => ?_)
      · refine v_aload_n C 2 dJ6_compress_64 rfl rfl ?_
        exact v_aret C E hf (Or.inr ⟨_, rfl⟩) dJ6_compress_65
      · refine v_aload C 0 dJ6_compress_61 rfl ?_
        exact v_aret C E hf (Or.inr ⟨_, rfl⟩) dJ6_compress_63
def f_X0_word (a0 : Nat) (i1 : Int32) (i2 : Int32) : hM Int32 :=
  mb (f_X0_isSet i1) fun x1 => mi (¬ x1 = 0) (mb (gR a0 0 0) fun x3 => mb (gR x3 1 6) fun x4 => mb (gR a0 0 0) fun x5 => mb (mat x5 1 (f_X1_remainder x5 i1)) fun x6 => mb (aI 1 x4 x6) fun x8 => mb (mi (i2 = 0) (mb (f_X0_size i1) fun x11 => mret x11) (mi (i2 = 1) (mb (gR a0 0 0) fun x13 => mb (mat x13 1 (f_X1_number x13 i1)) fun x14 => mret x14) (mi (i2 = 2) (mi (x8 < 0) (mret (4 : Int32)) (mb (f_X0_size x8) fun x16 => mret x16)) (mi (i2 = 3) (mi (x8 < 0) (mret (6 : Int32)) (mret (1 : Int32))) (mi (i2 = 4) (mb (mat a0 0 (f_X0_closest a0 i1)) fun x18 => mret x18) (mi (i2 = 5) (mb (mat a0 0 (f_X0_octadsBy a0 i1 i2)) fun x20 => mret x20) (mi (i2 = 6) (mb (mat a0 0 (f_X0_octadsBy a0 i1 i2)) fun x22 => mret x22) (mret (-1 : Int32))))))))) fun x9 => mret x9) (mret (-1 : Int32))
theorem nd_X0_word : yX0_word.cls ≠ "java/lang/invoke/MethodHandle" ∧ yX0_word.cls ≠ "java/lang/invoke/VarHandle" ∧ (parseMethodDescriptor yX0_word.desc).map (fun d => d.parameters.length) = some 2 := by decide +kernel
set_option maxHeartbeats 4000000 in
theorem ct_X0_word (l : Launch) (a0 : Nat) (i1 : Int32) (i2 : Int32) : CT l yX0_word cX0_word 4 (some .int) 3 70 rvI [.ref a0, .int i1, .int i2] (f_X0_word a0 i1 i2) := by
  refine CT_of (ls := [(0, .ref a0), (1, .int i1), (2, .int i2)]) (by decide) (Nat.le_of_ble_eq_true rfl) rfl ?_
  intro X h he z hX hf C E hnm hh
  have hl := hle.rf he
  subst hX
  unfold f_X0_word at hf
  refine v_iload_n C 1 dX0_word_0 rfl rfl ?_
  refine v_callS (stk := fun b => .int b :: []) C (ct_X0_isSet _ i1) nd_X0_isSet rfl (Nat.le_of_ble_eq_true rfl) (Nat.le_of_ble_eq_true rfl) [] (Nat.le_of_ble_eq_true rfl) (fun _ => rfl) rfl q745 q746 q96 q747 hf hl dX0_word_1 (fun x1 h2 hf => ?_)
  refine v_if_ne C hf (tgt := 9) dX0_word_4 (by decide) (fun c4 hf => ?_) (fun c4 hf => ?_)
  · refine v_aload_n C 0 dX0_word_9 rfl rfl ?_
    refine v_gR (Cn := RX0) (T := TX0) (N := 16) C hf in_X0 rfl (by decide) q692 rfl dX0_word_10 (fun x3 hf => ?_)
    refine v_gRN (Cn := RX1) (T := TX1) (N := 10) C hf in_X1 rfl (by decide) q209 rfl dX0_word_13 (fun x4 hf => ?_)
    refine v_aload_n C 0 dX0_word_16 rfl rfl ?_
    refine v_gR (Cn := RX0) (T := TX0) (N := 16) C hf in_X0 rfl (by decide) q692 rfl dX0_word_17 (fun x5 hf => ?_)
    refine v_iload_n C 1 dX0_word_20 rfl rfl ?_
    refine v_callV (stk := fun b => .int b :: [.ref x4]) C (ct_X1_remainder _ x5 i1) rfl ⟨rfl, nd_X1_remainder⟩ rfl (Nat.le_of_ble_eq_true rfl) (Nat.le_of_ble_eq_true rfl) [.ref x4] (Nat.le_of_ble_eq_true rfl) (fun _ => rfl) rfl q752 q753 q754 q97 q755 hf hl dX0_word_21 (fun x6 h7 hf => ?_)
    refine v_iaload C hf dX0_word_24 (fun x8 hf => ?_)
    refine v_istore_n (ls' := [(3, _), (0, _), (1, _), (2, _)]) C dX0_word_25 rfl (by decide) rfl ?_
    refine v_iload_n C 3 dX0_word_26 rfl rfl ?_
    obtain ⟨x9, h10, hAh10, hf, hlh10⟩ := mb_inv hf hl
    refine v_cut (h1 := h10) (pc1 := 132) (ls1 := []) (st1 := [.int x9]) ?_ (fun Jh10 => ?_)
    · clear hAh10 hlh10
      exact v_iret C E hf dX0_word_132
    · clear hf
      have hf := hAh10
      have hl := hlh10
      by_cases e27_0 : i2 = 0
      · have hf := mi_pos e27_0 hf
        refine v_tswI C (k := 0) e27_0 dX0_word_27 (by decide) (by decide) rfl (tgt := 68) (by decide) ?_
        refine v_iload_n C 2 dX0_word_68 rfl rfl ?_
        refine v_callS (stk := fun b => .int b :: []) C (ct_X0_size _ i1) nd_X0_size rfl (Nat.le_of_ble_eq_true rfl) (Nat.le_of_ble_eq_true rfl) [] (Nat.le_of_ble_eq_true rfl) (fun _ => rfl) rfl q756 q179 q96 q180 hf hl dX0_word_69 (fun x11 h12 hf => ?_)
        refine v_goto (tgt := 132) C dX0_word_72 (by decide) ?_
        obtain ⟨e1, rfl⟩ := mret_inv hf
        subst e1
        exact v_sub (ls' := _) [] rfl Jh10
      have hf := mi_neg e27_0 hf
      by_cases e27_1 : i2 = 1
      · have hf := mi_pos e27_1 hf
        refine v_tswI C (k := 1) e27_1 dX0_word_27 (by decide) (by decide) rfl (tgt := 75) (by decide) ?_
        refine v_aload_n C 1 dX0_word_75 rfl rfl ?_
        refine v_gR (Cn := RX0) (T := TX0) (N := 16) C hf in_X0 rfl (by decide) q692 rfl dX0_word_76 (fun x13 hf => ?_)
        refine v_iload_n C 2 dX0_word_79 rfl rfl ?_
        refine v_callV (stk := fun b => .int b :: []) C (ct_X1_number _ x13 i1) rfl ⟨rfl, nd_X1_number⟩ rfl (Nat.le_of_ble_eq_true rfl) (Nat.le_of_ble_eq_true rfl) [] (Nat.le_of_ble_eq_true rfl) (fun _ => rfl) rfl q757 q758 q759 q97 q760 hf hl dX0_word_80 (fun x14 h15 hf => ?_)
        refine v_goto (tgt := 132) C dX0_word_83 (by decide) ?_
        obtain ⟨e1, rfl⟩ := mret_inv hf
        subst e1
        exact v_sub (ls' := _) [] rfl Jh10
      have hf := mi_neg e27_1 hf
      by_cases e27_2 : i2 = 2
      · have hf := mi_pos e27_2 hf
        refine v_tswI C (k := 2) e27_2 dX0_word_27 (by decide) (by decide) rfl (tgt := 86) (by decide) ?_
        refine v_iload_n C 0 dX0_word_86 rfl rfl ?_
        refine v_if_lt C hf (tgt := 97) dX0_word_87 (by decide) (fun c87 hf => ?_) (fun c87 hf => ?_)
        · refine v_iconst (x := 4) C dX0_word_97 (by decide) ?_
          refine v_goto (tgt := 132) C dX0_word_98 (by decide) ?_
          obtain ⟨e1, rfl⟩ := mret_inv hf
          subst e1
          exact v_sub (ls' := _) [] rfl Jh10
        · refine v_iload_n C 0 dX0_word_90 rfl rfl ?_
          refine v_callS (stk := fun b => .int b :: []) C (ct_X0_size _ x8) nd_X0_size rfl (Nat.le_of_ble_eq_true rfl) (Nat.le_of_ble_eq_true rfl) [] (Nat.le_of_ble_eq_true rfl) (fun _ => rfl) rfl q756 q179 q96 q180 hf hl dX0_word_91 (fun x16 h17 hf => ?_)
          refine v_goto (tgt := 132) C dX0_word_94 (by decide) ?_
          obtain ⟨e1, rfl⟩ := mret_inv hf
          subst e1
          exact v_sub (ls' := _) [] rfl Jh10
      have hf := mi_neg e27_2 hf
      by_cases e27_3 : i2 = 3
      · have hf := mi_pos e27_3 hf
        refine v_tswI C (k := 3) e27_3 dX0_word_27 (by decide) (by decide) rfl (tgt := 101) (by decide) ?_
        refine v_iload_n C 0 dX0_word_101 rfl rfl ?_
        refine v_if_lt C hf (tgt := 109) dX0_word_102 (by decide) (fun c102 hf => ?_) (fun c102 hf => ?_)
        · refine v_bipush (x := 6) C dX0_word_109 (by decide) ?_
          refine v_goto (tgt := 132) C dX0_word_111 (by decide) ?_
          obtain ⟨e1, rfl⟩ := mret_inv hf
          subst e1
          exact v_sub (ls' := _) [] rfl Jh10
        · refine v_iconst (x := 1) C dX0_word_105 (by decide) ?_
          refine v_goto (tgt := 132) C dX0_word_106 (by decide) ?_
          obtain ⟨e1, rfl⟩ := mret_inv hf
          subst e1
          exact v_sub (ls' := _) [] rfl Jh10
      have hf := mi_neg e27_3 hf
      by_cases e27_4 : i2 = 4
      · have hf := mi_pos e27_4 hf
        refine v_tswI C (k := 4) e27_4 dX0_word_27 (by decide) (by decide) rfl (tgt := 114) (by decide) ?_
        refine v_aload_n C 1 dX0_word_114 rfl rfl ?_
        refine v_iload_n C 2 dX0_word_115 rfl rfl ?_
        refine v_callV (stk := fun b => .int b :: []) C (ct_X0_closest _ a0 i1) rfl ⟨rfl, nd_X0_closest⟩ rfl (Nat.le_of_ble_eq_true rfl) (Nat.le_of_ble_eq_true rfl) [] (Nat.le_of_ble_eq_true rfl) (fun _ => rfl) rfl q761 q763 qs7 q96 q764 hf hl dX0_word_116 (fun x18 h19 hf => ?_)
        refine v_goto (tgt := 132) C dX0_word_119 (by decide) ?_
        obtain ⟨e1, rfl⟩ := mret_inv hf
        subst e1
        exact v_sub (ls' := _) [] rfl Jh10
      have hf := mi_neg e27_4 hf
      by_cases e27_5 : i2 = 5
      · have hf := mi_pos e27_5 hf
        refine v_tswI C (k := 5) e27_5 dX0_word_27 (by decide) (by decide) rfl (tgt := 122) (by decide) ?_
        refine v_aload_n C 1 dX0_word_122 rfl rfl ?_
        refine v_iload_n C 2 dX0_word_123 rfl rfl ?_
        refine v_iload_n C 3 dX0_word_124 rfl rfl ?_
        refine v_callV (stk := fun b => .int b :: []) C (ct_X0_octadsBy _ a0 i1 i2) rfl ⟨rfl, nd_X0_octadsBy⟩ rfl (Nat.le_of_ble_eq_true rfl) (Nat.le_of_ble_eq_true rfl) [] (Nat.le_of_ble_eq_true rfl) (fun _ => rfl) rfl q773 q775 qs8 q96 q776 hf hl dX0_word_125 (fun x20 h21 hf => ?_)
        refine v_goto (tgt := 132) C dX0_word_128 (by decide) ?_
        obtain ⟨e1, rfl⟩ := mret_inv hf
        subst e1
        exact v_sub (ls' := _) [] rfl Jh10
      have hf := mi_neg e27_5 hf
      by_cases e27_6 : i2 = 6
      · have hf := mi_pos e27_6 hf
        refine v_tswI C (k := 6) e27_6 dX0_word_27 (by decide) (by decide) rfl (tgt := 122) (by decide) ?_
        refine v_aload_n C 1 dX0_word_122 rfl rfl ?_
        refine v_iload_n C 2 dX0_word_123 rfl rfl ?_
        refine v_iload_n C 3 dX0_word_124 rfl rfl ?_
        refine v_callV (stk := fun b => .int b :: []) C (ct_X0_octadsBy _ a0 i1 i2) rfl ⟨rfl, nd_X0_octadsBy⟩ rfl (Nat.le_of_ble_eq_true rfl) (Nat.le_of_ble_eq_true rfl) [] (Nat.le_of_ble_eq_true rfl) (fun _ => rfl) rfl q773 q775 qs8 q96 q776 hf hl dX0_word_125 (fun x22 h23 hf => ?_)
        refine v_goto (tgt := 132) C dX0_word_128 (by decide) ?_
        obtain ⟨e1, rfl⟩ := mret_inv hf
        subst e1
        exact v_sub (ls' := _) [] rfl Jh10
      have hf := mi_neg e27_6 hf
      refine v_tswO C (n := 7) (lo := 0) (x := i2) (fun j hj => ?_) dX0_word_27 rfl rfl (tgt := 131) (by decide) ?_
      · rcases (show j = 0 ∨ j = 1 ∨ j = 2 ∨ j = 3 ∨ j = 4 ∨ j = 5 ∨ j = 6 by omega) with rfl | rfl | rfl | rfl | rfl | rfl | rfl
        · exact e27_0
        · exact e27_1
        · exact e27_2
        · exact e27_3
        · exact e27_4
        · exact e27_5
        · exact e27_6
      refine v_iconst (x := (-1)) C dX0_word_131 (by decide) ?_
      obtain ⟨e1, rfl⟩ := mret_inv hf
      subst e1
      exact v_sub (ls' := _) [] rfl Jh10
  · refine v_iconst (x := (-1)) C dX0_word_7 (by decide) ?_
    exact v_iret C E hf dX0_word_8
def f_X0_type (a0 : Nat) (i1 : Int32) : hM Int32 :=
  mb (f_X0_isIn i1.toInt64 (32 : Int64) (126 : Int64)) fun x1 => mi (¬ x1 = 0) (mb (gR a0 0 4) fun x3 => mb (gR x3 4 0) fun x4 => mb (mat x4 19 (f_J4_length x4)) fun x5 => mi (¬ x5 = (100 : Int32)) (mb (gR a0 0 4) fun x7 => mb (gR x7 4 0) fun x8 => mb (mat x8 19 (f_J4_append_3 x8 (ji2c i1))) fun x9 => mb (gR a0 0 4) fun x11 => mb (gR x11 4 0) fun x12 => mb (mat x12 19 (f_J4_length x12)) fun x13 => mret x13) (mret (-3 : Int32))) (mret (-1 : Int32))
theorem nd_X0_type : yX0_type.cls ≠ "java/lang/invoke/MethodHandle" ∧ yX0_type.cls ≠ "java/lang/invoke/VarHandle" ∧ (parseMethodDescriptor yX0_type.desc).map (fun d => d.parameters.length) = some 1 := by decide +kernel
set_option maxHeartbeats 4000000 in
theorem ct_X0_type (l : Launch) (a0 : Nat) (i1 : Int32) : CT l yX0_type cX0_type 2 (some .int) 7 156 rvI [.ref a0, .int i1] (f_X0_type a0 i1) := by
  refine CT_of (ls := [(0, .ref a0), (1, .int i1)]) (by decide) (Nat.le_of_ble_eq_true rfl) rfl ?_
  intro X h he z hX hf C E hnm hh
  have hl := hle.rf he
  subst hX
  unfold f_X0_type at hf
  refine v_iload_n C 1 dX0_type_0 rfl rfl ?_
  refine v_i2l C dX0_type_1 ?_
  refine v_ldc2 (x := 32) C q1129 dX0_type_2 ?_
  refine v_ldc2 (x := 126) C q1130 dX0_type_5 ?_
  refine v_callS (stk := fun b => .int b :: []) C (ct_X0_isIn _ i1.toInt64 (32 : Int64) (126 : Int64)) nd_X0_isIn rfl (Nat.le_of_ble_eq_true rfl) (Nat.le_of_ble_eq_true rfl) [] (Nat.le_of_ble_eq_true rfl) (fun _ => rfl) rfl q749 q750 q96 q751 hf hl dX0_type_8 (fun x1 h2 hf => ?_)
  refine v_if_ne C hf (tgt := 16) dX0_type_11 (by decide) (fun c11 hf => ?_) (fun c11 hf => ?_)
  · refine v_aload_n C 0 dX0_type_16 rfl rfl ?_
    refine v_gR (Cn := RX0) (T := TX0) (N := 16) C hf in_X0 rfl (by decide) q696 rfl dX0_type_17 (fun x3 hf => ?_)
    refine v_gRN (Cn := RX4) (T := TX4) (N := 2) C hf in_X4 rfl (by decide) q391 rfl dX0_type_20 (fun x4 hf => ?_)
    refine v_callV (stk := fun b => .int b :: []) C (ct_J4_length _ x4) rfl ⟨rfl, nd_J4_length⟩ rfl (Nat.le_of_ble_eq_true rfl) (Nat.le_of_ble_eq_true rfl) [] (Nat.le_of_ble_eq_true rfl) (fun _ => rfl) rfl q1131 q1029 q2338 q106 q1030 hf hl dX0_type_23 (fun x5 h6 hf => ?_)
    refine v_bipush (x := 100) C dX0_type_26 (by decide) ?_
    refine v_icmp_ne C hf (tgt := 34) dX0_type_28 (by decide) (fun c28 hf => ?_) (fun c28 hf => ?_)
    · refine v_aload_n C 0 dX0_type_34 rfl rfl ?_
      refine v_gR (Cn := RX0) (T := TX0) (N := 16) C hf in_X0 rfl (by decide) q696 rfl dX0_type_35 (fun x7 hf => ?_)
      refine v_gRN (Cn := RX4) (T := TX4) (N := 2) C hf in_X4 rfl (by decide) q391 rfl dX0_type_38 (fun x8 hf => ?_)
      refine v_iload_n C 1 dX0_type_41 rfl rfl ?_
      refine v_i2c C dX0_type_42 ?_
      refine v_callV (stk := fun b => .ref b :: []) C (ct_J4_append_3 _ x8 (ji2c i1)) rfl ⟨rfl, nd_J4_append_3⟩ rfl (Nat.le_of_ble_eq_true rfl) (Nat.le_of_ble_eq_true rfl) [] (Nat.le_of_ble_eq_true rfl) (fun _ => rfl) rfl q1132 q1133 q1134 q106 q1135 hf hl dX0_type_43 (fun x9 h10 hf => ?_)
      refine v_pop C dX0_type_46 rfl ?_
      refine v_aload_n C 0 dX0_type_47 rfl rfl ?_
      refine v_gR (Cn := RX0) (T := TX0) (N := 16) C hf in_X0 rfl (by decide) q696 rfl dX0_type_48 (fun x11 hf => ?_)
      refine v_gRN (Cn := RX4) (T := TX4) (N := 2) C hf in_X4 rfl (by decide) q391 rfl dX0_type_51 (fun x12 hf => ?_)
      refine v_callV (stk := fun b => .int b :: []) C (ct_J4_length _ x12) rfl ⟨rfl, nd_J4_length⟩ rfl (Nat.le_of_ble_eq_true rfl) (Nat.le_of_ble_eq_true rfl) [] (Nat.le_of_ble_eq_true rfl) (fun _ => rfl) rfl q1131 q1029 q2338 q106 q1030 hf hl dX0_type_54 (fun x13 h14 hf => ?_)
      exact v_iret C E hf dX0_type_57
    · refine v_bipush (x := (-3)) C dX0_type_31 (by decide) ?_
      exact v_iret C E hf dX0_type_33
  · refine v_iconst (x := (-1)) C dX0_type_14 (by decide) ?_
    exact v_iret C E hf dX0_type_15
def f_X11_named (a0 : Nat) : hM (Option Nat) :=
  mb (mat a0 20 (f_J5_hashCode a0)) fun x1 => mb (mi (x1 = 3423444) (mb (mcn 7) fun x27 => mb (mat a0 20 (f_J5_equals a0 x27)) fun x28 => mi (x28 = 0) (mret (-1 : Int32)) (mret (2 : Int32))) (mi (x1 = 3522662) (mb (mcn 9) fun x30 => mb (mat a0 20 (f_J5_equals a0 x30)) fun x31 => mi (x31 = 0) (mret (-1 : Int32)) (mret (4 : Int32))) (mi (x1 = 3540684) (mb (mcn 5) fun x33 => mb (mat a0 20 (f_J5_equals a0 x33)) fun x34 => mi (x34 = 0) (mret (-1 : Int32)) (mret (0 : Int32))) (mi (x1 = 3649482) (mb (mcn 8) fun x36 => mb (mat a0 20 (f_J5_equals a0 x36)) fun x37 => mi (x37 = 0) (mret (-1 : Int32)) (mret (3 : Int32))) (mi (x1 = 110777640) (mb (mcn 6) fun x39 => mb (mat a0 20 (f_J5_equals a0 x39)) fun x40 => mi (x40 = 0) (mret (-1 : Int32)) (mret (1 : Int32))) (mret (-1 : Int32))))))) fun x3 => mb (mi (x3 = 0) (mb (newO 11 0 []) fun x7 => mb (f_X13_init x7) fun _ => mret (some x7)) (mi (x3 = 1) (mb (newO 12 0 []) fun x11 => mb (f_X14_init x11) fun _ => mret (some x11)) (mi (x3 = 2) (mb (newO 13 0 []) fun x15 => mb (f_X15_init x15) fun _ => mret (some x15)) (mi (x3 = 3) (mb (newO 14 0 []) fun x19 => mb (f_X16_init x19) fun _ => mret (some x19)) (mi (x3 = 4) (mb (newO 7 0 []) fun x23 => mb (f_X7_init x23) fun _ => mret (some x23)) (mret none)))))) fun x5 => mret x5
theorem nd_X11_named : yX11_named.cls ≠ "java/lang/invoke/MethodHandle" ∧ yX11_named.cls ≠ "java/lang/invoke/VarHandle" ∧ (parseMethodDescriptor yX11_named.desc).map (fun d => d.parameters.length) = some 1 := by decide +kernel
set_option maxHeartbeats 4000000 in
theorem ct_X11_named (l : Launch) (a0 : Nat) : CT l yX11_named cX11_named 3 (some (.object "EightBlocks$Way")) 4 90 rvQ [.ref a0] (f_X11_named a0) := by
  refine CT_of (ls := [(0, .ref a0)]) (by decide) (Nat.le_of_ble_eq_true rfl) rfl ?_
  intro X h he z hX hf C E hnm hh
  have hl := hle.rf he
  subst hX
  unfold f_X11_named at hf
  refine v_aload_n C 0 dX11_named_0 rfl rfl ?_
  refine v_astore_n (ls' := [(1, _), (0, _)]) C dX11_named_1 rfl (by decide) rfl ?_
  refine v_iconst (x := (-1)) C dX11_named_2 (by decide) ?_
  refine v_istore_n (ls' := [(2, _), (1, _), (0, _)]) C dX11_named_3 rfl (by decide) rfl ?_
  refine v_aload_n C 1 dX11_named_4 rfl rfl ?_
  refine v_callV (stk := fun b => .int b :: []) C (ct_J5_hashCode _ a0) (show clG[20]? = some (RJ5, TJ5, 4) from rfl) ⟨rfl, nd_J5_hashCode⟩ rfl (Nat.le_of_ble_eq_true rfl) (Nat.le_of_ble_eq_true rfl) [] (Nat.le_of_ble_eq_true rfl) (fun _ => rfl) rfl q523 q524 q525 q107 q526 hf hl dX11_named_5 (fun x1 h2 hf => ?_)
  obtain ⟨x3, h4, hAh4, hf, hlh4⟩ := mb_inv hf hl
  refine v_cut (h1 := h4) (pc1 := 127) (ls1 := [(2, .int x3)]) (st1 := []) ?_ (fun Jh4 => ?_)
  · clear hAh4 hlh4
    refine v_iload_n C 0 dX11_named_127 rfl rfl ?_
    obtain ⟨x5, h6, hAh6, hf, hlh6⟩ := mb_inv hf hl
    refine v_cut (h1 := h6) (pc1 := 215) (ls1 := []) (st1 := [va_rf x5]) ?_ (fun Jh6 => ?_)
    · clear hAh6 hlh6
      exact v_aretQ (x := x5) C E hf (Or.inl ⟨_, rfl⟩) dX11_named_215
    · clear hf
      have hf := hAh6
      have hl := hlh6
      by_cases e128_0 : x3 = 0
      · have hf := mi_pos e128_0 hf
        refine v_tswI C (k := 0) e128_0 dX11_named_128 (by decide) (by decide) rfl (tgt := 164) (by decide) ?_
        refine v_new (Cn := RX13) (T := T0G) (N := 0) (ty0 := fun _ => .int) C hf hl (by intro w hw; cases hw) (fun k hk => absurd hk (Nat.not_lt_zero k)) rfl q602 q603 q123 (fun k hk => absurd hk (Nat.not_lt_zero k)) dX11_named_164 (fun x7 h8 hf => ?_)
        refine v_dup C dX11_named_167 rfl ?_
        refine v_callIN (stk := fun _ => [.ref x7]) C (ct_X13_init _ x7) nd_X13_init rfl (Nat.le_of_ble_eq_true rfl) (Nat.le_of_ble_eq_true rfl) [.ref x7] (Nat.le_of_ble_eq_true rfl) (fun _ => rfl) rfl rfl q604 q605 q123 q606 hf hl dX11_named_168 (fun x9 h10 hf => ?_)
        refine v_goto (tgt := 215) C dX11_named_171 (by decide) ?_
        obtain ⟨e1, rfl⟩ := mret_inv hf
        subst e1
        exact v_sub (ls' := _) [] rfl Jh6
      have hf := mi_neg e128_0 hf
      by_cases e128_1 : x3 = 1
      · have hf := mi_pos e128_1 hf
        refine v_tswI C (k := 1) e128_1 dX11_named_128 (by decide) (by decide) rfl (tgt := 174) (by decide) ?_
        refine v_new (Cn := RX14) (T := T0G) (N := 0) (ty0 := fun _ => .int) C hf hl (by intro w hw; cases hw) (fun k hk => absurd hk (Nat.not_lt_zero k)) rfl q612 q613 q124 (fun k hk => absurd hk (Nat.not_lt_zero k)) dX11_named_174 (fun x11 h12 hf => ?_)
        refine v_dup C dX11_named_177 rfl ?_
        refine v_callIN (stk := fun _ => [.ref x11]) C (ct_X14_init _ x11) nd_X14_init rfl (Nat.le_of_ble_eq_true rfl) (Nat.le_of_ble_eq_true rfl) [.ref x11] (Nat.le_of_ble_eq_true rfl) (fun _ => rfl) rfl rfl q614 q615 q124 q616 hf hl dX11_named_178 (fun x13 h14 hf => ?_)
        refine v_goto (tgt := 215) C dX11_named_181 (by decide) ?_
        obtain ⟨e1, rfl⟩ := mret_inv hf
        subst e1
        exact v_sub (ls' := _) [] rfl Jh6
      have hf := mi_neg e128_1 hf
      by_cases e128_2 : x3 = 2
      · have hf := mi_pos e128_2 hf
        refine v_tswI C (k := 2) e128_2 dX11_named_128 (by decide) (by decide) rfl (tgt := 184) (by decide) ?_
        refine v_new (Cn := RX15) (T := T0G) (N := 0) (ty0 := fun _ => .int) C hf hl (by intro w hw; cases hw) (fun k hk => absurd hk (Nat.not_lt_zero k)) rfl q619 q620 q125 (fun k hk => absurd hk (Nat.not_lt_zero k)) dX11_named_184 (fun x15 h16 hf => ?_)
        refine v_dup C dX11_named_187 rfl ?_
        refine v_callIN (stk := fun _ => [.ref x15]) C (ct_X15_init _ x15) nd_X15_init rfl (Nat.le_of_ble_eq_true rfl) (Nat.le_of_ble_eq_true rfl) [.ref x15] (Nat.le_of_ble_eq_true rfl) (fun _ => rfl) rfl rfl q621 q622 q125 q623 hf hl dX11_named_188 (fun x17 h18 hf => ?_)
        refine v_goto (tgt := 215) C dX11_named_191 (by decide) ?_
        obtain ⟨e1, rfl⟩ := mret_inv hf
        subst e1
        exact v_sub (ls' := _) [] rfl Jh6
      have hf := mi_neg e128_2 hf
      by_cases e128_3 : x3 = 3
      · have hf := mi_pos e128_3 hf
        refine v_tswI C (k := 3) e128_3 dX11_named_128 (by decide) (by decide) rfl (tgt := 194) (by decide) ?_
        refine v_new (Cn := RX16) (T := T0G) (N := 0) (ty0 := fun _ => .int) C hf hl (by intro w hw; cases hw) (fun k hk => absurd hk (Nat.not_lt_zero k)) rfl q626 q627 q126 (fun k hk => absurd hk (Nat.not_lt_zero k)) dX11_named_194 (fun x19 h20 hf => ?_)
        refine v_dup C dX11_named_197 rfl ?_
        refine v_callIN (stk := fun _ => [.ref x19]) C (ct_X16_init _ x19) nd_X16_init rfl (Nat.le_of_ble_eq_true rfl) (Nat.le_of_ble_eq_true rfl) [.ref x19] (Nat.le_of_ble_eq_true rfl) (fun _ => rfl) rfl rfl q628 q629 q126 q630 hf hl dX11_named_198 (fun x21 h22 hf => ?_)
        refine v_goto (tgt := 215) C dX11_named_201 (by decide) ?_
        obtain ⟨e1, rfl⟩ := mret_inv hf
        subst e1
        exact v_sub (ls' := _) [] rfl Jh6
      have hf := mi_neg e128_3 hf
      by_cases e128_4 : x3 = 4
      · have hf := mi_pos e128_4 hf
        refine v_tswI C (k := 4) e128_4 dX11_named_128 (by decide) (by decide) rfl (tgt := 204) (by decide) ?_
        refine v_new (Cn := RX7) (T := T0G) (N := 0) (ty0 := fun _ => .int) C hf hl (by intro w hw; cases hw) (fun k hk => absurd hk (Nat.not_lt_zero k)) rfl q633 q433 q115 (fun k hk => absurd hk (Nat.not_lt_zero k)) dX11_named_204 (fun x23 h24 hf => ?_)
        refine v_dup C dX11_named_207 rfl ?_
        refine v_callIN (stk := fun _ => [.ref x23]) C (ct_X7_init _ x23) nd_X7_init rfl (Nat.le_of_ble_eq_true rfl) (Nat.le_of_ble_eq_true rfl) [.ref x23] (Nat.le_of_ble_eq_true rfl) (fun _ => rfl) rfl rfl q634 q435 q115 q436 hf hl dX11_named_208 (fun x25 h26 hf => ?_)
        refine v_goto (tgt := 215) C dX11_named_211 (by decide) ?_
        obtain ⟨e1, rfl⟩ := mret_inv hf
        subst e1
        exact v_sub (ls' := _) [] rfl Jh6
      have hf := mi_neg e128_4 hf
      refine v_tswO C (n := 5) (lo := 0) (x := x3) (fun j hj => ?_) dX11_named_128 rfl rfl (tgt := 214) (by decide) ?_
      · rcases (show j = 0 ∨ j = 1 ∨ j = 2 ∨ j = 3 ∨ j = 4 by omega) with rfl | rfl | rfl | rfl | rfl
        · exact e128_0
        · exact e128_1
        · exact e128_2
        · exact e128_3
        · exact e128_4
      refine v_null C dX11_named_214 ?_
      obtain ⟨e1, rfl⟩ := mret_inv hf
      subst e1
      exact v_sub (ls' := _) [] rfl Jh6
  · clear hf
    have hf := hAh4
    have hl := hlh4
    by_cases e8_0 : x1 = 3423444
    · have hf := mi_pos e8_0 hf
      refine v_lswI C (k := 3423444) e8_0 dX11_named_8 (by decide) rfl (tgt := 88) (by decide) ?_
      refine v_aload_n C 1 dX11_named_88 rfl rfl ?_
      refine v_ldcS C hf rfl q599 dX11_named_89 (fun x27 hf => ?_)
      refine v_callV (stk := fun b => .int b :: []) C (ct_J5_equals _ a0 x27) (show clG[20]? = some (RJ5, TJ5, 4) from rfl) ⟨rfl, nd_J5_equals⟩ rfl (Nat.le_of_ble_eq_true rfl) (Nat.le_of_ble_eq_true rfl) [] (Nat.le_of_ble_eq_true rfl) (fun _ => rfl) rfl q590 q591 q592 q107 q593 hf hl dX11_named_91 (fun x28 h29 hf => ?_)
      refine v_if_eq C hf (tgt := 127) dX11_named_94 (by decide) (fun c94 hf => ?_) (fun c94 hf => ?_)
      · obtain ⟨e1, rfl⟩ := mret_inv hf
        subst e1
        exact v_sub (ls' := _) [0] rfl Jh4
      · refine v_iconst (x := 2) C dX11_named_97 (by decide) ?_
        refine v_istore_n (ls' := [(2, _), (1, _), (0, _)]) C dX11_named_98 rfl (by decide) rfl ?_
        refine v_goto (tgt := 127) C dX11_named_99 (by decide) ?_
        obtain ⟨e1, rfl⟩ := mret_inv hf
        subst e1
        exact v_sub (ls' := _) [0] rfl Jh4
    have hf := mi_neg e8_0 hf
    by_cases e8_1 : x1 = 3522662
    · have hf := mi_pos e8_1 hf
      refine v_lswI C (k := 3522662) e8_1 dX11_named_8 (by decide) rfl (tgt := 116) (by decide) ?_
      refine v_aload_n C 1 dX11_named_116 rfl rfl ?_
      refine v_ldcS C hf rfl q601 dX11_named_117 (fun x30 hf => ?_)
      refine v_callV (stk := fun b => .int b :: []) C (ct_J5_equals _ a0 x30) (show clG[20]? = some (RJ5, TJ5, 4) from rfl) ⟨rfl, nd_J5_equals⟩ rfl (Nat.le_of_ble_eq_true rfl) (Nat.le_of_ble_eq_true rfl) [] (Nat.le_of_ble_eq_true rfl) (fun _ => rfl) rfl q590 q591 q592 q107 q593 hf hl dX11_named_119 (fun x31 h32 hf => ?_)
      refine v_if_eq C hf (tgt := 127) dX11_named_122 (by decide) (fun c122 hf => ?_) (fun c122 hf => ?_)
      · obtain ⟨e1, rfl⟩ := mret_inv hf
        subst e1
        exact v_sub (ls' := _) [0] rfl Jh4
      · refine v_iconst (x := 4) C dX11_named_125 (by decide) ?_
        refine v_istore_n (ls' := [(2, _), (1, _), (0, _)]) C dX11_named_126 rfl (by decide) rfl ?_
        obtain ⟨e1, rfl⟩ := mret_inv hf
        subst e1
        exact v_sub (ls' := _) [0] rfl Jh4
    have hf := mi_neg e8_1 hf
    by_cases e8_2 : x1 = 3540684
    · have hf := mi_pos e8_2 hf
      refine v_lswI C (k := 3540684) e8_2 dX11_named_8 (by decide) rfl (tgt := 60) (by decide) ?_
      refine v_aload_n C 1 dX11_named_60 rfl rfl ?_
      refine v_ldcS C hf rfl q589 dX11_named_61 (fun x33 hf => ?_)
      refine v_callV (stk := fun b => .int b :: []) C (ct_J5_equals _ a0 x33) (show clG[20]? = some (RJ5, TJ5, 4) from rfl) ⟨rfl, nd_J5_equals⟩ rfl (Nat.le_of_ble_eq_true rfl) (Nat.le_of_ble_eq_true rfl) [] (Nat.le_of_ble_eq_true rfl) (fun _ => rfl) rfl q590 q591 q592 q107 q593 hf hl dX11_named_63 (fun x34 h35 hf => ?_)
      refine v_if_eq C hf (tgt := 127) dX11_named_66 (by decide) (fun c66 hf => ?_) (fun c66 hf => ?_)
      · obtain ⟨e1, rfl⟩ := mret_inv hf
        subst e1
        exact v_sub (ls' := _) [0] rfl Jh4
      · refine v_iconst (x := 0) C dX11_named_69 (by decide) ?_
        refine v_istore_n (ls' := [(2, _), (1, _), (0, _)]) C dX11_named_70 rfl (by decide) rfl ?_
        refine v_goto (tgt := 127) C dX11_named_71 (by decide) ?_
        obtain ⟨e1, rfl⟩ := mret_inv hf
        subst e1
        exact v_sub (ls' := _) [0] rfl Jh4
    have hf := mi_neg e8_2 hf
    by_cases e8_3 : x1 = 3649482
    · have hf := mi_pos e8_3 hf
      refine v_lswI C (k := 3649482) e8_3 dX11_named_8 (by decide) rfl (tgt := 102) (by decide) ?_
      refine v_aload_n C 1 dX11_named_102 rfl rfl ?_
      refine v_ldcS C hf rfl q600 dX11_named_103 (fun x36 hf => ?_)
      refine v_callV (stk := fun b => .int b :: []) C (ct_J5_equals _ a0 x36) (show clG[20]? = some (RJ5, TJ5, 4) from rfl) ⟨rfl, nd_J5_equals⟩ rfl (Nat.le_of_ble_eq_true rfl) (Nat.le_of_ble_eq_true rfl) [] (Nat.le_of_ble_eq_true rfl) (fun _ => rfl) rfl q590 q591 q592 q107 q593 hf hl dX11_named_105 (fun x37 h38 hf => ?_)
      refine v_if_eq C hf (tgt := 127) dX11_named_108 (by decide) (fun c108 hf => ?_) (fun c108 hf => ?_)
      · obtain ⟨e1, rfl⟩ := mret_inv hf
        subst e1
        exact v_sub (ls' := _) [0] rfl Jh4
      · refine v_iconst (x := 3) C dX11_named_111 (by decide) ?_
        refine v_istore_n (ls' := [(2, _), (1, _), (0, _)]) C dX11_named_112 rfl (by decide) rfl ?_
        refine v_goto (tgt := 127) C dX11_named_113 (by decide) ?_
        obtain ⟨e1, rfl⟩ := mret_inv hf
        subst e1
        exact v_sub (ls' := _) [0] rfl Jh4
    have hf := mi_neg e8_3 hf
    by_cases e8_4 : x1 = 110777640
    · have hf := mi_pos e8_4 hf
      refine v_lswI C (k := 110777640) e8_4 dX11_named_8 (by decide) rfl (tgt := 74) (by decide) ?_
      refine v_aload_n C 1 dX11_named_74 rfl rfl ?_
      refine v_ldcS C hf rfl q598 dX11_named_75 (fun x39 hf => ?_)
      refine v_callV (stk := fun b => .int b :: []) C (ct_J5_equals _ a0 x39) (show clG[20]? = some (RJ5, TJ5, 4) from rfl) ⟨rfl, nd_J5_equals⟩ rfl (Nat.le_of_ble_eq_true rfl) (Nat.le_of_ble_eq_true rfl) [] (Nat.le_of_ble_eq_true rfl) (fun _ => rfl) rfl q590 q591 q592 q107 q593 hf hl dX11_named_77 (fun x40 h41 hf => ?_)
      refine v_if_eq C hf (tgt := 127) dX11_named_80 (by decide) (fun c80 hf => ?_) (fun c80 hf => ?_)
      · obtain ⟨e1, rfl⟩ := mret_inv hf
        subst e1
        exact v_sub (ls' := _) [0] rfl Jh4
      · refine v_iconst (x := 1) C dX11_named_83 (by decide) ?_
        refine v_istore_n (ls' := [(2, _), (1, _), (0, _)]) C dX11_named_84 rfl (by decide) rfl ?_
        refine v_goto (tgt := 127) C dX11_named_85 (by decide) ?_
        obtain ⟨e1, rfl⟩ := mret_inv hf
        subst e1
        exact v_sub (ls' := _) [0] rfl Jh4
    have hf := mi_neg e8_4 hf
    refine v_lswO C dX11_named_8 ⟨lv_neT e8_0 (by decide), lv_neT e8_1 (by decide), lv_neT e8_2 (by decide), lv_neT e8_3 (by decide), lv_neT e8_4 (by decide), trivial⟩ (by decide) (tgt := 127) (by decide) ?_
    obtain ⟨e1, rfl⟩ := mret_inv hf
    subst e1
    exact v_sub (ls' := _) [0] rfl Jh4
def l_X11_over_4 (a0 : Nat) (i1 : Int32) : Nat → Int32 → Int32 → hM (Int32)
  | 0, _, _ => mfail
  | n + 1, i2, i3 => mi ((24 : Int32) ≤ i3) (mret i2) (mb (f_X0_has i1 i3) fun x1 => mb (mi (x1 = 0) (mret (0 : Int32)) (mb (d_X11_to a0 i3) fun x5 => mret ((1 : Int32) <<< (x5 &&& 31)))) fun x3 => l_X11_over_4 a0 i1 n (i2 ||| x3) (i3 + (1 : Int32)))
def f_X11_over (a0 : Nat) (i1 : Int32) : hM Int32 :=
  mb (l_X11_over_4 a0 i1 FU (0 : Int32) (0 : Int32)) fun x7 => mret x7
theorem nd_X11_over : yX11_over.cls ≠ "java/lang/invoke/MethodHandle" ∧ yX11_over.cls ≠ "java/lang/invoke/VarHandle" ∧ (parseMethodDescriptor yX11_over.desc).map (fun d => d.parameters.length) = some 1 := by decide +kernel
set_option maxHeartbeats 4000000 in
theorem ct_X11_over (l : Launch) (a0 : Nat) (i1 : Int32) : CT l yX11_over cX11_over 4 (some .int) 3 64 rvI [.ref a0, .int i1] (f_X11_over a0 i1) := by
  refine CT_of (ls := [(0, .ref a0), (1, .int i1)]) (by decide) (Nat.le_of_ble_eq_true rfl) rfl ?_
  intro X h he z hX hf C E hnm hh
  have hl := hle.rf he
  subst hX
  have L4 : ∀ (a0 : Nat) (i1 : Int32) (n : Nat) (i2 : Int32) (i3 : Int32) (h h1 : Hp) (o : Int32), (l_X11_over_4 a0 i1 n i2 i3).1 h = some (o, h1) → hle h1 he → V X h1 40 [(2, .int o)] [] → V X h 4 [(0, .ref a0), (1, .int i1), (2, .int i2), (3, .int i3)] [] := by
    intro a0 i1 n
    induction n with
    | zero => intro i2 i3 h h1 o hf; exact mfail_inv hf
    | succ n ih =>
      intro i2 i3 h h1 o hf hl J
      rw [l_X11_over_4] at hf
      refine v_iload_n C 3 dX11_over_4 rfl rfl ?_
      refine v_bipush (x := 24) C dX11_over_5 (by decide) ?_
      refine v_icmp_ge C hf (tgt := 40) dX11_over_7 (by decide) (fun c7 hf => ?_) (fun c7 hf => ?_)
      · obtain ⟨e1, rfl⟩ := mret_inv hf
        subst e1
        exact v_sub (ls' := _) [2] rfl J
      · refine v_iload_n C 2 dX11_over_10 rfl rfl ?_
        refine v_iload_n C 1 dX11_over_11 rfl rfl ?_
        refine v_iload_n C 3 dX11_over_12 rfl rfl ?_
        refine v_callSN (stk := fun b => .int b :: [.int i2]) C (ct_X0_has _ i1 i3) nd_X0_has rfl (Nat.le_of_ble_eq_true rfl) (Nat.le_of_ble_eq_true rfl) [.int i2] (Nat.le_of_ble_eq_true rfl) (fun _ => rfl) rfl q834 q164 q96 q165 hf hl dX11_over_13 (fun x1 h2 hf => ?_)
        obtain ⟨x3, h4, hAh4, hf, hlh4⟩ := mb_inv hf hl
        refine v_cut (h1 := h4) (pc1 := 32) (ls1 := [(0, .ref a0), (1, .int i1), (3, .int i3)]) (st1 := [.int x3, .int i2]) ?_ (fun Jh4 => ?_)
        · clear hAh4 hlh4
          refine v_ior C dX11_over_32 ?_
          refine v_istore_n (ls' := [(2, _), (0, _), (1, _), (3, _)]) C dX11_over_33 rfl (by decide) rfl ?_
          refine v_iinc (ls' := [(3, _), (2, _), (0, _), (1, _)]) (y := i3 + (1 : Int32)) C 3 dX11_over_34 rfl rfl (by decide) rfl ?_
          refine v_goto (tgt := 4) C dX11_over_37 (by decide) ?_
          refine v_sub (ls' := _) [2, 3, 1, 0] rfl (ih (i2 ||| x3) (i3 + (1 : Int32)) _ _ _ hf hl J)
        · clear hf
          have hf := hAh4
          have hl := hlh4
          refine v_if_eq C hf (tgt := 31) dX11_over_16 (by decide) (fun c16 hf => ?_) (fun c16 hf => ?_)
          · refine v_iconst (x := 0) C dX11_over_31 (by decide) ?_
            obtain ⟨e1, rfl⟩ := mret_inv hf
            subst e1
            exact v_sub (ls' := _) [0, 1, 3] rfl Jh4
          · refine v_iconst (x := 1) C dX11_over_19 (by decide) ?_
            refine v_aload_n C 0 dX11_over_20 rfl rfl ?_
            refine v_iload_n C 3 dX11_over_21 rfl rfl ?_
            refine v_d_X11_to C a0 i3 [.int (1 : Int32), .int i2] (Nat.le_of_ble_eq_true rfl) (Nat.le_of_ble_eq_true rfl) (Nat.le_of_ble_eq_true rfl) rfl q836 hf hl dX11_over_22 (fun x5 h6 hf => ?_)
            refine v_ishl C dX11_over_27 ?_
            refine v_goto (tgt := 32) C dX11_over_28 (by decide) ?_
            obtain ⟨e1, rfl⟩ := mret_inv hf
            subst e1
            exact v_sub (ls' := _) [0, 1, 3] rfl Jh4
  unfold f_X11_over at hf
  refine v_iconst (x := 0) C dX11_over_0 (by decide) ?_
  refine v_istore_n (ls' := [(2, _), (0, _), (1, _)]) C dX11_over_1 rfl (by decide) rfl ?_
  refine v_iconst (x := 0) C dX11_over_2 (by decide) ?_
  refine v_istore_n (ls' := [(3, _), (2, _), (0, _), (1, _)]) C dX11_over_3 rfl (by decide) rfl ?_
  obtain ⟨x7, h8, eh8, hf, hlh8⟩ := mb_inv hf hl
  refine v_sub (ls' := _) [2, 3, 1, 0] rfl (L4 a0 i1 FU (0 : Int32) (0 : Int32) _ _ _ eh8 hlh8 ?_)
  refine v_iload_n C 0 dX11_over_40 rfl rfl ?_
  exact v_iret C E hf dX11_over_41
def l_X11_round_10 (a0 : Nat) (i1 : Int32) : Nat → Int32 → Int32 → hM (Int32)
  | 0, _, _ => mfail
  | n + 1, i2, i3 => mi ((24 : Int32) ≤ i2) (mret i2) (mi (i3 = i1) (mret i2) (mb (d_X11_to a0 i3) fun x3 => l_X11_round_10 a0 i1 n (i2 + (1 : Int32)) x3))
def f_X11_round (a0 : Nat) (i1 : Int32) : hM Int32 :=
  mb (d_X11_to a0 i1) fun x1 => mb (l_X11_round_10 a0 i1 FU (1 : Int32) x1) fun x5 => mret x5
theorem nd_X11_round : yX11_round.cls ≠ "java/lang/invoke/MethodHandle" ∧ yX11_round.cls ≠ "java/lang/invoke/VarHandle" ∧ (parseMethodDescriptor yX11_round.desc).map (fun d => d.parameters.length) = some 1 := by decide +kernel
set_option maxHeartbeats 4000000 in
theorem ct_X11_round (l : Launch) (a0 : Nat) (i1 : Int32) : CT l yX11_round cX11_round 4 (some .int) 3 64 rvI [.ref a0, .int i1] (f_X11_round a0 i1) := by
  refine CT_of (ls := [(0, .ref a0), (1, .int i1)]) (by decide) (Nat.le_of_ble_eq_true rfl) rfl ?_
  intro X h he z hX hf C E hnm hh
  have hl := hle.rf he
  subst hX
  have L10 : ∀ (a0 : Nat) (i1 : Int32) (n : Nat) (i2 : Int32) (i3 : Int32) (h h1 : Hp) (o : Int32), (l_X11_round_10 a0 i1 n i2 i3).1 h = some (o, h1) → hle h1 he → V X h1 35 [(2, .int o)] [] → V X h 10 [(0, .ref a0), (1, .int i1), (2, .int i2), (3, .int i3)] [] := by
    intro a0 i1 n
    induction n with
    | zero => intro i2 i3 h h1 o hf; exact mfail_inv hf
    | succ n ih =>
      intro i2 i3 h h1 o hf hl J
      rw [l_X11_round_10] at hf
      refine v_iload_n C 2 dX11_round_10 rfl rfl ?_
      refine v_bipush (x := 24) C dX11_round_11 (by decide) ?_
      refine v_icmp_ge C hf (tgt := 35) dX11_round_13 (by decide) (fun c13 hf => ?_) (fun c13 hf => ?_)
      · obtain ⟨e1, rfl⟩ := mret_inv hf
        subst e1
        exact v_sub (ls' := _) [2] rfl J
      · refine v_iload_n C 3 dX11_round_16 rfl rfl ?_
        refine v_iload_n C 1 dX11_round_17 rfl rfl ?_
        refine v_icmp_eq C hf (tgt := 35) dX11_round_18 (by decide) (fun c18 hf => ?_) (fun c18 hf => ?_)
        · obtain ⟨e1, rfl⟩ := mret_inv hf
          subst e1
          exact v_sub (ls' := _) [2] rfl J
        · refine v_aload_n C 0 dX11_round_21 rfl rfl ?_
          refine v_iload_n C 3 dX11_round_22 rfl rfl ?_
          refine v_d_X11_to C a0 i3 [] (Nat.le_of_ble_eq_true rfl) (Nat.le_of_ble_eq_true rfl) (Nat.le_of_ble_eq_true rfl) rfl q836 hf hl dX11_round_23 (fun x3 h4 hf => ?_)
          refine v_istore_n (ls' := [(3, _), (0, _), (1, _), (2, _)]) C dX11_round_28 rfl (by decide) rfl ?_
          refine v_iinc (ls' := [(2, _), (3, _), (0, _), (1, _)]) (y := i2 + (1 : Int32)) C 3 dX11_round_29 rfl rfl (by decide) rfl ?_
          refine v_goto (tgt := 10) C dX11_round_32 (by decide) ?_
          refine v_sub (ls' := _) [2, 3, 0, 1] rfl (ih (i2 + (1 : Int32)) x3 _ _ _ hf hl J)
  unfold f_X11_round at hf
  refine v_iconst (x := 1) C dX11_round_0 (by decide) ?_
  refine v_istore_n (ls' := [(2, _), (0, _), (1, _)]) C dX11_round_1 rfl (by decide) rfl ?_
  refine v_aload_n C 1 dX11_round_2 rfl rfl ?_
  refine v_iload_n C 2 dX11_round_3 rfl rfl ?_
  refine v_d_X11_to C a0 i1 [] (Nat.le_of_ble_eq_true rfl) (Nat.le_of_ble_eq_true rfl) (Nat.le_of_ble_eq_true rfl) rfl q836 hf hl dX11_round_4 (fun x1 h2 hf => ?_)
  refine v_istore_n (ls' := [(3, _), (2, _), (0, _), (1, _)]) C dX11_round_9 rfl (by decide) rfl ?_
  obtain ⟨x5, h6, eh6, hf, hlh6⟩ := mb_inv hf hl
  refine v_sub (ls' := _) [2, 3, 1, 0] rfl (L10 a0 i1 FU (1 : Int32) x1 _ _ _ eh6 hlh6 ?_)
  refine v_iload_n C 0 dX11_round_35 rfl rfl ?_
  exact v_iret C E hf dX11_round_36
def l_X17_init_247 (a0 : Nat) (i1 : Int32) : Nat → Int32 → hM (Unit)
  | 0, _ => mfail
  | n + 1, i2 => mi ((24 : Int32) ≤ i2) (mret ()) (mb (gR a0 15 0) fun x84 => mb (f_X17_named i1 i2) fun x85 => mb (sI 1 x84 (((24 : Int32) * i1) + i2) x85) fun _ => l_X17_init_247 a0 i1 n (i2 + (1 : Int32)))
def l_X17_init_240 (a0 : Nat) : Nat → Int32 → hM (Unit)
  | 0, _ => mfail
  | n + 1, i1 => mi ((5 : Int32) ≤ i1) (mret ()) (mb (l_X17_init_247 a0 i1 FU (0 : Int32)) fun x88 => l_X17_init_240 a0 n (i1 + (1 : Int32)))
def l_X17_init_302 (a0 : Nat) : Nat → Int32 → hM (Unit)
  | 0, _ => mfail
  | n + 1, i1 => mi ((12 : Int32) ≤ i1) (mret ()) (mb (f_X17_basic i1) fun x98 => mb (mat a0 15 (f_X17_comes a0 x98 ((1 : Int32) <<< (i1 &&& 31)))) fun _ => l_X17_init_302 a0 n (i1 + (1 : Int32)))
def l_X17_init_329 (a0 : Nat) : Nat → Int32 → Int32 → hM (Unit)
  | 0, _, _ => mfail
  | n + 1, i1, i2 => mi ((4096 : Int32) ≤ i2) (mret ()) (mb (gR a0 15 4) fun x104 => mb (mi (¬ i2 = 0) (mb (gR a0 15 4) fun x118 => mb (aI 1 x118 (i2 &&& (i2 - (1 : Int32)))) fun x119 => mb (gR a0 15 1) fun x120 => mb (f_X17_lowest i2) fun x121 => mb (aI 1 x120 x121) fun x123 => mret (x119 ^^^ x123)) (mret (0 : Int32))) fun x105 => mb (sI 1 x104 i2 x105) fun _ => mb (gR a0 15 4) fun x108 => mb (aI 1 x108 i2) fun x109 => mb (f_X17_bits x109) fun x110 => mb (mi (¬ x110 = (8 : Int32)) (mret i1) (mb (gR a0 15 5) fun x114 => mb (gR a0 15 4) fun x115 => mb (aI 1 x115 i2) fun x116 => mb (sI 1 x114 i1 x116) fun _ => mret (i1 + (1 : Int32)))) fun x112 => l_X17_init_329 a0 n x112 (i2 + (1 : Int32)))
def l_X17_init_407 (a0 : Nat) : Nat → Int32 → hM (Unit)
  | 0, _ => mfail
  | n + 1, i2 => mi ((4 : Int32) ≤ i2) (mret ()) (mb (gR a0 15 32) fun x126 => mb (sI 1 x126 i2 (-1 : Int32)) fun _ => l_X17_init_407 a0 n (i2 + (1 : Int32)))
def f_X17_init (a0 : Nat) : hM Unit :=
  mb (newA 1 (122 : Int32)) fun x1 => mb (pF a0 15 0 (.ref x1)) fun _ => mb (newA 1 (12 : Int32)) fun x4 => mb (pF a0 15 1 (.ref x4)) fun _ => mb (newA 1 (12 : Int32)) fun x7 => mb (pF a0 15 2 (.ref x7)) fun _ => mb (newA 1 (4096 : Int32)) fun x10 => mb (pF a0 15 4 (.ref x10)) fun _ => mb (newA 1 (759 : Int32)) fun x13 => mb (pF a0 15 5 (.ref x13)) fun _ => mb (newA 1 (100 : Int32)) fun x16 => mb (pF a0 15 6 (.ref x16)) fun _ => mb (newA 1 (100 : Int32)) fun x19 => mb (pF a0 15 8 (.ref x19)) fun _ => mb (newA 1 (24 : Int32)) fun x22 => mb (pF a0 15 11 (.ref x22)) fun _ => mb (newA 1 (168 : Int32)) fun x25 => mb (pF a0 15 12 (.ref x25)) fun _ => mb (newA 1 (24 : Int32)) fun x28 => mb (pF a0 15 13 (.ref x28)) fun _ => mb (newA 1 (24 : Int32)) fun x31 => mb (pF a0 15 15 (.ref x31)) fun _ => mb (newA 1 (576 : Int32)) fun x34 => mb (pF a0 15 16 (.ref x34)) fun _ => mb (newA 1 (2976 : Int32)) fun x37 => mb (pF a0 15 17 (.ref x37)) fun _ => mb (newA 1 (124 : Int32)) fun x40 => mb (pF a0 15 18 (.ref x40)) fun _ => mb (newA 1 (24 : Int32)) fun x43 => mb (pF a0 15 20 (.ref x43)) fun _ => mb (pF a0 15 21 (.int (-1 : Int32))) fun _ => mb (newA 1 (96 : Int32)) fun x47 => mb (pF a0 15 23 (.ref x47)) fun _ => mb (newA 1 (48 : Int32)) fun x50 => mb (pF a0 15 24 (.ref x50)) fun _ => mb (newA 2 (4096 : Int32)) fun x53 => mb (pF a0 15 25 (.ref x53)) fun _ => mb (newA 1 (4096 : Int32)) fun x56 => mb (pF a0 15 26 (.ref x56)) fun _ => mb (newA 1 (732 : Int32)) fun x59 => mb (pF a0 15 27 (.ref x59)) fun _ => mb (newA 1 (122 : Int32)) fun x62 => mb (pF a0 15 29 (.ref x62)) fun _ => mb (newA 1 (732 : Int32)) fun x65 => mb (pF a0 15 30 (.ref x65)) fun _ => mb (pF a0 15 31 (.int (-1 : Int32))) fun _ => mb (newA 1 (4 : Int32)) fun x69 => mb (pF a0 15 32 (.ref x69)) fun _ => mb (newA 1 (4 : Int32)) fun x72 => mb (pF a0 15 33 (.ref x72)) fun _ => mb (newA 5 (128 : Int32)) fun x75 => mb (pF a0 15 34 (.ref x75)) fun _ => mb (newA 5 (32 : Int32)) fun x78 => mb (pF a0 15 35 (.ref x78)) fun _ => mb (newA 1 (24 : Int32)) fun x81 => mb (pF a0 15 36 (.ref x81)) fun _ => mb (l_X17_init_240 a0 FU (0 : Int32)) fun x90 => mb (gR a0 15 0) fun x92 => mb (sI 1 x92 (121 : Int32) (1 : Int32)) fun _ => mb (gR a0 15 0) fun x94 => mb (f_X17_basic (0 : Int32)) fun x95 => mb (sI 1 x94 (120 : Int32) x95) fun _ => mb (l_X17_init_302 a0 FU (0 : Int32)) fun x102 => mb (l_X17_init_329 a0 FU (0 : Int32) (0 : Int32)) fun x124 => mb (l_X17_init_407 a0 FU (0 : Int32)) fun x128 => mret ()
theorem nd_X17_init : yX17_init.cls ≠ "java/lang/invoke/MethodHandle" ∧ yX17_init.cls ≠ "java/lang/invoke/VarHandle" ∧ (parseMethodDescriptor yX17_init.desc).map (fun d => d.parameters.length) = some 0 := by decide +kernel
set_option maxHeartbeats 4000000 in
theorem ct_X17_init (l : Launch) (a0 : Nat) : CT l yX17_init cX17_init 3 none 3 69 rv0 [.ref a0] (f_X17_init a0) := by
  refine CT_of (ls := [(0, .ref a0)]) (by decide) (Nat.le_of_ble_eq_true rfl) rfl ?_
  intro X h he z hX hf C E hnm hh
  have hl := hle.rf he
  subst hX
  have L247 : ∀ (a0 : Nat) (i1 : Int32) (n : Nat) (i2 : Int32) (h h1 : Hp) (o : Unit), (l_X17_init_247 a0 i1 n i2).1 h = some (o, h1) → hle h1 he → V X h1 275 [(0, .ref a0), (1, .int i1)] [] → V X h 247 [(0, .ref a0), (1, .int i1), (2, .int i2)] [] := by
    intro a0 i1 n
    induction n with
    | zero => intro i2 h h1 o hf; exact mfail_inv hf
    | succ n ih =>
      intro i2 h h1 o hf hl J
      rw [l_X17_init_247] at hf
      refine v_iload_n C 2 dX17_init_247 rfl rfl ?_
      refine v_bipush (x := 24) C dX17_init_248 (by decide) ?_
      refine v_icmp_ge C hf (tgt := 275) dX17_init_250 (by decide) (fun c250 hf => ?_) (fun c250 hf => ?_)
      · obtain ⟨e1, rfl⟩ := mret_inv hf
        subst e1
        exact v_sub (ls' := _) [0, 1] rfl J
      · refine v_aload_n C 0 dX17_init_253 rfl rfl ?_
        refine v_gR (Cn := RX17) (T := TX17) (N := 37) C hf in_X17 rfl (by decide) q1804 rfl dX17_init_254 (fun x84 hf => ?_)
        refine v_bipush (x := 24) C dX17_init_257 (by decide) ?_
        refine v_iload_n C 1 dX17_init_259 rfl rfl ?_
        refine v_imul C dX17_init_260 ?_
        refine v_iload_n C 2 dX17_init_261 rfl rfl ?_
        refine v_iadd C dX17_init_262 ?_
        refine v_iload_n C 1 dX17_init_263 rfl rfl ?_
        refine v_iload_n C 2 dX17_init_264 rfl rfl ?_
        refine v_callS (stk := fun b => .int b :: [.int (((24 : Int32) * i1) + i2), .ref x84]) C (ct_X17_named _ i1 i2) nd_X17_named rfl (Nat.le_of_ble_eq_true rfl) (Nat.le_of_ble_eq_true rfl) [.int (((24 : Int32) * i1) + i2), .ref x84] (Nat.le_of_ble_eq_true rfl) (fun _ => rfl) rfl q1772 q1773 q127 q1774 hf hl dX17_init_265 (fun x85 h86 hf => ?_)
        refine v_iastore C hf dX17_init_268 (fun h87 hf => ?_)
        refine v_iinc (ls' := [(2, _), (0, _), (1, _)]) (y := i2 + (1 : Int32)) C 2 dX17_init_269 rfl rfl (by decide) rfl ?_
        refine v_goto (tgt := 247) C dX17_init_272 (by decide) ?_
        refine v_sub (ls' := _) [1, 2, 0] rfl (ih (i2 + (1 : Int32)) _ _ _ hf hl J)
  have L240 : ∀ (a0 : Nat) (n : Nat) (i1 : Int32) (h h1 : Hp) (o : Unit), (l_X17_init_240 a0 n i1).1 h = some (o, h1) → hle h1 he → V X h1 281 [(0, .ref a0)] [] → V X h 240 [(0, .ref a0), (1, .int i1)] [] := by
    intro a0 n
    induction n with
    | zero => intro i1 h h1 o hf; exact mfail_inv hf
    | succ n ih =>
      intro i1 h h1 o hf hl J
      rw [l_X17_init_240] at hf
      refine v_iload_n C 1 dX17_init_240 rfl rfl ?_
      refine v_iconst (x := 5) C dX17_init_241 (by decide) ?_
      refine v_icmp_ge C hf (tgt := 281) dX17_init_242 (by decide) (fun c242 hf => ?_) (fun c242 hf => ?_)
      · obtain ⟨e1, rfl⟩ := mret_inv hf
        subst e1
        exact v_sub (ls' := _) [0] rfl J
      · refine v_iconst (x := 0) C dX17_init_245 (by decide) ?_
        refine v_istore_n (ls' := [(2, _), (0, _), (1, _)]) C dX17_init_246 rfl (by decide) rfl ?_
        obtain ⟨x88, h89, eh89, hf, hlh89⟩ := mb_inv hf hl
        refine v_sub (ls' := _) [1, 2, 0] rfl (L247 a0 i1 FU (0 : Int32) _ _ _ eh89 hlh89 ?_)
        refine v_iinc (ls' := [(1, _), (0, _)]) (y := i1 + (1 : Int32)) C 1 dX17_init_275 rfl rfl (by decide) rfl ?_
        refine v_goto (tgt := 240) C dX17_init_278 (by decide) ?_
        refine v_sub (ls' := _) [1, 0] rfl (ih (i1 + (1 : Int32)) _ _ _ hf hl J)
  have L302 : ∀ (a0 : Nat) (n : Nat) (i1 : Int32) (h h1 : Hp) (o : Unit), (l_X17_init_302 a0 n i1).1 h = some (o, h1) → hle h1 he → V X h1 325 [(0, .ref a0)] [] → V X h 302 [(0, .ref a0), (1, .int i1)] [] := by
    intro a0 n
    induction n with
    | zero => intro i1 h h1 o hf; exact mfail_inv hf
    | succ n ih =>
      intro i1 h h1 o hf hl J
      rw [l_X17_init_302] at hf
      refine v_iload_n C 1 dX17_init_302 rfl rfl ?_
      refine v_bipush (x := 12) C dX17_init_303 (by decide) ?_
      refine v_icmp_ge C hf (tgt := 325) dX17_init_305 (by decide) (fun c305 hf => ?_) (fun c305 hf => ?_)
      · obtain ⟨e1, rfl⟩ := mret_inv hf
        subst e1
        exact v_sub (ls' := _) [0] rfl J
      · refine v_aload_n C 0 dX17_init_308 rfl rfl ?_
        refine v_iload_n C 1 dX17_init_309 rfl rfl ?_
        refine v_callS (stk := fun b => .int b :: [.ref a0]) C (ct_X17_basic _ i1) nd_X17_basic rfl (Nat.le_of_ble_eq_true rfl) (Nat.le_of_ble_eq_true rfl) [.ref a0] (Nat.le_of_ble_eq_true rfl) (fun _ => rfl) rfl q1786 q1787 q127 q1788 hf hl dX17_init_310 (fun x98 h99 hf => ?_)
        refine v_iconst (x := 1) C dX17_init_313 (by decide) ?_
        refine v_iload_n C 1 dX17_init_314 rfl rfl ?_
        refine v_ishl C dX17_init_315 ?_
        refine v_callV (stk := fun _ => []) C (ct_X17_comes _ a0 x98 ((1 : Int32) <<< (i1 &&& 31))) rfl ⟨rfl, nd_X17_comes⟩ rfl (Nat.le_of_ble_eq_true rfl) (Nat.le_of_ble_eq_true rfl) [] (Nat.le_of_ble_eq_true rfl) (fun _ => rfl) rfl q1791 q1793 qs36 q127 q1794 hf hl dX17_init_316 (fun x100 h101 hf => ?_)
        refine v_iinc (ls' := [(1, _), (0, _)]) (y := i1 + (1 : Int32)) C 1 dX17_init_319 rfl rfl (by decide) rfl ?_
        refine v_goto (tgt := 302) C dX17_init_322 (by decide) ?_
        refine v_sub (ls' := _) [1, 0] rfl (ih (i1 + (1 : Int32)) _ _ _ hf hl J)
  have L329 : ∀ (a0 : Nat) (n : Nat) (i1 : Int32) (i2 : Int32) (h h1 : Hp) (o : Unit), (l_X17_init_329 a0 n i1 i2).1 h = some (o, h1) → hle h1 he → V X h1 405 [(0, .ref a0)] [] → V X h 329 [(0, .ref a0), (1, .int i1), (2, .int i2)] [] := by
    intro a0 n
    induction n with
    | zero => intro i1 i2 h h1 o hf; exact mfail_inv hf
    | succ n ih =>
      intro i1 i2 h h1 o hf hl J
      rw [l_X17_init_329] at hf
      refine v_iload_n C 2 dX17_init_329 rfl rfl ?_
      refine v_sipush (x := 4096) C dX17_init_330 (by decide) ?_
      refine v_icmp_ge C hf (tgt := 405) dX17_init_333 (by decide) (fun c333 hf => ?_) (fun c333 hf => ?_)
      · obtain ⟨e1, rfl⟩ := mret_inv hf
        subst e1
        exact v_sub (ls' := _) [0] rfl J
      · refine v_aload_n C 0 dX17_init_336 rfl rfl ?_
        refine v_gR (Cn := RX17) (T := TX17) (N := 37) C hf in_X17 rfl (by decide) q1808 rfl dX17_init_337 (fun x104 hf => ?_)
        refine v_iload_n C 2 dX17_init_340 rfl rfl ?_
        refine v_iload_n C 2 dX17_init_341 rfl rfl ?_
        obtain ⟨x105, h106, hAh106, hf, hlh106⟩ := mb_inv hf hl
        refine v_cut (h1 := h106) (pc1 := 369) (ls1 := [(0, .ref a0), (1, .int i1), (2, .int i2)]) (st1 := [.int x105, .int i2, .ref x104]) ?_ (fun Jh106 => ?_)
        · clear hAh106 hlh106
          refine v_iastore C hf dX17_init_369 (fun h107 hf => ?_)
          refine v_aload_n C 0 dX17_init_370 rfl rfl ?_
          refine v_gR (Cn := RX17) (T := TX17) (N := 37) C hf in_X17 rfl (by decide) q1808 rfl dX17_init_371 (fun x108 hf => ?_)
          refine v_iload_n C 2 dX17_init_374 rfl rfl ?_
          refine v_iaload C hf dX17_init_375 (fun x109 hf => ?_)
          refine v_callS (stk := fun b => .int b :: []) C (ct_X17_bits _ x109) nd_X17_bits rfl (Nat.le_of_ble_eq_true rfl) (Nat.le_of_ble_eq_true rfl) [] (Nat.le_of_ble_eq_true rfl) (fun _ => rfl) rfl q1801 q1802 q127 q1803 hf hl dX17_init_376 (fun x110 h111 hf => ?_)
          refine v_bipush (x := 8) C dX17_init_379 (by decide) ?_
          obtain ⟨x112, h113, hAh113, hf, hlh113⟩ := mb_inv hf hl
          refine v_cut (h1 := h113) (pc1 := 399) (ls1 := [(0, .ref a0), (1, .int x112), (2, .int i2)]) (st1 := []) ?_ (fun Jh113 => ?_)
          · clear hAh113 hlh113
            refine v_iinc (ls' := [(2, _), (0, _), (1, _)]) (y := i2 + (1 : Int32)) C 2 dX17_init_399 rfl rfl (by decide) rfl ?_
            refine v_goto (tgt := 329) C dX17_init_402 (by decide) ?_
            refine v_sub (ls' := _) [1, 2, 0] rfl (ih x112 (i2 + (1 : Int32)) _ _ _ hf hl J)
          · clear hf
            have hf := hAh113
            have hl := hlh113
            refine v_icmp_ne C hf (tgt := 399) dX17_init_381 (by decide) (fun c381 hf => ?_) (fun c381 hf => ?_)
            · obtain ⟨e1, rfl⟩ := mret_inv hf
              subst e1
              exact v_sub (ls' := _) [0, 1, 2] rfl Jh113
            · refine v_aload_n C 0 dX17_init_384 rfl rfl ?_
              refine v_gR (Cn := RX17) (T := TX17) (N := 37) C hf in_X17 rfl (by decide) q1809 rfl dX17_init_385 (fun x114 hf => ?_)
              refine v_iload_n C 1 dX17_init_388 rfl rfl ?_
              refine v_aload_n C 0 dX17_init_389 rfl rfl ?_
              refine v_gR (Cn := RX17) (T := TX17) (N := 37) C hf in_X17 rfl (by decide) q1808 rfl dX17_init_390 (fun x115 hf => ?_)
              refine v_iload_n C 2 dX17_init_393 rfl rfl ?_
              refine v_iaload C hf dX17_init_394 (fun x116 hf => ?_)
              refine v_iastore C hf dX17_init_395 (fun h117 hf => ?_)
              refine v_iinc (ls' := [(1, _), (0, _), (2, _)]) (y := i1 + (1 : Int32)) C 1 dX17_init_396 rfl rfl (by decide) rfl ?_
              obtain ⟨e1, rfl⟩ := mret_inv hf
              subst e1
              exact v_sub (ls' := _) [1, 0, 2] rfl Jh113
        · clear hf
          have hf := hAh106
          have hl := hlh106
          refine v_if_ne C hf (tgt := 349) dX17_init_342 (by decide) (fun c342 hf => ?_) (fun c342 hf => ?_)
          · refine v_aload_n C 0 dX17_init_349 rfl rfl ?_
            refine v_gR (Cn := RX17) (T := TX17) (N := 37) C hf in_X17 rfl (by decide) q1808 rfl dX17_init_350 (fun x118 hf => ?_)
            refine v_iload_n C 2 dX17_init_353 rfl rfl ?_
            refine v_iload_n C 2 dX17_init_354 rfl rfl ?_
            refine v_iconst (x := 1) C dX17_init_355 (by decide) ?_
            refine v_isub C dX17_init_356 ?_
            refine v_iand C dX17_init_357 ?_
            refine v_iaload C hf dX17_init_358 (fun x119 hf => ?_)
            refine v_aload_n C 0 dX17_init_359 rfl rfl ?_
            refine v_gR (Cn := RX17) (T := TX17) (N := 37) C hf in_X17 rfl (by decide) q1805 rfl dX17_init_360 (fun x120 hf => ?_)
            refine v_iload_n C 2 dX17_init_363 rfl rfl ?_
            refine v_callS (stk := fun b => .int b :: [.ref x120, .int x119, .int i2, .ref x104]) C (ct_X17_lowest _ i2) nd_X17_lowest rfl (Nat.le_of_ble_eq_true rfl) (Nat.le_of_ble_eq_true rfl) [.ref x120, .int x119, .int i2, .ref x104] (Nat.le_of_ble_eq_true rfl) (fun _ => rfl) rfl q1798 q1799 q127 q1800 hf hl dX17_init_364 (fun x121 h122 hf => ?_)
            refine v_iaload C hf dX17_init_367 (fun x123 hf => ?_)
            refine v_ixor C dX17_init_368 ?_
            obtain ⟨e1, rfl⟩ := mret_inv hf
            subst e1
            exact v_sub (ls' := _) [0, 1, 2] rfl Jh106
          · refine v_iconst (x := 0) C dX17_init_345 (by decide) ?_
            refine v_goto (tgt := 369) C dX17_init_346 (by decide) ?_
            obtain ⟨e1, rfl⟩ := mret_inv hf
            subst e1
            exact v_sub (ls' := _) [0, 1, 2] rfl Jh106
  have L407 : ∀ (a0 : Nat) (n : Nat) (i2 : Int32) (h h1 : Hp) (o : Unit), (l_X17_init_407 a0 n i2).1 h = some (o, h1) → hle h1 he → V X h1 425 [] [] → V X h 407 [(0, .ref a0), (2, .int i2)] [] := by
    intro a0 n
    induction n with
    | zero => intro i2 h h1 o hf; exact mfail_inv hf
    | succ n ih =>
      intro i2 h h1 o hf hl J
      rw [l_X17_init_407] at hf
      refine v_iload_n C 1 dX17_init_407 rfl rfl ?_
      refine v_iconst (x := 4) C dX17_init_408 (by decide) ?_
      refine v_icmp_ge C hf (tgt := 425) dX17_init_409 (by decide) (fun c409 hf => ?_) (fun c409 hf => ?_)
      · obtain ⟨e1, rfl⟩ := mret_inv hf
        subst e1
        exact v_sub (ls' := _) [] rfl J
      · refine v_aload_n C 0 dX17_init_412 rfl rfl ?_
        refine v_gR (Cn := RX17) (T := TX17) (N := 37) C hf in_X17 rfl (by decide) q1836 rfl dX17_init_413 (fun x126 hf => ?_)
        refine v_iload_n C 1 dX17_init_416 rfl rfl ?_
        refine v_iconst (x := (-1)) C dX17_init_417 (by decide) ?_
        refine v_iastore C hf dX17_init_418 (fun h127 hf => ?_)
        refine v_iinc (ls' := [(2, _), (0, _)]) (y := i2 + (1 : Int32)) C 1 dX17_init_419 rfl rfl (by decide) rfl ?_
        refine v_goto (tgt := 407) C dX17_init_422 (by decide) ?_
        refine v_sub (ls' := _) [1, 0] rfl (ih (i2 + (1 : Int32)) _ _ _ hf hl J)
  unfold f_X17_init at hf
  refine v_aload_n C 0 dX17_init_0 rfl rfl ?_
  refine v_objInit C q1771 q147 q148 (Nat.le_of_ble_eq_true rfl) (Nat.le_of_ble_eq_true rfl) dX17_init_1 ?_
  refine v_aload_n C 0 dX17_init_4 rfl rfl ?_
  refine v_bipush (x := 122) C dX17_init_5 (by decide) ?_
  refine v_newarrayint C hf hl q234 dX17_init_7 (fun x1 h2 hf => ?_)
  refine v_putvF (Cn := RX17) (T := TX17) (N := 37) (ty0 := tyX17) C hf in_X17 tyX17_ok nmX17 rfl (by decide) q1804 rfl rfl rfl hnm rfl rfl dX17_init_9 (fun h3 hf => ?_)
  refine v_aload_n C 0 dX17_init_12 rfl rfl ?_
  refine v_bipush (x := 12) C dX17_init_13 (by decide) ?_
  refine v_newarrayint C hf hl q234 dX17_init_15 (fun x4 h5 hf => ?_)
  refine v_putvF (Cn := RX17) (T := TX17) (N := 37) (ty0 := tyX17) C hf in_X17 tyX17_ok nmX17 rfl (by decide) q1805 rfl rfl rfl hnm rfl rfl dX17_init_17 (fun h6 hf => ?_)
  refine v_aload_n C 0 dX17_init_20 rfl rfl ?_
  refine v_bipush (x := 12) C dX17_init_21 (by decide) ?_
  refine v_newarrayint C hf hl q234 dX17_init_23 (fun x7 h8 hf => ?_)
  refine v_putvF (Cn := RX17) (T := TX17) (N := 37) (ty0 := tyX17) C hf in_X17 tyX17_ok nmX17 rfl (by decide) q1806 rfl rfl rfl hnm rfl rfl dX17_init_25 (fun h9 hf => ?_)
  refine v_aload_n C 0 dX17_init_28 rfl rfl ?_
  refine v_sipush (x := 4096) C dX17_init_29 (by decide) ?_
  refine v_newarrayint C hf hl q234 dX17_init_32 (fun x10 h11 hf => ?_)
  refine v_putvF (Cn := RX17) (T := TX17) (N := 37) (ty0 := tyX17) C hf in_X17 tyX17_ok nmX17 rfl (by decide) q1808 rfl rfl rfl hnm rfl rfl dX17_init_34 (fun h12 hf => ?_)
  refine v_aload_n C 0 dX17_init_37 rfl rfl ?_
  refine v_sipush (x := 759) C dX17_init_38 (by decide) ?_
  refine v_newarrayint C hf hl q234 dX17_init_41 (fun x13 h14 hf => ?_)
  refine v_putvF (Cn := RX17) (T := TX17) (N := 37) (ty0 := tyX17) C hf in_X17 tyX17_ok nmX17 rfl (by decide) q1809 rfl rfl rfl hnm rfl rfl dX17_init_43 (fun h15 hf => ?_)
  refine v_aload_n C 0 dX17_init_46 rfl rfl ?_
  refine v_bipush (x := 100) C dX17_init_47 (by decide) ?_
  refine v_newarrayint C hf hl q234 dX17_init_49 (fun x16 h17 hf => ?_)
  refine v_putvF (Cn := RX17) (T := TX17) (N := 37) (ty0 := tyX17) C hf in_X17 tyX17_ok nmX17 rfl (by decide) q1810 rfl rfl rfl hnm rfl rfl dX17_init_51 (fun h18 hf => ?_)
  refine v_aload_n C 0 dX17_init_54 rfl rfl ?_
  refine v_bipush (x := 100) C dX17_init_55 (by decide) ?_
  refine v_newarrayint C hf hl q234 dX17_init_57 (fun x19 h20 hf => ?_)
  refine v_putvF (Cn := RX17) (T := TX17) (N := 37) (ty0 := tyX17) C hf in_X17 tyX17_ok nmX17 rfl (by decide) q1812 rfl rfl rfl hnm rfl rfl dX17_init_59 (fun h21 hf => ?_)
  refine v_aload_n C 0 dX17_init_62 rfl rfl ?_
  refine v_bipush (x := 24) C dX17_init_63 (by decide) ?_
  refine v_newarrayint C hf hl q234 dX17_init_65 (fun x22 h23 hf => ?_)
  refine v_putvF (Cn := RX17) (T := TX17) (N := 37) (ty0 := tyX17) C hf in_X17 tyX17_ok nmX17 rfl (by decide) q1815 rfl rfl rfl hnm rfl rfl dX17_init_67 (fun h24 hf => ?_)
  refine v_aload_n C 0 dX17_init_70 rfl rfl ?_
  refine v_sipush (x := 168) C dX17_init_71 (by decide) ?_
  refine v_newarrayint C hf hl q234 dX17_init_74 (fun x25 h26 hf => ?_)
  refine v_putvF (Cn := RX17) (T := TX17) (N := 37) (ty0 := tyX17) C hf in_X17 tyX17_ok nmX17 rfl (by decide) q1816 rfl rfl rfl hnm rfl rfl dX17_init_76 (fun h27 hf => ?_)
  refine v_aload_n C 0 dX17_init_79 rfl rfl ?_
  refine v_bipush (x := 24) C dX17_init_80 (by decide) ?_
  refine v_newarrayint C hf hl q234 dX17_init_82 (fun x28 h29 hf => ?_)
  refine v_putvF (Cn := RX17) (T := TX17) (N := 37) (ty0 := tyX17) C hf in_X17 tyX17_ok nmX17 rfl (by decide) q1817 rfl rfl rfl hnm rfl rfl dX17_init_84 (fun h30 hf => ?_)
  refine v_aload_n C 0 dX17_init_87 rfl rfl ?_
  refine v_bipush (x := 24) C dX17_init_88 (by decide) ?_
  refine v_newarrayint C hf hl q234 dX17_init_90 (fun x31 h32 hf => ?_)
  refine v_putvF (Cn := RX17) (T := TX17) (N := 37) (ty0 := tyX17) C hf in_X17 tyX17_ok nmX17 rfl (by decide) q1819 rfl rfl rfl hnm rfl rfl dX17_init_92 (fun h33 hf => ?_)
  refine v_aload_n C 0 dX17_init_95 rfl rfl ?_
  refine v_sipush (x := 576) C dX17_init_96 (by decide) ?_
  refine v_newarrayint C hf hl q234 dX17_init_99 (fun x34 h35 hf => ?_)
  refine v_putvF (Cn := RX17) (T := TX17) (N := 37) (ty0 := tyX17) C hf in_X17 tyX17_ok nmX17 rfl (by decide) q1820 rfl rfl rfl hnm rfl rfl dX17_init_101 (fun h36 hf => ?_)
  refine v_aload_n C 0 dX17_init_104 rfl rfl ?_
  refine v_sipush (x := 2976) C dX17_init_105 (by decide) ?_
  refine v_newarrayint C hf hl q234 dX17_init_108 (fun x37 h38 hf => ?_)
  refine v_putvF (Cn := RX17) (T := TX17) (N := 37) (ty0 := tyX17) C hf in_X17 tyX17_ok nmX17 rfl (by decide) q1821 rfl rfl rfl hnm rfl rfl dX17_init_110 (fun h39 hf => ?_)
  refine v_aload_n C 0 dX17_init_113 rfl rfl ?_
  refine v_bipush (x := 124) C dX17_init_114 (by decide) ?_
  refine v_newarrayint C hf hl q234 dX17_init_116 (fun x40 h41 hf => ?_)
  refine v_putvF (Cn := RX17) (T := TX17) (N := 37) (ty0 := tyX17) C hf in_X17 tyX17_ok nmX17 rfl (by decide) q1822 rfl rfl rfl hnm rfl rfl dX17_init_118 (fun h42 hf => ?_)
  refine v_aload_n C 0 dX17_init_121 rfl rfl ?_
  refine v_bipush (x := 24) C dX17_init_122 (by decide) ?_
  refine v_newarrayint C hf hl q234 dX17_init_124 (fun x43 h44 hf => ?_)
  refine v_putvF (Cn := RX17) (T := TX17) (N := 37) (ty0 := tyX17) C hf in_X17 tyX17_ok nmX17 rfl (by decide) q1824 rfl rfl rfl hnm rfl rfl dX17_init_126 (fun h45 hf => ?_)
  refine v_aload_n C 0 dX17_init_129 rfl rfl ?_
  refine v_iconst (x := (-1)) C dX17_init_130 (by decide) ?_
  refine v_putv (Cn := RX17) (T := TX17) (N := 37) (ty0 := tyX17) C hf in_X17 tyX17_ok nmX17 rfl (by decide) q1825 rfl rfl rfl rfl dX17_init_131 (fun h46 hf => ?_)
  refine v_aload_n C 0 dX17_init_134 rfl rfl ?_
  refine v_bipush (x := 96) C dX17_init_135 (by decide) ?_
  refine v_newarrayint C hf hl q234 dX17_init_137 (fun x47 h48 hf => ?_)
  refine v_putvF (Cn := RX17) (T := TX17) (N := 37) (ty0 := tyX17) C hf in_X17 tyX17_ok nmX17 rfl (by decide) q1827 rfl rfl rfl hnm rfl rfl dX17_init_139 (fun h49 hf => ?_)
  refine v_aload_n C 0 dX17_init_142 rfl rfl ?_
  refine v_bipush (x := 48) C dX17_init_143 (by decide) ?_
  refine v_newarrayint C hf hl q234 dX17_init_145 (fun x50 h51 hf => ?_)
  refine v_putvF (Cn := RX17) (T := TX17) (N := 37) (ty0 := tyX17) C hf in_X17 tyX17_ok nmX17 rfl (by decide) q1828 rfl rfl rfl hnm rfl rfl dX17_init_147 (fun h52 hf => ?_)
  refine v_aload_n C 0 dX17_init_150 rfl rfl ?_
  refine v_sipush (x := 4096) C dX17_init_151 (by decide) ?_
  refine v_newarrayboolean C hf hl q499 dX17_init_154 (fun x53 h54 hf => ?_)
  refine v_putvF (Cn := RX17) (T := TX17) (N := 37) (ty0 := tyX17) C hf in_X17 tyX17_ok nmX17 rfl (by decide) q1829 rfl rfl rfl hnm rfl rfl dX17_init_156 (fun h55 hf => ?_)
  refine v_aload_n C 0 dX17_init_159 rfl rfl ?_
  refine v_sipush (x := 4096) C dX17_init_160 (by decide) ?_
  refine v_newarrayint C hf hl q234 dX17_init_163 (fun x56 h57 hf => ?_)
  refine v_putvF (Cn := RX17) (T := TX17) (N := 37) (ty0 := tyX17) C hf in_X17 tyX17_ok nmX17 rfl (by decide) q1830 rfl rfl rfl hnm rfl rfl dX17_init_165 (fun h58 hf => ?_)
  refine v_aload_n C 0 dX17_init_168 rfl rfl ?_
  refine v_sipush (x := 732) C dX17_init_169 (by decide) ?_
  refine v_newarrayint C hf hl q234 dX17_init_172 (fun x59 h60 hf => ?_)
  refine v_putvF (Cn := RX17) (T := TX17) (N := 37) (ty0 := tyX17) C hf in_X17 tyX17_ok nmX17 rfl (by decide) q1831 rfl rfl rfl hnm rfl rfl dX17_init_174 (fun h61 hf => ?_)
  refine v_aload_n C 0 dX17_init_177 rfl rfl ?_
  refine v_bipush (x := 122) C dX17_init_178 (by decide) ?_
  refine v_newarrayint C hf hl q234 dX17_init_180 (fun x62 h63 hf => ?_)
  refine v_putvF (Cn := RX17) (T := TX17) (N := 37) (ty0 := tyX17) C hf in_X17 tyX17_ok nmX17 rfl (by decide) q1833 rfl rfl rfl hnm rfl rfl dX17_init_182 (fun h64 hf => ?_)
  refine v_aload_n C 0 dX17_init_185 rfl rfl ?_
  refine v_sipush (x := 732) C dX17_init_186 (by decide) ?_
  refine v_newarrayint C hf hl q234 dX17_init_189 (fun x65 h66 hf => ?_)
  refine v_putvF (Cn := RX17) (T := TX17) (N := 37) (ty0 := tyX17) C hf in_X17 tyX17_ok nmX17 rfl (by decide) q1834 rfl rfl rfl hnm rfl rfl dX17_init_191 (fun h67 hf => ?_)
  refine v_aload_n C 0 dX17_init_194 rfl rfl ?_
  refine v_iconst (x := (-1)) C dX17_init_195 (by decide) ?_
  refine v_putv (Cn := RX17) (T := TX17) (N := 37) (ty0 := tyX17) C hf in_X17 tyX17_ok nmX17 rfl (by decide) q1835 rfl rfl rfl rfl dX17_init_196 (fun h68 hf => ?_)
  refine v_aload_n C 0 dX17_init_199 rfl rfl ?_
  refine v_iconst (x := 4) C dX17_init_200 (by decide) ?_
  refine v_newarrayint C hf hl q234 dX17_init_201 (fun x69 h70 hf => ?_)
  refine v_putvF (Cn := RX17) (T := TX17) (N := 37) (ty0 := tyX17) C hf in_X17 tyX17_ok nmX17 rfl (by decide) q1836 rfl rfl rfl hnm rfl rfl dX17_init_203 (fun h71 hf => ?_)
  refine v_aload_n C 0 dX17_init_206 rfl rfl ?_
  refine v_iconst (x := 4) C dX17_init_207 (by decide) ?_
  refine v_newarrayint C hf hl q234 dX17_init_208 (fun x72 h73 hf => ?_)
  refine v_putvF (Cn := RX17) (T := TX17) (N := 37) (ty0 := tyX17) C hf in_X17 tyX17_ok nmX17 rfl (by decide) q1837 rfl rfl rfl hnm rfl rfl dX17_init_210 (fun h74 hf => ?_)
  refine v_aload_n C 0 dX17_init_213 rfl rfl ?_
  refine v_sipush (x := 128) C dX17_init_214 (by decide) ?_
  refine v_newarraylong C hf hl q1702 dX17_init_217 (fun x75 h76 hf => ?_)
  refine v_putvF (Cn := RX17) (T := TX17) (N := 37) (ty0 := tyX17) C hf in_X17 tyX17_ok nmX17 rfl (by decide) q1838 rfl rfl rfl hnm rfl rfl dX17_init_219 (fun h77 hf => ?_)
  refine v_aload_n C 0 dX17_init_222 rfl rfl ?_
  refine v_bipush (x := 32) C dX17_init_223 (by decide) ?_
  refine v_newarraylong C hf hl q1702 dX17_init_225 (fun x78 h79 hf => ?_)
  refine v_putvF (Cn := RX17) (T := TX17) (N := 37) (ty0 := tyX17) C hf in_X17 tyX17_ok nmX17 rfl (by decide) q1839 rfl rfl rfl hnm rfl rfl dX17_init_227 (fun h80 hf => ?_)
  refine v_aload_n C 0 dX17_init_230 rfl rfl ?_
  refine v_bipush (x := 24) C dX17_init_231 (by decide) ?_
  refine v_newarrayint C hf hl q234 dX17_init_233 (fun x81 h82 hf => ?_)
  refine v_putvF (Cn := RX17) (T := TX17) (N := 37) (ty0 := tyX17) C hf in_X17 tyX17_ok nmX17 rfl (by decide) q1840 rfl rfl rfl hnm rfl rfl dX17_init_235 (fun h83 hf => ?_)
  refine v_iconst (x := 0) C dX17_init_238 (by decide) ?_
  refine v_istore_n (ls' := [(1, _), (0, _)]) C dX17_init_239 rfl (by decide) rfl ?_
  obtain ⟨x90, h91, eh91, hf, hlh91⟩ := mb_inv hf hl
  refine v_sub (ls' := _) [1, 0] rfl (L240 a0 FU (0 : Int32) _ _ _ eh91 hlh91 ?_)
  refine v_aload_n C 0 dX17_init_281 rfl rfl ?_
  refine v_gR (Cn := RX17) (T := TX17) (N := 37) C hf in_X17 rfl (by decide) q1804 rfl dX17_init_282 (fun x92 hf => ?_)
  refine v_bipush (x := 121) C dX17_init_285 (by decide) ?_
  refine v_iconst (x := 1) C dX17_init_287 (by decide) ?_
  refine v_iastore C hf dX17_init_288 (fun h93 hf => ?_)
  refine v_aload_n C 0 dX17_init_289 rfl rfl ?_
  refine v_gR (Cn := RX17) (T := TX17) (N := 37) C hf in_X17 rfl (by decide) q1804 rfl dX17_init_290 (fun x94 hf => ?_)
  refine v_bipush (x := 120) C dX17_init_293 (by decide) ?_
  refine v_iconst (x := 0) C dX17_init_295 (by decide) ?_
  refine v_callS (stk := fun b => .int b :: [.int (120 : Int32), .ref x94]) C (ct_X17_basic _ (0 : Int32)) nd_X17_basic rfl (Nat.le_of_ble_eq_true rfl) (Nat.le_of_ble_eq_true rfl) [.int (120 : Int32), .ref x94] (Nat.le_of_ble_eq_true rfl) (fun _ => rfl) rfl q1786 q1787 q127 q1788 hf hl dX17_init_296 (fun x95 h96 hf => ?_)
  refine v_iastore C hf dX17_init_299 (fun h97 hf => ?_)
  refine v_iconst (x := 0) C dX17_init_300 (by decide) ?_
  refine v_istore_n (ls' := [(1, _), (0, _)]) C dX17_init_301 rfl (by decide) rfl ?_
  obtain ⟨x102, h103, eh103, hf, hlh103⟩ := mb_inv hf hl
  refine v_sub (ls' := _) [1, 0] rfl (L302 a0 FU (0 : Int32) _ _ _ eh103 hlh103 ?_)
  refine v_iconst (x := 0) C dX17_init_325 (by decide) ?_
  refine v_istore_n (ls' := [(1, _), (0, _)]) C dX17_init_326 rfl (by decide) rfl ?_
  refine v_iconst (x := 0) C dX17_init_327 (by decide) ?_
  refine v_istore_n (ls' := [(2, _), (1, _), (0, _)]) C dX17_init_328 rfl (by decide) rfl ?_
  obtain ⟨x124, h125, eh125, hf, hlh125⟩ := mb_inv hf hl
  refine v_sub (ls' := _) [2, 1, 0] rfl (L329 a0 FU (0 : Int32) (0 : Int32) _ _ _ eh125 hlh125 ?_)
  refine v_iconst (x := 0) C dX17_init_405 (by decide) ?_
  refine v_istore_n (ls' := [(2, _), (0, _)]) C dX17_init_406 rfl (by decide) rfl ?_
  obtain ⟨x128, h129, eh129, hf, hlh129⟩ := mb_inv hf hl
  refine v_sub (ls' := _) [1, 0] rfl (L407 a0 FU (0 : Int32) _ _ _ eh129 hlh129 ?_)
  exact v_vret C E hf dX17_init_425
def f_X17_told (a0 : Nat) (i1 : Int32) (i2 : Int32) : hM Int32 :=
  mb (f_X17_isMove i1) fun x1 => mi (¬ x1 = 0) (mi (i2 = 0) (mb (mat a0 15 (f_X17_keeps a0 i1)) fun x3 => mb (mi (x3 = 0) (mret (0 : Int32)) (mret (1 : Int32))) fun x5 => mret x5) (mi (i2 = 1) (mb (mat a0 15 (f_X17_stays a0 i1)) fun x7 => mret x7) (mi (i2 = 2) (mb (mat a0 15 (f_X17_rings a0 i1)) fun x9 => mret x9) (mi (i2 = 3) (mb (mat a0 15 (f_X17_orderOf a0 i1)) fun x11 => mret x11) (mi (i2 = 4) (mb (mat a0 15 (f_X17_rings a0 i1)) fun x13 => mb (mrem ((24 : Int32) - x13) (2 : Int32)) fun x15 => mret x15) (mi (i2 = 5) (mb (mat a0 15 (f_X17_octadsKept a0 i1)) fun x16 => mret x16) (mi (i2 = 6) (mb (gR a0 15 0) fun x18 => mb (aI 1 x18 (120 : Int32)) fun x19 => mb (mat a0 15 (f_X17_goes a0 i1 x19)) fun x20 => mb (gR a0 15 0) fun x22 => mb (aI 1 x22 (120 : Int32)) fun x23 => mb (mi (¬ x20 = x23) (mb (gR a0 15 0) fun x26 => mb (aI 1 x26 (120 : Int32)) fun x27 => mb (mat a0 15 (f_X17_goes a0 i1 x27)) fun x28 => mb (gR a0 15 0) fun x30 => mb (aI 1 x30 (120 : Int32)) fun x31 => mi (¬ x28 = ((16777215 : Int32) ^^^ x31)) (mret (0 : Int32)) (mret (2 : Int32))) (mret (1 : Int32))) fun x24 => mret x24) (mi (i2 = 7) (mb (mat a0 15 (f_X17_texts a0 i1)) fun x32 => mret x32) (mret (-1 : Int32)))))))))) (mret (-1 : Int32))
theorem nd_X17_told : yX17_told.cls ≠ "java/lang/invoke/MethodHandle" ∧ yX17_told.cls ≠ "java/lang/invoke/VarHandle" ∧ (parseMethodDescriptor yX17_told.desc).map (fun d => d.parameters.length) = some 2 := by decide +kernel
set_option maxHeartbeats 4000000 in
theorem ct_X17_told (l : Launch) (a0 : Nat) (i1 : Int32) (i2 : Int32) : CT l yX17_told cX17_told 3 (some .int) 4 92 rvI [.ref a0, .int i1, .int i2] (f_X17_told a0 i1 i2) := by
  refine CT_of (ls := [(0, .ref a0), (1, .int i1), (2, .int i2)]) (by decide) (Nat.le_of_ble_eq_true rfl) rfl ?_
  intro X h he z hX hf C E hnm hh
  have hl := hle.rf he
  subst hX
  unfold f_X17_told at hf
  refine v_iload_n C 1 dX17_told_0 rfl rfl ?_
  refine v_callS (stk := fun b => .int b :: []) C (ct_X17_isMove _ i1) nd_X17_isMove rfl (Nat.le_of_ble_eq_true rfl) (Nat.le_of_ble_eq_true rfl) [] (Nat.le_of_ble_eq_true rfl) (fun _ => rfl) rfl q1989 q1990 q127 q1991 hf hl dX17_told_1 (fun x1 h2 hf => ?_)
  refine v_if_ne C hf (tgt := 9) dX17_told_4 (by decide) (fun c4 hf => ?_) (fun c4 hf => ?_)
  · refine v_iload_n C 2 dX17_told_9 rfl rfl ?_
    by_cases e10_0 : i2 = 0
    · have hf := mi_pos e10_0 hf
      refine v_tswI C (k := 0) e10_0 dX17_told_10 (by decide) (by decide) rfl (tgt := 56) (by decide) ?_
      refine v_aload_n C 0 dX17_told_56 rfl rfl ?_
      refine v_iload_n C 1 dX17_told_57 rfl rfl ?_
      refine v_callV (stk := fun b => .int b :: []) C (ct_X17_keeps _ a0 i1) rfl ⟨rfl, nd_X17_keeps⟩ rfl (Nat.le_of_ble_eq_true rfl) (Nat.le_of_ble_eq_true rfl) [] (Nat.le_of_ble_eq_true rfl) (fun _ => rfl) rfl q2013 q2015 qs47 q127 q2016 hf hl dX17_told_58 (fun x3 h4 hf => ?_)
      obtain ⟨x5, h6, hAh6, hf, hlh6⟩ := mb_inv hf hl
      refine v_cut (h1 := h6) (pc1 := 69) (ls1 := []) (st1 := [.int x5]) ?_ (fun Jh6 => ?_)
      · clear hAh6 hlh6
        exact v_iret C E hf dX17_told_69
      · clear hf
        have hf := hAh6
        have hl := hlh6
        refine v_if_eq C hf (tgt := 68) dX17_told_61 (by decide) (fun c61 hf => ?_) (fun c61 hf => ?_)
        · refine v_iconst (x := 0) C dX17_told_68 (by decide) ?_
          obtain ⟨e1, rfl⟩ := mret_inv hf
          subst e1
          exact v_sub (ls' := _) [] rfl Jh6
        · refine v_iconst (x := 1) C dX17_told_64 (by decide) ?_
          refine v_goto (tgt := 69) C dX17_told_65 (by decide) ?_
          obtain ⟨e1, rfl⟩ := mret_inv hf
          subst e1
          exact v_sub (ls' := _) [] rfl Jh6
    have hf := mi_neg e10_0 hf
    by_cases e10_1 : i2 = 1
    · have hf := mi_pos e10_1 hf
      refine v_tswI C (k := 1) e10_1 dX17_told_10 (by decide) (by decide) rfl (tgt := 70) (by decide) ?_
      refine v_aload_n C 0 dX17_told_70 rfl rfl ?_
      refine v_iload_n C 1 dX17_told_71 rfl rfl ?_
      refine v_callV (stk := fun b => .int b :: []) C (ct_X17_stays _ a0 i1) rfl ⟨rfl, nd_X17_stays⟩ rfl (Nat.le_of_ble_eq_true rfl) (Nat.le_of_ble_eq_true rfl) [] (Nat.le_of_ble_eq_true rfl) (fun _ => rfl) rfl q2017 q2019 qs48 q127 q2020 hf hl dX17_told_72 (fun x7 h8 hf => ?_)
      exact v_iret C E hf dX17_told_75
    have hf := mi_neg e10_1 hf
    by_cases e10_2 : i2 = 2
    · have hf := mi_pos e10_2 hf
      refine v_tswI C (k := 2) e10_2 dX17_told_10 (by decide) (by decide) rfl (tgt := 76) (by decide) ?_
      refine v_aload_n C 0 dX17_told_76 rfl rfl ?_
      refine v_iload_n C 1 dX17_told_77 rfl rfl ?_
      refine v_callV (stk := fun b => .int b :: []) C (ct_X17_rings _ a0 i1) rfl ⟨rfl, nd_X17_rings⟩ rfl (Nat.le_of_ble_eq_true rfl) (Nat.le_of_ble_eq_true rfl) [] (Nat.le_of_ble_eq_true rfl) (fun _ => rfl) rfl q2021 q2023 qs49 q127 q2024 hf hl dX17_told_78 (fun x9 h10 hf => ?_)
      exact v_iret C E hf dX17_told_81
    have hf := mi_neg e10_2 hf
    by_cases e10_3 : i2 = 3
    · have hf := mi_pos e10_3 hf
      refine v_tswI C (k := 3) e10_3 dX17_told_10 (by decide) (by decide) rfl (tgt := 82) (by decide) ?_
      refine v_aload_n C 0 dX17_told_82 rfl rfl ?_
      refine v_iload_n C 1 dX17_told_83 rfl rfl ?_
      refine v_callV (stk := fun b => .int b :: []) C (ct_X17_orderOf _ a0 i1) rfl ⟨rfl, nd_X17_orderOf⟩ rfl (Nat.le_of_ble_eq_true rfl) (Nat.le_of_ble_eq_true rfl) [] (Nat.le_of_ble_eq_true rfl) (fun _ => rfl) rfl q2029 q2031 qs51 q127 q2032 hf hl dX17_told_84 (fun x11 h12 hf => ?_)
      exact v_iret C E hf dX17_told_87
    have hf := mi_neg e10_3 hf
    by_cases e10_4 : i2 = 4
    · have hf := mi_pos e10_4 hf
      refine v_tswI C (k := 4) e10_4 dX17_told_10 (by decide) (by decide) rfl (tgt := 88) (by decide) ?_
      refine v_bipush (x := 24) C dX17_told_88 (by decide) ?_
      refine v_aload_n C 0 dX17_told_90 rfl rfl ?_
      refine v_iload_n C 1 dX17_told_91 rfl rfl ?_
      refine v_callV (stk := fun b => .int b :: [.int (24 : Int32)]) C (ct_X17_rings _ a0 i1) rfl ⟨rfl, nd_X17_rings⟩ rfl (Nat.le_of_ble_eq_true rfl) (Nat.le_of_ble_eq_true rfl) [.int (24 : Int32)] (Nat.le_of_ble_eq_true rfl) (fun _ => rfl) rfl q2021 q2023 qs49 q127 q2024 hf hl dX17_told_92 (fun x13 h14 hf => ?_)
      refine v_isub C dX17_told_95 ?_
      refine v_iconst (x := 2) C dX17_told_96 (by decide) ?_
      refine v_irem C hf dX17_told_97 (fun x15 hf => ?_)
      exact v_iret C E hf dX17_told_98
    have hf := mi_neg e10_4 hf
    by_cases e10_5 : i2 = 5
    · have hf := mi_pos e10_5 hf
      refine v_tswI C (k := 5) e10_5 dX17_told_10 (by decide) (by decide) rfl (tgt := 99) (by decide) ?_
      refine v_aload_n C 0 dX17_told_99 rfl rfl ?_
      refine v_iload_n C 1 dX17_told_100 rfl rfl ?_
      refine v_callV (stk := fun b => .int b :: []) C (ct_X17_octadsKept _ a0 i1) rfl ⟨rfl, nd_X17_octadsKept⟩ rfl (Nat.le_of_ble_eq_true rfl) (Nat.le_of_ble_eq_true rfl) [] (Nat.le_of_ble_eq_true rfl) (fun _ => rfl) rfl q2037 q2039 qs53 q127 q2040 hf hl dX17_told_101 (fun x16 h17 hf => ?_)
      exact v_iret C E hf dX17_told_104
    have hf := mi_neg e10_5 hf
    by_cases e10_6 : i2 = 6
    · have hf := mi_pos e10_6 hf
      refine v_tswI C (k := 6) e10_6 dX17_told_10 (by decide) (by decide) rfl (tgt := 105) (by decide) ?_
      refine v_aload_n C 0 dX17_told_105 rfl rfl ?_
      refine v_iload_n C 1 dX17_told_106 rfl rfl ?_
      refine v_aload_n C 0 dX17_told_107 rfl rfl ?_
      refine v_gR (Cn := RX17) (T := TX17) (N := 37) C hf in_X17 rfl (by decide) q1804 rfl dX17_told_108 (fun x18 hf => ?_)
      refine v_bipush (x := 120) C dX17_told_111 (by decide) ?_
      refine v_iaload C hf dX17_told_113 (fun x19 hf => ?_)
      refine v_callV (stk := fun b => .int b :: []) C (ct_X17_goes _ a0 i1 x19) rfl ⟨rfl, nd_X17_goes⟩ rfl (Nat.le_of_ble_eq_true rfl) (Nat.le_of_ble_eq_true rfl) [] (Nat.le_of_ble_eq_true rfl) (fun _ => rfl) rfl q2005 q2007 qs46 q127 q2008 hf hl dX17_told_114 (fun x20 h21 hf => ?_)
      refine v_aload_n C 0 dX17_told_117 rfl rfl ?_
      refine v_gR (Cn := RX17) (T := TX17) (N := 37) C hf in_X17 rfl (by decide) q1804 rfl dX17_told_118 (fun x22 hf => ?_)
      refine v_bipush (x := 120) C dX17_told_121 (by decide) ?_
      refine v_iaload C hf dX17_told_123 (fun x23 hf => ?_)
      obtain ⟨x24, h25, hAh25, hf, hlh25⟩ := mb_inv hf hl
      refine v_cut (h1 := h25) (pc1 := 161) (ls1 := []) (st1 := [.int x24]) ?_ (fun Jh25 => ?_)
      · clear hAh25 hlh25
        exact v_iret C E hf dX17_told_161
      · clear hf
        have hf := hAh25
        have hl := hlh25
        refine v_icmp_ne C hf (tgt := 131) dX17_told_124 (by decide) (fun c124 hf => ?_) (fun c124 hf => ?_)
        · refine v_aload_n C 0 dX17_told_131 rfl rfl ?_
          refine v_iload_n C 1 dX17_told_132 rfl rfl ?_
          refine v_aload_n C 0 dX17_told_133 rfl rfl ?_
          refine v_gR (Cn := RX17) (T := TX17) (N := 37) C hf in_X17 rfl (by decide) q1804 rfl dX17_told_134 (fun x26 hf => ?_)
          refine v_bipush (x := 120) C dX17_told_137 (by decide) ?_
          refine v_iaload C hf dX17_told_139 (fun x27 hf => ?_)
          refine v_callV (stk := fun b => .int b :: []) C (ct_X17_goes _ a0 i1 x27) rfl ⟨rfl, nd_X17_goes⟩ rfl (Nat.le_of_ble_eq_true rfl) (Nat.le_of_ble_eq_true rfl) [] (Nat.le_of_ble_eq_true rfl) (fun _ => rfl) rfl q2005 q2007 qs46 q127 q2008 hf hl dX17_told_140 (fun x28 h29 hf => ?_)
          refine v_ldc (x := 16777215) C q1967 dX17_told_143 ?_
          refine v_aload_n C 0 dX17_told_145 rfl rfl ?_
          refine v_gR (Cn := RX17) (T := TX17) (N := 37) C hf in_X17 rfl (by decide) q1804 rfl dX17_told_146 (fun x30 hf => ?_)
          refine v_bipush (x := 120) C dX17_told_149 (by decide) ?_
          refine v_iaload C hf dX17_told_151 (fun x31 hf => ?_)
          refine v_ixor C dX17_told_152 ?_
          refine v_icmp_ne C hf (tgt := 160) dX17_told_153 (by decide) (fun c153 hf => ?_) (fun c153 hf => ?_)
          · refine v_iconst (x := 0) C dX17_told_160 (by decide) ?_
            obtain ⟨e1, rfl⟩ := mret_inv hf
            subst e1
            exact v_sub (ls' := _) [] rfl Jh25
          · refine v_iconst (x := 2) C dX17_told_156 (by decide) ?_
            refine v_goto (tgt := 161) C dX17_told_157 (by decide) ?_
            obtain ⟨e1, rfl⟩ := mret_inv hf
            subst e1
            exact v_sub (ls' := _) [] rfl Jh25
        · refine v_iconst (x := 1) C dX17_told_127 (by decide) ?_
          refine v_goto (tgt := 161) C dX17_told_128 (by decide) ?_
          obtain ⟨e1, rfl⟩ := mret_inv hf
          subst e1
          exact v_sub (ls' := _) [] rfl Jh25
    have hf := mi_neg e10_6 hf
    by_cases e10_7 : i2 = 7
    · have hf := mi_pos e10_7 hf
      refine v_tswI C (k := 7) e10_7 dX17_told_10 (by decide) (by decide) rfl (tgt := 162) (by decide) ?_
      refine v_aload_n C 0 dX17_told_162 rfl rfl ?_
      refine v_iload_n C 1 dX17_told_163 rfl rfl ?_
      refine v_callV (stk := fun b => .int b :: []) C (ct_X17_texts _ a0 i1) rfl ⟨rfl, nd_X17_texts⟩ rfl (Nat.le_of_ble_eq_true rfl) (Nat.le_of_ble_eq_true rfl) [] (Nat.le_of_ble_eq_true rfl) (fun _ => rfl) rfl q2041 q2043 qs54 q127 q2044 hf hl dX17_told_164 (fun x32 h33 hf => ?_)
      exact v_iret C E hf dX17_told_167
    have hf := mi_neg e10_7 hf
    refine v_tswO C (n := 8) (lo := 0) (x := i2) (fun j hj => ?_) dX17_told_10 rfl rfl (tgt := 168) (by decide) ?_
    · rcases (show j = 0 ∨ j = 1 ∨ j = 2 ∨ j = 3 ∨ j = 4 ∨ j = 5 ∨ j = 6 ∨ j = 7 by omega) with rfl | rfl | rfl | rfl | rfl | rfl | rfl | rfl
      · exact e10_0
      · exact e10_1
      · exact e10_2
      · exact e10_3
      · exact e10_4
      · exact e10_5
      · exact e10_6
      · exact e10_7
    refine v_iconst (x := (-1)) C dX17_told_168 (by decide) ?_
    exact v_iret C E hf dX17_told_169
  · refine v_iconst (x := (-1)) C dX17_told_7 (by decide) ?_
    exact v_iret C E hf dX17_told_8
def f_X17_readsFactor (a0 : Nat) : hM Int32 :=
  mb (mat a0 15 (f_X17_here a0)) fun x1 => mb (f_X17_isLow x1) fun x3 => mb (mi (x3 = 0) (mb (mat a0 15 (f_X17_here a0)) fun x11 => mi (¬ x11 = (40 : Int32)) (mret (0 : Int32)) (mb (mat a0 15 (f_X17_readsRing a0)) fun x13 => mi (x13 = 0) (mret (0 : Int32)) (mret (1 : Int32)))) (mb (mat a0 15 (f_X17_readsName a0)) fun x15 => mret x15)) fun x5 => mb (mi (x5 = 0) (mret (0 : Int32)) (mb (mat a0 15 (f_X17_readsOften a0)) fun x9 => mi (x9 = 0) (mret (0 : Int32)) (mret (1 : Int32)))) fun x7 => mrt .boolean x7
theorem nd_X17_readsFactor : yX17_readsFactor.cls ≠ "java/lang/invoke/MethodHandle" ∧ yX17_readsFactor.cls ≠ "java/lang/invoke/VarHandle" ∧ (parseMethodDescriptor yX17_readsFactor.desc).map (fun d => d.parameters.length) = some 0 := by decide +kernel
set_option maxHeartbeats 4000000 in
theorem ct_X17_readsFactor (l : Launch) (a0 : Nat) : CT l yX17_readsFactor cX17_readsFactor 2 (some .boolean) 5 116 rvI [.ref a0] (f_X17_readsFactor a0) := by
  refine CT_of (ls := [(0, .ref a0)]) (by decide) (Nat.le_of_ble_eq_true rfl) rfl ?_
  intro X h he z hX hf C E hnm hh
  have hl := hle.rf he
  subst hX
  unfold f_X17_readsFactor at hf
  refine v_aload_n C 0 dX17_readsFactor_0 rfl rfl ?_
  refine v_callV (stk := fun b => .int b :: []) C (ct_X17_here _ a0) rfl ⟨rfl, nd_X17_here⟩ rfl (Nat.le_of_ble_eq_true rfl) (Nat.le_of_ble_eq_true rfl) [] (Nat.le_of_ble_eq_true rfl) (fun _ => rfl) rfl q2076 q2078 qs59 q127 q2079 hf hl dX17_readsFactor_1 (fun x1 h2 hf => ?_)
  refine v_callS (stk := fun b => .int b :: []) C (ct_X17_isLow _ x1) nd_X17_isLow rfl (Nat.le_of_ble_eq_true rfl) (Nat.le_of_ble_eq_true rfl) [] (Nat.le_of_ble_eq_true rfl) (fun _ => rfl) rfl q2084 q2085 q127 q2086 hf hl dX17_readsFactor_4 (fun x3 h4 hf => ?_)
  obtain ⟨x5, h6, hAh6, hf, hlh6⟩ := mb_inv hf hl
  refine v_cut (h1 := h6) (pc1 := 38) (ls1 := [(0, .ref a0)]) (st1 := [.int x5]) ?_ (fun Jh6 => ?_)
  · clear hAh6 hlh6
    refine v_istore_n (ls' := [(1, _), (0, _)]) C dX17_readsFactor_38 rfl (by decide) rfl ?_
    refine v_iload_n C 0 dX17_readsFactor_39 rfl rfl ?_
    obtain ⟨x7, h8, hAh8, hf, hlh8⟩ := mb_inv hf hl
    refine v_cut (h1 := h8) (pc1 := 55) (ls1 := []) (st1 := [.int x7]) ?_ (fun Jh8 => ?_)
    · clear hAh8 hlh8
      exact v_zret C E hf dX17_readsFactor_55
    · clear hf
      have hf := hAh8
      have hl := hlh8
      refine v_if_eq C hf (tgt := 54) dX17_readsFactor_40 (by decide) (fun c40 hf => ?_) (fun c40 hf => ?_)
      · refine v_iconst (x := 0) C dX17_readsFactor_54 (by decide) ?_
        obtain ⟨e1, rfl⟩ := mret_inv hf
        subst e1
        exact v_sub (ls' := _) [] rfl Jh8
      · refine v_aload_n C 1 dX17_readsFactor_43 rfl rfl ?_
        refine v_callV (stk := fun b => .int b :: []) C (ct_X17_readsOften _ a0) rfl ⟨rfl, nd_X17_readsOften⟩ rfl (Nat.le_of_ble_eq_true rfl) (Nat.le_of_ble_eq_true rfl) [] (Nat.le_of_ble_eq_true rfl) (fun _ => rfl) rfl q2119 q2121 qs67 q127 q2122 hf hl dX17_readsFactor_44 (fun x9 h10 hf => ?_)
        refine v_if_eq C hf (tgt := 54) dX17_readsFactor_47 (by decide) (fun c47 hf => ?_) (fun c47 hf => ?_)
        · refine v_iconst (x := 0) C dX17_readsFactor_54 (by decide) ?_
          obtain ⟨e1, rfl⟩ := mret_inv hf
          subst e1
          exact v_sub (ls' := _) [] rfl Jh8
        · refine v_iconst (x := 1) C dX17_readsFactor_50 (by decide) ?_
          refine v_goto (tgt := 55) C dX17_readsFactor_51 (by decide) ?_
          obtain ⟨e1, rfl⟩ := mret_inv hf
          subst e1
          exact v_sub (ls' := _) [] rfl Jh8
  · clear hf
    have hf := hAh6
    have hl := hlh6
    refine v_if_eq C hf (tgt := 17) dX17_readsFactor_7 (by decide) (fun c7 hf => ?_) (fun c7 hf => ?_)
    · refine v_aload_n C 0 dX17_readsFactor_17 rfl rfl ?_
      refine v_callV (stk := fun b => .int b :: []) C (ct_X17_here _ a0) rfl ⟨rfl, nd_X17_here⟩ rfl (Nat.le_of_ble_eq_true rfl) (Nat.le_of_ble_eq_true rfl) [] (Nat.le_of_ble_eq_true rfl) (fun _ => rfl) rfl q2076 q2078 qs59 q127 q2079 hf hl dX17_readsFactor_18 (fun x11 h12 hf => ?_)
      refine v_bipush (x := 40) C dX17_readsFactor_21 (by decide) ?_
      refine v_icmp_ne C hf (tgt := 37) dX17_readsFactor_23 (by decide) (fun c23 hf => ?_) (fun c23 hf => ?_)
      · refine v_iconst (x := 0) C dX17_readsFactor_37 (by decide) ?_
        obtain ⟨e1, rfl⟩ := mret_inv hf
        subst e1
        exact v_sub (ls' := _) [0] rfl Jh6
      · refine v_aload_n C 0 dX17_readsFactor_26 rfl rfl ?_
        refine v_callV (stk := fun b => .int b :: []) C (ct_X17_readsRing _ a0) rfl ⟨rfl, nd_X17_readsRing⟩ rfl (Nat.le_of_ble_eq_true rfl) (Nat.le_of_ble_eq_true rfl) [] (Nat.le_of_ble_eq_true rfl) (fun _ => rfl) rfl q2111 q2113 qs65 q127 q2114 hf hl dX17_readsFactor_27 (fun x13 h14 hf => ?_)
        refine v_if_eq C hf (tgt := 37) dX17_readsFactor_30 (by decide) (fun c30 hf => ?_) (fun c30 hf => ?_)
        · refine v_iconst (x := 0) C dX17_readsFactor_37 (by decide) ?_
          obtain ⟨e1, rfl⟩ := mret_inv hf
          subst e1
          exact v_sub (ls' := _) [0] rfl Jh6
        · refine v_iconst (x := 1) C dX17_readsFactor_33 (by decide) ?_
          refine v_goto (tgt := 38) C dX17_readsFactor_34 (by decide) ?_
          obtain ⟨e1, rfl⟩ := mret_inv hf
          subst e1
          exact v_sub (ls' := _) [0] rfl Jh6
    · refine v_aload_n C 0 dX17_readsFactor_10 rfl rfl ?_
      refine v_callV (stk := fun b => .int b :: []) C (ct_X17_readsName _ a0) rfl ⟨rfl, nd_X17_readsName⟩ rfl (Nat.le_of_ble_eq_true rfl) (Nat.le_of_ble_eq_true rfl) [] (Nat.le_of_ble_eq_true rfl) (fun _ => rfl) rfl q2089 q2091 qs61 q127 q2092 hf hl dX17_readsFactor_11 (fun x15 h16 hf => ?_)
      refine v_goto (tgt := 38) C dX17_readsFactor_14 (by decide) ?_
      obtain ⟨e1, rfl⟩ := mret_inv hf
      subst e1
      exact v_sub (ls' := _) [0] rfl Jh6
def l_X17_builds_22 (a0 : Nat) (i1 : Int32) (i2 : Int32) : Nat → Int32 → hM (Unit)
  | 0, _ => mfail
  | n + 1, i3 => mi ((96 : Int32) ≤ i3) (mret ()) (mb (gR a0 15 23) fun x5 => mb (gR a0 15 0) fun x6 => mb (aI 1 x6 i3) fun x7 => mb (sI 1 x5 i3 x7) fun _ => l_X17_builds_22 a0 i1 i2 n (i3 + (1 : Int32)))
def l_X17_builds_58 (a0 : Nat) (i1 : Int32) : Nat → Int32 → hM (Unit)
  | 0, _ => mfail
  | n + 1, i3 => mi ((576 : Int32) ≤ i3) (mret ()) (mb (gR a0 15 16) fun x14 => mb (sI 1 x14 i3 (-1 : Int32)) fun _ => l_X17_builds_58 a0 i1 n (i3 + (1 : Int32)))
def l_X17_builds_88 (a0 : Nat) (i1 : Int32) (i3 : Int32) : Nat → Int32 → hM (Unit)
  | 0, _ => mfail
  | n + 1, i4 => mi ((24 : Int32) ≤ i4) (mret ()) (mb (gR a0 15 20) fun x18 => mb (f_X17_has i1 i3) fun x19 => mb (mi (x19 = 0) (mret i4) (mb (mat a0 15 (f_X17_to a0 i3 i4)) fun x24 => mret x24)) fun x21 => mb (sI 1 x18 i4 x21) fun _ => l_X17_builds_88 a0 i1 i3 n (i4 + (1 : Int32)))
def l_X17_builds_80 (a0 : Nat) (i1 : Int32) : Nat → Int32 → hM (Unit)
  | 0, _ => mfail
  | n + 1, i3 => mi ((4 : Int32) ≤ i3) (mret ()) (mb (l_X17_builds_88 a0 i1 i3 FU (0 : Int32)) fun x26 => mb (mat a0 15 (f_X17_adds a0)) fun _ => l_X17_builds_80 a0 i1 n (i3 + (1 : Int32)))
def l_X17_builds_151 (a0 : Nat) (i3 : Int32) : Nat → Int32 → hM (Unit)
  | 0, _ => mfail
  | n + 1, i4 => mi (i3 < i4) (mret ()) (mb (mat a0 15 (f_X17_tries a0 i3 i4)) fun _ => mb (mat a0 15 (f_X17_tries a0 i4 i3)) fun _ => l_X17_builds_151 a0 i3 n (i4 + (1 : Int32)))
def l_X17_builds_140 (a0 : Nat) : Nat → Int32 → hM (Unit)
  | 0, _ => mfail
  | n + 1, i3 => mb (gI a0 15 19) fun x32 => mi (x32 ≤ i3) (mret ()) (mb (l_X17_builds_151 a0 i3 FU (0 : Int32)) fun x37 => l_X17_builds_140 a0 n (i3 + (1 : Int32)))
def f_X17_builds (a0 : Nat) (i1 : Int32) (i2 : Int32) : hM Unit :=
  mb (mat a0 15 (f_X17_stands a0 i1 i2)) fun x1 => mi (x1 = 0) (mb (pF a0 15 21 (.int i1)) fun _ => mb (pF a0 15 22 (.int i2)) fun _ => mb (l_X17_builds_22 a0 i1 i2 FU (0 : Int32)) fun x9 => mb (mat a0 15 (f_X17_bases a0 i2)) fun _ => mb (pF a0 15 19 (.int (0 : Int32))) fun _ => mb (l_X17_builds_58 a0 i1 FU (0 : Int32)) fun x16 => mb (l_X17_builds_80 a0 i1 FU (0 : Int32)) fun x30 => mb (l_X17_builds_140 a0 FU (0 : Int32)) fun x39 => mret ()) (mret ())
theorem nd_X17_builds : yX17_builds.cls ≠ "java/lang/invoke/MethodHandle" ∧ yX17_builds.cls ≠ "java/lang/invoke/VarHandle" ∧ (parseMethodDescriptor yX17_builds.desc).map (fun d => d.parameters.length) = some 2 := by decide +kernel
set_option maxHeartbeats 4000000 in
theorem ct_X17_builds (l : Launch) (a0 : Nat) (i1 : Int32) (i2 : Int32) : CT l yX17_builds cX17_builds 5 none 4 90 rv0 [.ref a0, .int i1, .int i2] (f_X17_builds a0 i1 i2) := by
  refine CT_of (ls := [(0, .ref a0), (1, .int i1), (2, .int i2)]) (by decide) (Nat.le_of_ble_eq_true rfl) rfl ?_
  intro X h he z hX hf C E hnm hh
  have hl := hle.rf he
  subst hX
  have L22 : ∀ (a0 : Nat) (i1 : Int32) (i2 : Int32) (n : Nat) (i3 : Int32) (h h1 : Hp) (o : Unit), (l_X17_builds_22 a0 i1 i2 n i3).1 h = some (o, h1) → hle h1 he → V X h1 46 [(0, .ref a0), (1, .int i1), (2, .int i2)] [] → V X h 22 [(0, .ref a0), (1, .int i1), (2, .int i2), (3, .int i3)] [] := by
    intro a0 i1 i2 n
    induction n with
    | zero => intro i3 h h1 o hf; exact mfail_inv hf
    | succ n ih =>
      intro i3 h h1 o hf hl J
      rw [l_X17_builds_22] at hf
      refine v_iload_n C 3 dX17_builds_22 rfl rfl ?_
      refine v_bipush (x := 96) C dX17_builds_23 (by decide) ?_
      refine v_icmp_ge C hf (tgt := 46) dX17_builds_25 (by decide) (fun c25 hf => ?_) (fun c25 hf => ?_)
      · obtain ⟨e1, rfl⟩ := mret_inv hf
        subst e1
        exact v_sub (ls' := _) [0, 1, 2] rfl J
      · refine v_aload_n C 0 dX17_builds_28 rfl rfl ?_
        refine v_gR (Cn := RX17) (T := TX17) (N := 37) C hf in_X17 rfl (by decide) q1827 rfl dX17_builds_29 (fun x5 hf => ?_)
        refine v_iload_n C 3 dX17_builds_32 rfl rfl ?_
        refine v_aload_n C 0 dX17_builds_33 rfl rfl ?_
        refine v_gR (Cn := RX17) (T := TX17) (N := 37) C hf in_X17 rfl (by decide) q1804 rfl dX17_builds_34 (fun x6 hf => ?_)
        refine v_iload_n C 3 dX17_builds_37 rfl rfl ?_
        refine v_iaload C hf dX17_builds_38 (fun x7 hf => ?_)
        refine v_iastore C hf dX17_builds_39 (fun h8 hf => ?_)
        refine v_iinc (ls' := [(3, _), (0, _), (1, _), (2, _)]) (y := i3 + (1 : Int32)) C 3 dX17_builds_40 rfl rfl (by decide) rfl ?_
        refine v_goto (tgt := 22) C dX17_builds_43 (by decide) ?_
        refine v_sub (ls' := _) [1, 2, 3, 0] rfl (ih (i3 + (1 : Int32)) _ _ _ hf hl J)
  have L58 : ∀ (a0 : Nat) (i1 : Int32) (n : Nat) (i3 : Int32) (h h1 : Hp) (o : Unit), (l_X17_builds_58 a0 i1 n i3).1 h = some (o, h1) → hle h1 he → V X h1 78 [(0, .ref a0), (1, .int i1)] [] → V X h 58 [(0, .ref a0), (1, .int i1), (3, .int i3)] [] := by
    intro a0 i1 n
    induction n with
    | zero => intro i3 h h1 o hf; exact mfail_inv hf
    | succ n ih =>
      intro i3 h h1 o hf hl J
      rw [l_X17_builds_58] at hf
      refine v_iload_n C 2 dX17_builds_58 rfl rfl ?_
      refine v_sipush (x := 576) C dX17_builds_59 (by decide) ?_
      refine v_icmp_ge C hf (tgt := 78) dX17_builds_62 (by decide) (fun c62 hf => ?_) (fun c62 hf => ?_)
      · obtain ⟨e1, rfl⟩ := mret_inv hf
        subst e1
        exact v_sub (ls' := _) [0, 1] rfl J
      · refine v_aload_n C 0 dX17_builds_65 rfl rfl ?_
        refine v_gR (Cn := RX17) (T := TX17) (N := 37) C hf in_X17 rfl (by decide) q1820 rfl dX17_builds_66 (fun x14 hf => ?_)
        refine v_iload_n C 2 dX17_builds_69 rfl rfl ?_
        refine v_iconst (x := (-1)) C dX17_builds_70 (by decide) ?_
        refine v_iastore C hf dX17_builds_71 (fun h15 hf => ?_)
        refine v_iinc (ls' := [(3, _), (0, _), (1, _)]) (y := i3 + (1 : Int32)) C 2 dX17_builds_72 rfl rfl (by decide) rfl ?_
        refine v_goto (tgt := 58) C dX17_builds_75 (by decide) ?_
        refine v_sub (ls' := _) [1, 2, 0] rfl (ih (i3 + (1 : Int32)) _ _ _ hf hl J)
  have L88 : ∀ (a0 : Nat) (i1 : Int32) (i3 : Int32) (n : Nat) (i4 : Int32) (h h1 : Hp) (o : Unit), (l_X17_builds_88 a0 i1 i3 n i4).1 h = some (o, h1) → hle h1 he → V X h1 128 [(0, .ref a0), (1, .int i1), (3, .int i3)] [] → V X h 88 [(0, .ref a0), (1, .int i1), (3, .int i3), (4, .int i4)] [] := by
    intro a0 i1 i3 n
    induction n with
    | zero => intro i4 h h1 o hf; exact mfail_inv hf
    | succ n ih =>
      intro i4 h h1 o hf hl J
      rw [l_X17_builds_88] at hf
      refine v_iload C 3 dX17_builds_88 rfl ?_
      refine v_bipush (x := 24) C dX17_builds_90 (by decide) ?_
      refine v_icmp_ge C hf (tgt := 128) dX17_builds_92 (by decide) (fun c92 hf => ?_) (fun c92 hf => ?_)
      · obtain ⟨e1, rfl⟩ := mret_inv hf
        subst e1
        exact v_sub (ls' := _) [0, 1, 2] rfl J
      · refine v_aload_n C 0 dX17_builds_95 rfl rfl ?_
        refine v_gR (Cn := RX17) (T := TX17) (N := 37) C hf in_X17 rfl (by decide) q1824 rfl dX17_builds_96 (fun x18 hf => ?_)
        refine v_iload C 3 dX17_builds_99 rfl ?_
        refine v_iload_n C 1 dX17_builds_101 rfl rfl ?_
        refine v_iload_n C 2 dX17_builds_102 rfl rfl ?_
        refine v_callS (stk := fun b => .int b :: [.int i4, .ref x18]) C (ct_X17_has _ i1 i3) nd_X17_has rfl (Nat.le_of_ble_eq_true rfl) (Nat.le_of_ble_eq_true rfl) [.int i4, .ref x18] (Nat.le_of_ble_eq_true rfl) (fun _ => rfl) rfl q1783 q1784 q127 q1785 hf hl dX17_builds_103 (fun x19 h20 hf => ?_)
        obtain ⟨x21, h22, hAh22, hf, hlh22⟩ := mb_inv hf hl
        refine v_cut (h1 := h22) (pc1 := 121) (ls1 := [(0, .ref a0), (1, .int i1), (3, .int i3), (4, .int i4)]) (st1 := [.int x21, .int i4, .ref x18]) ?_ (fun Jh22 => ?_)
        · clear hAh22 hlh22
          refine v_iastore C hf dX17_builds_121 (fun h23 hf => ?_)
          refine v_iinc (ls' := [(4, _), (0, _), (1, _), (3, _)]) (y := i4 + (1 : Int32)) C 3 dX17_builds_122 rfl rfl (by decide) rfl ?_
          refine v_goto (tgt := 88) C dX17_builds_125 (by decide) ?_
          refine v_sub (ls' := _) [1, 2, 3, 0] rfl (ih (i4 + (1 : Int32)) _ _ _ hf hl J)
        · clear hf
          have hf := hAh22
          have hl := hlh22
          refine v_if_eq C hf (tgt := 119) dX17_builds_106 (by decide) (fun c106 hf => ?_) (fun c106 hf => ?_)
          · refine v_iload C 3 dX17_builds_119 rfl ?_
            obtain ⟨e1, rfl⟩ := mret_inv hf
            subst e1
            exact v_sub (ls' := _) [0, 1, 2, 3] rfl Jh22
          · refine v_aload_n C 0 dX17_builds_109 rfl rfl ?_
            refine v_iload_n C 2 dX17_builds_110 rfl rfl ?_
            refine v_iload C 3 dX17_builds_111 rfl ?_
            refine v_callV (stk := fun b => .int b :: [.int i4, .ref x18]) C (ct_X17_to _ a0 i3 i4) rfl ⟨rfl, nd_X17_to⟩ rfl (Nat.le_of_ble_eq_true rfl) (Nat.le_of_ble_eq_true rfl) [.int i4, .ref x18] (Nat.le_of_ble_eq_true rfl) (fun _ => rfl) rfl q1997 q1999 qs45 q127 q2000 hf hl dX17_builds_113 (fun x24 h25 hf => ?_)
            refine v_goto (tgt := 121) C dX17_builds_116 (by decide) ?_
            obtain ⟨e1, rfl⟩ := mret_inv hf
            subst e1
            exact v_sub (ls' := _) [0, 1, 2, 3] rfl Jh22
  have L80 : ∀ (a0 : Nat) (i1 : Int32) (n : Nat) (i3 : Int32) (h h1 : Hp) (o : Unit), (l_X17_builds_80 a0 i1 n i3).1 h = some (o, h1) → hle h1 he → V X h1 138 [(0, .ref a0)] [] → V X h 80 [(0, .ref a0), (1, .int i1), (3, .int i3)] [] := by
    intro a0 i1 n
    induction n with
    | zero => intro i3 h h1 o hf; exact mfail_inv hf
    | succ n ih =>
      intro i3 h h1 o hf hl J
      rw [l_X17_builds_80] at hf
      refine v_iload_n C 2 dX17_builds_80 rfl rfl ?_
      refine v_iconst (x := 4) C dX17_builds_81 (by decide) ?_
      refine v_icmp_ge C hf (tgt := 138) dX17_builds_82 (by decide) (fun c82 hf => ?_) (fun c82 hf => ?_)
      · obtain ⟨e1, rfl⟩ := mret_inv hf
        subst e1
        exact v_sub (ls' := _) [0] rfl J
      · refine v_iconst (x := 0) C dX17_builds_85 (by decide) ?_
        refine v_istore (ls' := [(4, _), (0, _), (1, _), (3, _)]) C dX17_builds_86 (by decide) rfl ?_
        obtain ⟨x26, h27, eh27, hf, hlh27⟩ := mb_inv hf hl
        refine v_sub (ls' := _) [1, 2, 3, 0] rfl (L88 a0 i1 i3 FU (0 : Int32) _ _ _ eh27 hlh27 ?_)
        refine v_aload_n C 0 dX17_builds_128 rfl rfl ?_
        refine v_callV (stk := fun _ => []) C (ct_X17_adds _ a0) rfl ⟨rfl, nd_X17_adds⟩ rfl (Nat.le_of_ble_eq_true rfl) (Nat.le_of_ble_eq_true rfl) [] (Nat.le_of_ble_eq_true rfl) (fun _ => rfl) rfl q2159 q2161 qs75 q127 q2162 hf hl dX17_builds_129 (fun x28 h29 hf => ?_)
        refine v_iinc (ls' := [(3, _), (0, _), (1, _)]) (y := i3 + (1 : Int32)) C 2 dX17_builds_132 rfl rfl (by decide) rfl ?_
        refine v_goto (tgt := 80) C dX17_builds_135 (by decide) ?_
        refine v_sub (ls' := _) [1, 2, 0] rfl (ih (i3 + (1 : Int32)) _ _ _ hf hl J)
  have L151 : ∀ (a0 : Nat) (i3 : Int32) (n : Nat) (i4 : Int32) (h h1 : Hp) (o : Unit), (l_X17_builds_151 a0 i3 n i4).1 h = some (o, h1) → hle h1 he → V X h1 177 [(0, .ref a0), (3, .int i3)] [] → V X h 151 [(0, .ref a0), (3, .int i3), (4, .int i4)] [] := by
    intro a0 i3 n
    induction n with
    | zero => intro i4 h h1 o hf; exact mfail_inv hf
    | succ n ih =>
      intro i4 h h1 o hf hl J
      rw [l_X17_builds_151] at hf
      refine v_iload C 2 dX17_builds_151 rfl ?_
      refine v_iload_n C 1 dX17_builds_153 rfl rfl ?_
      refine v_icmp_gt C hf (tgt := 177) dX17_builds_154 (by decide) (fun c154 hf => ?_) (fun c154 hf => ?_)
      · obtain ⟨e1, rfl⟩ := mret_inv hf
        subst e1
        exact v_sub (ls' := _) [0, 1] rfl J
      · refine v_aload_n C 0 dX17_builds_157 rfl rfl ?_
        refine v_iload_n C 1 dX17_builds_158 rfl rfl ?_
        refine v_iload C 2 dX17_builds_159 rfl ?_
        refine v_callV (stk := fun _ => []) C (ct_X17_tries _ a0 i3 i4) rfl ⟨rfl, nd_X17_tries⟩ rfl (Nat.le_of_ble_eq_true rfl) (Nat.le_of_ble_eq_true rfl) [] (Nat.le_of_ble_eq_true rfl) (fun _ => rfl) rfl q2171 q2173 qs78 q127 q2174 hf hl dX17_builds_161 (fun x33 h34 hf => ?_)
        refine v_aload_n C 0 dX17_builds_164 rfl rfl ?_
        refine v_iload C 2 dX17_builds_165 rfl ?_
        refine v_iload_n C 1 dX17_builds_167 rfl rfl ?_
        refine v_callV (stk := fun _ => []) C (ct_X17_tries _ a0 i4 i3) rfl ⟨rfl, nd_X17_tries⟩ rfl (Nat.le_of_ble_eq_true rfl) (Nat.le_of_ble_eq_true rfl) [] (Nat.le_of_ble_eq_true rfl) (fun _ => rfl) rfl q2171 q2173 qs78 q127 q2174 hf hl dX17_builds_168 (fun x35 h36 hf => ?_)
        refine v_iinc (ls' := [(4, _), (0, _), (3, _)]) (y := i4 + (1 : Int32)) C 2 dX17_builds_171 rfl rfl (by decide) rfl ?_
        refine v_goto (tgt := 151) C dX17_builds_174 (by decide) ?_
        refine v_sub (ls' := _) [1, 2, 0] rfl (ih (i4 + (1 : Int32)) _ _ _ hf hl J)
  have L140 : ∀ (a0 : Nat) (n : Nat) (i3 : Int32) (h h1 : Hp) (o : Unit), (l_X17_builds_140 a0 n i3).1 h = some (o, h1) → hle h1 he → V X h1 183 [] [] → V X h 140 [(0, .ref a0), (3, .int i3)] [] := by
    intro a0 n
    induction n with
    | zero => intro i3 h h1 o hf; exact mfail_inv hf
    | succ n ih =>
      intro i3 h h1 o hf hl J
      rw [l_X17_builds_140] at hf
      refine v_iload_n C 1 dX17_builds_140 rfl rfl ?_
      refine v_aload_n C 0 dX17_builds_141 rfl rfl ?_
      refine v_gI (Cn := RX17) (T := TX17) (N := 37) C hf in_X17 rfl (by decide) q1823 rfl dX17_builds_142 (fun x32 hf => ?_)
      refine v_icmp_ge C hf (tgt := 183) dX17_builds_145 (by decide) (fun c145 hf => ?_) (fun c145 hf => ?_)
      · obtain ⟨e1, rfl⟩ := mret_inv hf
        subst e1
        exact v_sub (ls' := _) [] rfl J
      · refine v_iconst (x := 0) C dX17_builds_148 (by decide) ?_
        refine v_istore (ls' := [(4, _), (0, _), (3, _)]) C dX17_builds_149 (by decide) rfl ?_
        obtain ⟨x37, h38, eh38, hf, hlh38⟩ := mb_inv hf hl
        refine v_sub (ls' := _) [1, 2, 0] rfl (L151 a0 i3 FU (0 : Int32) _ _ _ eh38 hlh38 ?_)
        refine v_iinc (ls' := [(3, _), (0, _)]) (y := i3 + (1 : Int32)) C 1 dX17_builds_177 rfl rfl (by decide) rfl ?_
        refine v_goto (tgt := 140) C dX17_builds_180 (by decide) ?_
        refine v_sub (ls' := _) [1, 0] rfl (ih (i3 + (1 : Int32)) _ _ _ hf hl J)
  unfold f_X17_builds at hf
  refine v_aload_n C 0 dX17_builds_0 rfl rfl ?_
  refine v_iload_n C 1 dX17_builds_1 rfl rfl ?_
  refine v_iload_n C 2 dX17_builds_2 rfl rfl ?_
  refine v_callV (stk := fun b => .int b :: []) C (ct_X17_stands _ a0 i1 i2) rfl ⟨rfl, nd_X17_stands⟩ rfl (Nat.le_of_ble_eq_true rfl) (Nat.le_of_ble_eq_true rfl) [] (Nat.le_of_ble_eq_true rfl) (fun _ => rfl) rfl q2151 q2153 qs73 q127 q2154 hf hl dX17_builds_3 (fun x1 h2 hf => ?_)
  refine v_if_eq C hf (tgt := 10) dX17_builds_6 (by decide) (fun c6 hf => ?_) (fun c6 hf => ?_)
  · refine v_aload_n C 0 dX17_builds_10 rfl rfl ?_
    refine v_iload_n C 1 dX17_builds_11 rfl rfl ?_
    refine v_putv (Cn := RX17) (T := TX17) (N := 37) (ty0 := tyX17) C hf in_X17 tyX17_ok nmX17 rfl (by decide) q1825 rfl rfl rfl rfl dX17_builds_12 (fun h3 hf => ?_)
    refine v_aload_n C 0 dX17_builds_15 rfl rfl ?_
    refine v_iload_n C 2 dX17_builds_16 rfl rfl ?_
    refine v_putv (Cn := RX17) (T := TX17) (N := 37) (ty0 := tyX17) C hf in_X17 tyX17_ok nmX17 rfl (by decide) q1826 rfl rfl rfl rfl dX17_builds_17 (fun h4 hf => ?_)
    refine v_iconst (x := 0) C dX17_builds_20 (by decide) ?_
    refine v_istore_n (ls' := [(3, _), (0, _), (1, _), (2, _)]) C dX17_builds_21 rfl (by decide) rfl ?_
    obtain ⟨x9, h10, eh10, hf, hlh10⟩ := mb_inv hf hl
    refine v_sub (ls' := _) [1, 2, 3, 0] rfl (L22 a0 i1 i2 FU (0 : Int32) _ _ _ eh10 hlh10 ?_)
    refine v_aload_n C 0 dX17_builds_46 rfl rfl ?_
    refine v_iload_n C 2 dX17_builds_47 rfl rfl ?_
    refine v_callV (stk := fun _ => []) C (ct_X17_bases _ a0 i2) rfl ⟨rfl, nd_X17_bases⟩ rfl (Nat.le_of_ble_eq_true rfl) (Nat.le_of_ble_eq_true rfl) [] (Nat.le_of_ble_eq_true rfl) (fun _ => rfl) rfl q2155 q2157 qs74 q127 q2158 hf hl dX17_builds_48 (fun x11 h12 hf => ?_)
    refine v_aload_n C 0 dX17_builds_51 rfl rfl ?_
    refine v_iconst (x := 0) C dX17_builds_52 (by decide) ?_
    refine v_putv (Cn := RX17) (T := TX17) (N := 37) (ty0 := tyX17) C hf in_X17 tyX17_ok nmX17 rfl (by decide) q1823 rfl rfl rfl rfl dX17_builds_53 (fun h13 hf => ?_)
    refine v_iconst (x := 0) C dX17_builds_56 (by decide) ?_
    refine v_istore_n (ls' := [(3, _), (0, _), (1, _), (2, _)]) C dX17_builds_57 rfl (by decide) rfl ?_
    obtain ⟨x16, h17, eh17, hf, hlh17⟩ := mb_inv hf hl
    refine v_sub (ls' := _) [1, 2, 0] rfl (L58 a0 i1 FU (0 : Int32) _ _ _ eh17 hlh17 ?_)
    refine v_iconst (x := 0) C dX17_builds_78 (by decide) ?_
    refine v_istore_n (ls' := [(3, _), (0, _), (1, _)]) C dX17_builds_79 rfl (by decide) rfl ?_
    obtain ⟨x30, h31, eh31, hf, hlh31⟩ := mb_inv hf hl
    refine v_sub (ls' := _) [1, 2, 0] rfl (L80 a0 i1 FU (0 : Int32) _ _ _ eh31 hlh31 ?_)
    refine v_iconst (x := 0) C dX17_builds_138 (by decide) ?_
    refine v_istore_n (ls' := [(3, _), (0, _)]) C dX17_builds_139 rfl (by decide) rfl ?_
    obtain ⟨x39, h40, eh40, hf, hlh40⟩ := mb_inv hf hl
    refine v_sub (ls' := _) [1, 0] rfl (L140 a0 FU (0 : Int32) _ _ _ eh40 hlh40 ?_)
    exact v_vret C E hf dX17_builds_183
  · exact v_vret C E hf dX17_builds_9
def f_X17_held (a0 : Nat) (i1 : Int32) (i2 : Int32) (i3 : Int32) : hM Int32 :=
  mb (f_X17_isGroup i1) fun x1 => mi (x1 = 0) (mret (-1 : Int32)) (mb (f_X17_isSet i2) fun x3 => mi (x3 = 0) (mret (-1 : Int32)) (mb (f_X17_in i3.toInt64 (0 : Int64) (2 : Int64)) fun x5 => mi (¬ x5 = 0) (mb (mat a0 15 (f_X17_allKeep a0 i1)) fun x7 => mi (x7 = 0) (mret (-2 : Int32)) (mi (¬ i3 = (2 : Int32)) (mi (¬ i3 = 0) (mb (mat a0 15 (f_X17_builds a0 i1 i2)) fun _ => mi (¬ i3 = (1 : Int32)) (mb (mat a0 15 (f_X17_imagesOf a0 i1)) fun _ => mb (mat a0 15 (f_X17_unmarks a0)) fun _ => mb (mat a0 15 (f_X17_manyFrom a0 (0 : Int32))) fun x15 => mb (mat a0 15 (f_X17_numberOf a0 i2)) fun x17 => mb (mat a0 15 (f_X17_spreads a0 x17)) fun x19 => mb (mdiv x15 x19) fun x21 => mret x21) (mb (f_X17_bits i2) fun x22 => mb (mat a0 15 (f_X17_manyFrom a0 x22)) fun x24 => mret x24)) (mb (mat a0 15 (f_X17_reaches a0 i1 i2)) fun x26 => mret x26)) (mb (mat a0 15 (f_X17_numberOf a0 i2)) fun x28 => mi (0 ≤ x28) (mi (¬ i3 = 0) (mb (mat a0 15 (f_X17_builds a0 i1 i2)) fun _ => mi (¬ i3 = (1 : Int32)) (mb (mat a0 15 (f_X17_imagesOf a0 i1)) fun _ => mb (mat a0 15 (f_X17_unmarks a0)) fun _ => mb (mat a0 15 (f_X17_manyFrom a0 (0 : Int32))) fun x36 => mb (mat a0 15 (f_X17_numberOf a0 i2)) fun x38 => mb (mat a0 15 (f_X17_spreads a0 x38)) fun x40 => mb (mdiv x36 x40) fun x42 => mret x42) (mb (f_X17_bits i2) fun x43 => mb (mat a0 15 (f_X17_manyFrom a0 x43)) fun x45 => mret x45)) (mb (mat a0 15 (f_X17_reaches a0 i1 i2)) fun x47 => mret x47)) (mret (-2 : Int32))))) (mret (-1 : Int32))))
theorem nd_X17_held : yX17_held.cls ≠ "java/lang/invoke/MethodHandle" ∧ yX17_held.cls ≠ "java/lang/invoke/VarHandle" ∧ (parseMethodDescriptor yX17_held.desc).map (fun d => d.parameters.length) = some 3 := by decide +kernel
set_option maxHeartbeats 4000000 in
theorem ct_X17_held (l : Launch) (a0 : Nat) (i1 : Int32) (i2 : Int32) (i3 : Int32) : CT l yX17_held cX17_held 4 (some .int) 5 114 rvI [.ref a0, .int i1, .int i2, .int i3] (f_X17_held a0 i1 i2 i3) := by
  refine CT_of (ls := [(0, .ref a0), (1, .int i1), (2, .int i2), (3, .int i3)]) (by decide) (Nat.le_of_ble_eq_true rfl) rfl ?_
  intro X h he z hX hf C E hnm hh
  have hl := hle.rf he
  subst hX
  unfold f_X17_held at hf
  refine v_iload_n C 1 dX17_held_0 rfl rfl ?_
  refine v_callS (stk := fun b => .int b :: []) C (ct_X17_isGroup _ i1) nd_X17_isGroup rfl (Nat.le_of_ble_eq_true rfl) (Nat.le_of_ble_eq_true rfl) [] (Nat.le_of_ble_eq_true rfl) (fun _ => rfl) rfl q2139 q2140 q127 q2141 hf hl dX17_held_1 (fun x1 h2 hf => ?_)
  refine v_if_eq C hf (tgt := 26) dX17_held_4 (by decide) (fun c4 hf => ?_) (fun c4 hf => ?_)
  · refine v_iconst (x := (-1)) C dX17_held_26 (by decide) ?_
    exact v_iret C E hf dX17_held_27
  · refine v_iload_n C 2 dX17_held_7 rfl rfl ?_
    refine v_callS (stk := fun b => .int b :: []) C (ct_X17_isSet _ i2) nd_X17_isSet rfl (Nat.le_of_ble_eq_true rfl) (Nat.le_of_ble_eq_true rfl) [] (Nat.le_of_ble_eq_true rfl) (fun _ => rfl) rfl q1920 q1921 q127 q1922 hf hl dX17_held_8 (fun x3 h4 hf => ?_)
    refine v_if_eq C hf (tgt := 26) dX17_held_11 (by decide) (fun c11 hf => ?_) (fun c11 hf => ?_)
    · refine v_iconst (x := (-1)) C dX17_held_26 (by decide) ?_
      exact v_iret C E hf dX17_held_27
    · refine v_iload_n C 3 dX17_held_14 rfl rfl ?_
      refine v_i2l C dX17_held_15 ?_
      refine v_lconst (x := 0) C dX17_held_16 (by decide) ?_
      refine v_ldc2 (x := 2) C q2226 dX17_held_17 ?_
      refine v_callS (stk := fun b => .int b :: []) C (ct_X17_in _ i3.toInt64 (0 : Int64) (2 : Int64)) nd_X17_in rfl (Nat.le_of_ble_eq_true rfl) (Nat.le_of_ble_eq_true rfl) [] (Nat.le_of_ble_eq_true rfl) (fun _ => rfl) rfl q1779 q1780 q127 q1781 hf hl dX17_held_20 (fun x5 h6 hf => ?_)
      refine v_if_ne C hf (tgt := 28) dX17_held_23 (by decide) (fun c23 hf => ?_) (fun c23 hf => ?_)
      · refine v_aload_n C 0 dX17_held_28 rfl rfl ?_
        refine v_iload_n C 1 dX17_held_29 rfl rfl ?_
        refine v_callV (stk := fun b => .int b :: []) C (ct_X17_allKeep _ a0 i1) rfl ⟨rfl, nd_X17_allKeep⟩ rfl (Nat.le_of_ble_eq_true rfl) (Nat.le_of_ble_eq_true rfl) [] (Nat.le_of_ble_eq_true rfl) (fun _ => rfl) rfl q2143 q2145 qs71 q127 q2146 hf hl dX17_held_30 (fun x7 h8 hf => ?_)
        refine v_if_eq C hf (tgt := 49) dX17_held_33 (by decide) (fun c33 hf => ?_) (fun c33 hf => ?_)
        · refine v_bipush (x := (-2)) C dX17_held_49 (by decide) ?_
          exact v_iret C E hf dX17_held_51
        · refine v_iload_n C 3 dX17_held_36 rfl rfl ?_
          refine v_iconst (x := 2) C dX17_held_37 (by decide) ?_
          refine v_icmp_ne C hf (tgt := 52) dX17_held_38 (by decide) (fun c38 hf => ?_) (fun c38 hf => ?_)
          · refine v_iload_n C 3 dX17_held_52 rfl rfl ?_
            refine v_if_ne C hf (tgt := 63) dX17_held_53 (by decide) (fun c53 hf => ?_) (fun c53 hf => ?_)
            · refine v_aload_n C 0 dX17_held_63 rfl rfl ?_
              refine v_iload_n C 1 dX17_held_64 rfl rfl ?_
              refine v_iload_n C 2 dX17_held_65 rfl rfl ?_
              refine v_callV (stk := fun _ => []) C (ct_X17_builds _ a0 i1 i2) rfl ⟨rfl, nd_X17_builds⟩ rfl (Nat.le_of_ble_eq_true rfl) (Nat.le_of_ble_eq_true rfl) [] (Nat.le_of_ble_eq_true rfl) (fun _ => rfl) rfl q2147 q2149 qs72 q127 q2150 hf hl dX17_held_66 (fun x9 h10 hf => ?_)
              refine v_iload_n C 3 dX17_held_69 rfl rfl ?_
              refine v_iconst (x := 1) C dX17_held_70 (by decide) ?_
              refine v_icmp_ne C hf (tgt := 83) dX17_held_71 (by decide) (fun c71 hf => ?_) (fun c71 hf => ?_)
              · refine v_aload_n C 0 dX17_held_83 rfl rfl ?_
                refine v_iload_n C 1 dX17_held_84 rfl rfl ?_
                refine v_callV (stk := fun _ => []) C (ct_X17_imagesOf _ a0 i1) rfl ⟨rfl, nd_X17_imagesOf⟩ rfl (Nat.le_of_ble_eq_true rfl) (Nat.le_of_ble_eq_true rfl) [] (Nat.le_of_ble_eq_true rfl) (fun _ => rfl) rfl q2210 q2212 qs87 q127 q2213 hf hl dX17_held_85 (fun x11 h12 hf => ?_)
                refine v_aload_n C 0 dX17_held_88 rfl rfl ?_
                refine v_callV (stk := fun _ => []) C (ct_X17_unmarks _ a0) rfl ⟨rfl, nd_X17_unmarks⟩ rfl (Nat.le_of_ble_eq_true rfl) (Nat.le_of_ble_eq_true rfl) [] (Nat.le_of_ble_eq_true rfl) (fun _ => rfl) rfl q2191 q2193 qs83 q127 q2194 hf hl dX17_held_89 (fun x13 h14 hf => ?_)
                refine v_aload_n C 0 dX17_held_92 rfl rfl ?_
                refine v_iconst (x := 0) C dX17_held_93 (by decide) ?_
                refine v_callV (stk := fun b => .int b :: []) C (ct_X17_manyFrom _ a0 (0 : Int32)) rfl ⟨rfl, nd_X17_manyFrom⟩ rfl (Nat.le_of_ble_eq_true rfl) (Nat.le_of_ble_eq_true rfl) [] (Nat.le_of_ble_eq_true rfl) (fun _ => rfl) rfl q2175 q2177 qs79 q127 q2178 hf hl dX17_held_94 (fun x15 h16 hf => ?_)
                refine v_aload_n C 0 dX17_held_97 rfl rfl ?_
                refine v_aload_n C 0 dX17_held_98 rfl rfl ?_
                refine v_iload_n C 2 dX17_held_99 rfl rfl ?_
                refine v_callV (stk := fun b => .int b :: [.ref a0, .int x15]) C (ct_X17_numberOf _ a0 i2) rfl ⟨rfl, nd_X17_numberOf⟩ rfl (Nat.le_of_ble_eq_true rfl) (Nat.le_of_ble_eq_true rfl) [.ref a0, .int x15] (Nat.le_of_ble_eq_true rfl) (fun _ => rfl) rfl q1924 q1926 qs37 q127 q1927 hf hl dX17_held_100 (fun x17 h18 hf => ?_)
                refine v_callV (stk := fun b => .int b :: [.int x15]) C (ct_X17_spreads _ a0 x17) rfl ⟨rfl, nd_X17_spreads⟩ rfl (Nat.le_of_ble_eq_true rfl) (Nat.le_of_ble_eq_true rfl) [.int x15] (Nat.le_of_ble_eq_true rfl) (fun _ => rfl) rfl q2214 q2216 qs88 q127 q2217 hf hl dX17_held_103 (fun x19 h20 hf => ?_)
                refine v_idiv C hf dX17_held_106 (fun x21 hf => ?_)
                exact v_iret C E hf dX17_held_107
              · refine v_aload_n C 0 dX17_held_74 rfl rfl ?_
                refine v_iload_n C 2 dX17_held_75 rfl rfl ?_
                refine v_callS (stk := fun b => .int b :: [.ref a0]) C (ct_X17_bits _ i2) nd_X17_bits rfl (Nat.le_of_ble_eq_true rfl) (Nat.le_of_ble_eq_true rfl) [.ref a0] (Nat.le_of_ble_eq_true rfl) (fun _ => rfl) rfl q1801 q1802 q127 q1803 hf hl dX17_held_76 (fun x22 h23 hf => ?_)
                refine v_callV (stk := fun b => .int b :: []) C (ct_X17_manyFrom _ a0 x22) rfl ⟨rfl, nd_X17_manyFrom⟩ rfl (Nat.le_of_ble_eq_true rfl) (Nat.le_of_ble_eq_true rfl) [] (Nat.le_of_ble_eq_true rfl) (fun _ => rfl) rfl q2175 q2177 qs79 q127 q2178 hf hl dX17_held_79 (fun x24 h25 hf => ?_)
                exact v_iret C E hf dX17_held_82
            · refine v_aload_n C 0 dX17_held_56 rfl rfl ?_
              refine v_iload_n C 1 dX17_held_57 rfl rfl ?_
              refine v_iload_n C 2 dX17_held_58 rfl rfl ?_
              refine v_callV (stk := fun b => .int b :: []) C (ct_X17_reaches _ a0 i1 i2) rfl ⟨rfl, nd_X17_reaches⟩ rfl (Nat.le_of_ble_eq_true rfl) (Nat.le_of_ble_eq_true rfl) [] (Nat.le_of_ble_eq_true rfl) (fun _ => rfl) rfl q2183 q2185 qs81 q127 q2186 hf hl dX17_held_59 (fun x26 h27 hf => ?_)
              exact v_iret C E hf dX17_held_62
          · refine v_aload_n C 0 dX17_held_41 rfl rfl ?_
            refine v_iload_n C 2 dX17_held_42 rfl rfl ?_
            refine v_callV (stk := fun b => .int b :: []) C (ct_X17_numberOf _ a0 i2) rfl ⟨rfl, nd_X17_numberOf⟩ rfl (Nat.le_of_ble_eq_true rfl) (Nat.le_of_ble_eq_true rfl) [] (Nat.le_of_ble_eq_true rfl) (fun _ => rfl) rfl q1924 q1926 qs37 q127 q1927 hf hl dX17_held_43 (fun x28 h29 hf => ?_)
            refine v_if_ge C hf (tgt := 52) dX17_held_46 (by decide) (fun c46 hf => ?_) (fun c46 hf => ?_)
            · refine v_iload_n C 3 dX17_held_52 rfl rfl ?_
              refine v_if_ne C hf (tgt := 63) dX17_held_53 (by decide) (fun c53 hf => ?_) (fun c53 hf => ?_)
              · refine v_aload_n C 0 dX17_held_63 rfl rfl ?_
                refine v_iload_n C 1 dX17_held_64 rfl rfl ?_
                refine v_iload_n C 2 dX17_held_65 rfl rfl ?_
                refine v_callV (stk := fun _ => []) C (ct_X17_builds _ a0 i1 i2) rfl ⟨rfl, nd_X17_builds⟩ rfl (Nat.le_of_ble_eq_true rfl) (Nat.le_of_ble_eq_true rfl) [] (Nat.le_of_ble_eq_true rfl) (fun _ => rfl) rfl q2147 q2149 qs72 q127 q2150 hf hl dX17_held_66 (fun x30 h31 hf => ?_)
                refine v_iload_n C 3 dX17_held_69 rfl rfl ?_
                refine v_iconst (x := 1) C dX17_held_70 (by decide) ?_
                refine v_icmp_ne C hf (tgt := 83) dX17_held_71 (by decide) (fun c71 hf => ?_) (fun c71 hf => ?_)
                · refine v_aload_n C 0 dX17_held_83 rfl rfl ?_
                  refine v_iload_n C 1 dX17_held_84 rfl rfl ?_
                  refine v_callV (stk := fun _ => []) C (ct_X17_imagesOf _ a0 i1) rfl ⟨rfl, nd_X17_imagesOf⟩ rfl (Nat.le_of_ble_eq_true rfl) (Nat.le_of_ble_eq_true rfl) [] (Nat.le_of_ble_eq_true rfl) (fun _ => rfl) rfl q2210 q2212 qs87 q127 q2213 hf hl dX17_held_85 (fun x32 h33 hf => ?_)
                  refine v_aload_n C 0 dX17_held_88 rfl rfl ?_
                  refine v_callV (stk := fun _ => []) C (ct_X17_unmarks _ a0) rfl ⟨rfl, nd_X17_unmarks⟩ rfl (Nat.le_of_ble_eq_true rfl) (Nat.le_of_ble_eq_true rfl) [] (Nat.le_of_ble_eq_true rfl) (fun _ => rfl) rfl q2191 q2193 qs83 q127 q2194 hf hl dX17_held_89 (fun x34 h35 hf => ?_)
                  refine v_aload_n C 0 dX17_held_92 rfl rfl ?_
                  refine v_iconst (x := 0) C dX17_held_93 (by decide) ?_
                  refine v_callV (stk := fun b => .int b :: []) C (ct_X17_manyFrom _ a0 (0 : Int32)) rfl ⟨rfl, nd_X17_manyFrom⟩ rfl (Nat.le_of_ble_eq_true rfl) (Nat.le_of_ble_eq_true rfl) [] (Nat.le_of_ble_eq_true rfl) (fun _ => rfl) rfl q2175 q2177 qs79 q127 q2178 hf hl dX17_held_94 (fun x36 h37 hf => ?_)
                  refine v_aload_n C 0 dX17_held_97 rfl rfl ?_
                  refine v_aload_n C 0 dX17_held_98 rfl rfl ?_
                  refine v_iload_n C 2 dX17_held_99 rfl rfl ?_
                  refine v_callV (stk := fun b => .int b :: [.ref a0, .int x36]) C (ct_X17_numberOf _ a0 i2) rfl ⟨rfl, nd_X17_numberOf⟩ rfl (Nat.le_of_ble_eq_true rfl) (Nat.le_of_ble_eq_true rfl) [.ref a0, .int x36] (Nat.le_of_ble_eq_true rfl) (fun _ => rfl) rfl q1924 q1926 qs37 q127 q1927 hf hl dX17_held_100 (fun x38 h39 hf => ?_)
                  refine v_callV (stk := fun b => .int b :: [.int x36]) C (ct_X17_spreads _ a0 x38) rfl ⟨rfl, nd_X17_spreads⟩ rfl (Nat.le_of_ble_eq_true rfl) (Nat.le_of_ble_eq_true rfl) [.int x36] (Nat.le_of_ble_eq_true rfl) (fun _ => rfl) rfl q2214 q2216 qs88 q127 q2217 hf hl dX17_held_103 (fun x40 h41 hf => ?_)
                  refine v_idiv C hf dX17_held_106 (fun x42 hf => ?_)
                  exact v_iret C E hf dX17_held_107
                · refine v_aload_n C 0 dX17_held_74 rfl rfl ?_
                  refine v_iload_n C 2 dX17_held_75 rfl rfl ?_
                  refine v_callS (stk := fun b => .int b :: [.ref a0]) C (ct_X17_bits _ i2) nd_X17_bits rfl (Nat.le_of_ble_eq_true rfl) (Nat.le_of_ble_eq_true rfl) [.ref a0] (Nat.le_of_ble_eq_true rfl) (fun _ => rfl) rfl q1801 q1802 q127 q1803 hf hl dX17_held_76 (fun x43 h44 hf => ?_)
                  refine v_callV (stk := fun b => .int b :: []) C (ct_X17_manyFrom _ a0 x43) rfl ⟨rfl, nd_X17_manyFrom⟩ rfl (Nat.le_of_ble_eq_true rfl) (Nat.le_of_ble_eq_true rfl) [] (Nat.le_of_ble_eq_true rfl) (fun _ => rfl) rfl q2175 q2177 qs79 q127 q2178 hf hl dX17_held_79 (fun x45 h46 hf => ?_)
                  exact v_iret C E hf dX17_held_82
              · refine v_aload_n C 0 dX17_held_56 rfl rfl ?_
                refine v_iload_n C 1 dX17_held_57 rfl rfl ?_
                refine v_iload_n C 2 dX17_held_58 rfl rfl ?_
                refine v_callV (stk := fun b => .int b :: []) C (ct_X17_reaches _ a0 i1 i2) rfl ⟨rfl, nd_X17_reaches⟩ rfl (Nat.le_of_ble_eq_true rfl) (Nat.le_of_ble_eq_true rfl) [] (Nat.le_of_ble_eq_true rfl) (fun _ => rfl) rfl q2183 q2185 qs81 q127 q2186 hf hl dX17_held_59 (fun x47 h48 hf => ?_)
                exact v_iret C E hf dX17_held_62
            · refine v_bipush (x := (-2)) C dX17_held_49 (by decide) ?_
              exact v_iret C E hf dX17_held_51
      · refine v_iconst (x := (-1)) C dX17_held_26 (by decide) ?_
        exact v_iret C E hf dX17_held_27
def l_X17_holds_35 (a0 : Nat) (i2 : Int32) : Nat → Int32 → hM (Unit)
  | 0, _ => mfail
  | n + 1, i3 => mi ((24 : Int32) ≤ i3) (mret ()) (mb (gR a0 15 20) fun x9 => mb (mat a0 15 (f_X17_to a0 i2 i3)) fun x10 => mb (sI 1 x9 i3 x10) fun _ => l_X17_holds_35 a0 i2 n (i3 + (1 : Int32)))
def f_X17_holds (a0 : Nat) (i1 : Int32) (i2 : Int32) : hM Int32 :=
  mb (f_X17_isGroup i1) fun x1 => mi (x1 = 0) (mret (-1 : Int32)) (mb (f_X17_isMove i2) fun x3 => mi (¬ x3 = 0) (mb (mat a0 15 (f_X17_allKeep a0 i1)) fun x5 => mi (¬ x5 = 0) (mb (mat a0 15 (f_X17_builds a0 i1 (0 : Int32))) fun _ => mb (l_X17_holds_35 a0 i2 FU (0 : Int32)) fun x13 => mb (mat a0 15 (f_X17_sifts a0)) fun x15 => mb (mi (0 ≤ x15) (mret (0 : Int32)) (mret (1 : Int32))) fun x17 => mret x17) (mret (-2 : Int32))) (mret (-1 : Int32)))
theorem nd_X17_holds : yX17_holds.cls ≠ "java/lang/invoke/MethodHandle" ∧ yX17_holds.cls ≠ "java/lang/invoke/VarHandle" ∧ (parseMethodDescriptor yX17_holds.desc).map (fun d => d.parameters.length) = some 2 := by decide +kernel
set_option maxHeartbeats 4000000 in
theorem ct_X17_holds (l : Launch) (a0 : Nat) (i1 : Int32) (i2 : Int32) : CT l yX17_holds cX17_holds 4 (some .int) 5 114 rvI [.ref a0, .int i1, .int i2] (f_X17_holds a0 i1 i2) := by
  refine CT_of (ls := [(0, .ref a0), (1, .int i1), (2, .int i2)]) (by decide) (Nat.le_of_ble_eq_true rfl) rfl ?_
  intro X h he z hX hf C E hnm hh
  have hl := hle.rf he
  subst hX
  have L35 : ∀ (a0 : Nat) (i2 : Int32) (n : Nat) (i3 : Int32) (h h1 : Hp) (o : Unit), (l_X17_holds_35 a0 i2 n i3).1 h = some (o, h1) → hle h1 he → V X h1 59 [(0, .ref a0)] [] → V X h 35 [(0, .ref a0), (2, .int i2), (3, .int i3)] [] := by
    intro a0 i2 n
    induction n with
    | zero => intro i3 h h1 o hf; exact mfail_inv hf
    | succ n ih =>
      intro i3 h h1 o hf hl J
      rw [l_X17_holds_35] at hf
      refine v_iload_n C 2 dX17_holds_35 rfl rfl ?_
      refine v_bipush (x := 24) C dX17_holds_36 (by decide) ?_
      refine v_icmp_ge C hf (tgt := 59) dX17_holds_38 (by decide) (fun c38 hf => ?_) (fun c38 hf => ?_)
      · obtain ⟨e1, rfl⟩ := mret_inv hf
        subst e1
        exact v_sub (ls' := _) [0] rfl J
      · refine v_aload_n C 0 dX17_holds_41 rfl rfl ?_
        refine v_gR (Cn := RX17) (T := TX17) (N := 37) C hf in_X17 rfl (by decide) q1824 rfl dX17_holds_42 (fun x9 hf => ?_)
        refine v_iload_n C 2 dX17_holds_45 rfl rfl ?_
        refine v_aload_n C 0 dX17_holds_46 rfl rfl ?_
        refine v_iload_n C 1 dX17_holds_47 rfl rfl ?_
        refine v_iload_n C 2 dX17_holds_48 rfl rfl ?_
        refine v_callV (stk := fun b => .int b :: [.int i3, .ref x9]) C (ct_X17_to _ a0 i2 i3) rfl ⟨rfl, nd_X17_to⟩ rfl (Nat.le_of_ble_eq_true rfl) (Nat.le_of_ble_eq_true rfl) [.int i3, .ref x9] (Nat.le_of_ble_eq_true rfl) (fun _ => rfl) rfl q1997 q1999 qs45 q127 q2000 hf hl dX17_holds_49 (fun x10 h11 hf => ?_)
        refine v_iastore C hf dX17_holds_52 (fun h12 hf => ?_)
        refine v_iinc (ls' := [(3, _), (0, _), (2, _)]) (y := i3 + (1 : Int32)) C 2 dX17_holds_53 rfl rfl (by decide) rfl ?_
        refine v_goto (tgt := 35) C dX17_holds_56 (by decide) ?_
        refine v_sub (ls' := _) [1, 2, 0] rfl (ih (i3 + (1 : Int32)) _ _ _ hf hl J)
  unfold f_X17_holds at hf
  refine v_iload_n C 1 dX17_holds_0 rfl rfl ?_
  refine v_callS (stk := fun b => .int b :: []) C (ct_X17_isGroup _ i1) nd_X17_isGroup rfl (Nat.le_of_ble_eq_true rfl) (Nat.le_of_ble_eq_true rfl) [] (Nat.le_of_ble_eq_true rfl) (fun _ => rfl) rfl q2139 q2140 q127 q2141 hf hl dX17_holds_1 (fun x1 h2 hf => ?_)
  refine v_if_eq C hf (tgt := 14) dX17_holds_4 (by decide) (fun c4 hf => ?_) (fun c4 hf => ?_)
  · refine v_iconst (x := (-1)) C dX17_holds_14 (by decide) ?_
    exact v_iret C E hf dX17_holds_15
  · refine v_iload_n C 2 dX17_holds_7 rfl rfl ?_
    refine v_callS (stk := fun b => .int b :: []) C (ct_X17_isMove _ i2) nd_X17_isMove rfl (Nat.le_of_ble_eq_true rfl) (Nat.le_of_ble_eq_true rfl) [] (Nat.le_of_ble_eq_true rfl) (fun _ => rfl) rfl q1989 q1990 q127 q1991 hf hl dX17_holds_8 (fun x3 h4 hf => ?_)
    refine v_if_ne C hf (tgt := 16) dX17_holds_11 (by decide) (fun c11 hf => ?_) (fun c11 hf => ?_)
    · refine v_aload_n C 0 dX17_holds_16 rfl rfl ?_
      refine v_iload_n C 1 dX17_holds_17 rfl rfl ?_
      refine v_callV (stk := fun b => .int b :: []) C (ct_X17_allKeep _ a0 i1) rfl ⟨rfl, nd_X17_allKeep⟩ rfl (Nat.le_of_ble_eq_true rfl) (Nat.le_of_ble_eq_true rfl) [] (Nat.le_of_ble_eq_true rfl) (fun _ => rfl) rfl q2143 q2145 qs71 q127 q2146 hf hl dX17_holds_18 (fun x5 h6 hf => ?_)
      refine v_if_ne C hf (tgt := 27) dX17_holds_21 (by decide) (fun c21 hf => ?_) (fun c21 hf => ?_)
      · refine v_aload_n C 0 dX17_holds_27 rfl rfl ?_
        refine v_iload_n C 1 dX17_holds_28 rfl rfl ?_
        refine v_iconst (x := 0) C dX17_holds_29 (by decide) ?_
        refine v_callV (stk := fun _ => []) C (ct_X17_builds _ a0 i1 (0 : Int32)) rfl ⟨rfl, nd_X17_builds⟩ rfl (Nat.le_of_ble_eq_true rfl) (Nat.le_of_ble_eq_true rfl) [] (Nat.le_of_ble_eq_true rfl) (fun _ => rfl) rfl q2147 q2149 qs72 q127 q2150 hf hl dX17_holds_30 (fun x7 h8 hf => ?_)
        refine v_iconst (x := 0) C dX17_holds_33 (by decide) ?_
        refine v_istore_n (ls' := [(3, _), (0, _), (1, _), (2, _)]) C dX17_holds_34 rfl (by decide) rfl ?_
        obtain ⟨x13, h14, eh14, hf, hlh14⟩ := mb_inv hf hl
        refine v_sub (ls' := _) [1, 3, 0] rfl (L35 a0 i2 FU (0 : Int32) _ _ _ eh14 hlh14 ?_)
        refine v_aload_n C 0 dX17_holds_59 rfl rfl ?_
        refine v_callV (stk := fun b => .int b :: []) C (ct_X17_sifts _ a0) rfl ⟨rfl, nd_X17_sifts⟩ rfl (Nat.le_of_ble_eq_true rfl) (Nat.le_of_ble_eq_true rfl) [] (Nat.le_of_ble_eq_true rfl) (fun _ => rfl) rfl q2163 q2165 qs76 q127 q2166 hf hl dX17_holds_60 (fun x15 h16 hf => ?_)
        obtain ⟨x17, h18, hAh18, hf, hlh18⟩ := mb_inv hf hl
        refine v_cut (h1 := h18) (pc1 := 71) (ls1 := []) (st1 := [.int x17]) ?_ (fun Jh18 => ?_)
        · clear hAh18 hlh18
          exact v_iret C E hf dX17_holds_71
        · clear hf
          have hf := hAh18
          have hl := hlh18
          refine v_if_ge C hf (tgt := 70) dX17_holds_63 (by decide) (fun c63 hf => ?_) (fun c63 hf => ?_)
          · refine v_iconst (x := 0) C dX17_holds_70 (by decide) ?_
            obtain ⟨e1, rfl⟩ := mret_inv hf
            subst e1
            exact v_sub (ls' := _) [] rfl Jh18
          · refine v_iconst (x := 1) C dX17_holds_66 (by decide) ?_
            refine v_goto (tgt := 71) C dX17_holds_67 (by decide) ?_
            obtain ⟨e1, rfl⟩ := mret_inv hf
            subst e1
            exact v_sub (ls' := _) [] rfl Jh18
      · refine v_bipush (x := (-2)) C dX17_holds_24 (by decide) ?_
        exact v_iret C E hf dX17_holds_26
    · refine v_iconst (x := (-1)) C dX17_holds_14 (by decide) ?_
      exact v_iret C E hf dX17_holds_15
def l_X17_retrace_73 (a0 : Nat) (i1 : Int32) (i2 : Int32) (i4 : Int32) (i5 : Int32) : Nat → Int32 → Int32 → hM (Int32)
  | 0, _, _ => mfail
  | n + 1, i7, i8 => mi (((2 : Int32) * i5) ≤ i8) (mret i7) (mb (mi (i7 = 0) (mret (0 : Int32)) (mb (gR a0 15 34) fun x15 => mb (aL 5 x15 ((((32 : Int32) * i2) + i4) + i8)) fun x16 => mb (f_X17_isPlace x16) fun x17 => mi (x17 = 0) (mret (0 : Int32)) (mret (1 : Int32)))) fun x13 => l_X17_retrace_73 a0 i1 i2 i4 i5 n x13 (i8 + (1 : Int32)))
def l_X17_retrace_175 (a0 : Nat) (i8 : Int32) : Nat → Int32 → hM (Unit)
  | 0, _ => mfail
  | n + 1, i9 => mi ((24 : Int32) ≤ i9) (mret ()) (mb (gR a0 15 0) fun x29 => mb (gR a0 15 20) fun x30 => mb (aI 1 x30 i9) fun x31 => mb (sI 1 x29 ((96 : Int32) + i9) x31) fun _ => l_X17_retrace_175 a0 i8 n (i9 + (1 : Int32)))
def f_X17_retrace (a0 : Nat) (i1 : Int32) (i2 : Int32) (i3 : Int32) (i4 : Int32) (i5 : Int32) : hM Int32 :=
  mb (f_X17_isGroup i1) fun x1 => mi (x1 = 0) (mret (-1 : Int32)) (mb (f_X17_isSheet i2) fun x3 => mi (x3 = 0) (mret (-1 : Int32)) (mb (f_X17_in i3.toInt64 (0 : Int64) (3 : Int64)) fun x5 => mi (x5 = 0) (mret (-1 : Int32)) (mb (f_X17_in i5.toInt64 (1 : Int64) (8 : Int64)) fun x7 => mi (¬ x7 = 0) (mb (mat a0 15 (f_X17_why a0 i2 i3 i4 ((2 : Int32) * i5))) fun x9 => mi (0 ≤ x9) (mb (mat a0 15 (f_X17_allKeep a0 i1)) fun x11 => mb (l_X17_retrace_73 a0 i1 i2 i4 i5 FU x11 (0 : Int32)) fun x19 => mi (¬ x19 = 0) (mb (mat a0 15 (f_X17_wants a0 (((32 : Int32) * i2) + i4) i5)) fun x21 => mi (0 ≤ x21) (mb (mat a0 15 (f_X17_builds a0 i1 x21)) fun _ => mb (f_X17_bits x21) fun x25 => mb (mat a0 15 (f_X17_finds a0 x25)) fun x27 => mi (¬ x27 = 0) (mb (l_X17_retrace_175 a0 x21 FU (0 : Int32)) fun x33 => mb (f_X17_bits x21) fun x35 => mb (mat a0 15 (f_X17_manyFrom a0 x35)) fun x37 => mret x37) (mret (0 : Int32))) (mret (0 : Int32))) (mret (-2 : Int32))) (mret x9)) (mret (-1 : Int32)))))
theorem nd_X17_retrace : yX17_retrace.cls ≠ "java/lang/invoke/MethodHandle" ∧ yX17_retrace.cls ≠ "java/lang/invoke/VarHandle" ∧ (parseMethodDescriptor yX17_retrace.desc).map (fun d => d.parameters.length) = some 5 := by decide +kernel
set_option maxHeartbeats 4000000 in
theorem ct_X17_retrace (l : Launch) (a0 : Nat) (i1 : Int32) (i2 : Int32) (i3 : Int32) (i4 : Int32) (i5 : Int32) : CT l yX17_retrace cX17_retrace 10 (some .int) 5 114 rvI [.ref a0, .int i1, .int i2, .int i3, .int i4, .int i5] (f_X17_retrace a0 i1 i2 i3 i4 i5) := by
  refine CT_of (ls := [(0, .ref a0), (1, .int i1), (2, .int i2), (3, .int i3), (4, .int i4), (5, .int i5)]) (by decide) (Nat.le_of_ble_eq_true rfl) rfl ?_
  intro X h he z hX hf C E hnm hh
  have hl := hle.rf he
  subst hX
  have L73 : ∀ (a0 : Nat) (i1 : Int32) (i2 : Int32) (i4 : Int32) (i5 : Int32) (n : Nat) (i7 : Int32) (i8 : Int32) (h h1 : Hp) (o : Int32), (l_X17_retrace_73 a0 i1 i2 i4 i5 n i7 i8).1 h = some (o, h1) → hle h1 he → V X h1 121 [(0, .ref a0), (1, .int i1), (2, .int i2), (4, .int i4), (5, .int i5), (7, .int o)] [] → V X h 73 [(0, .ref a0), (1, .int i1), (2, .int i2), (4, .int i4), (5, .int i5), (7, .int i7), (8, .int i8)] [] := by
    intro a0 i1 i2 i4 i5 n
    induction n with
    | zero => intro i7 i8 h h1 o hf; exact mfail_inv hf
    | succ n ih =>
      intro i7 i8 h h1 o hf hl J
      rw [l_X17_retrace_73] at hf
      refine v_iload C 6 dX17_retrace_73 rfl ?_
      refine v_iconst (x := 2) C dX17_retrace_75 (by decide) ?_
      refine v_iload C 4 dX17_retrace_76 rfl ?_
      refine v_imul C dX17_retrace_78 ?_
      refine v_icmp_ge C hf (tgt := 121) dX17_retrace_79 (by decide) (fun c79 hf => ?_) (fun c79 hf => ?_)
      · obtain ⟨e1, rfl⟩ := mret_inv hf
        subst e1
        exact v_sub (ls' := _) [0, 1, 2, 3, 4, 5] rfl J
      · refine v_iload C 5 dX17_retrace_82 rfl ?_
        obtain ⟨x13, h14, hAh14, hf, hlh14⟩ := mb_inv hf hl
        refine v_cut (h1 := h14) (pc1 := 113) (ls1 := [(0, .ref a0), (1, .int i1), (2, .int i2), (4, .int i4), (5, .int i5), (8, .int i8)]) (st1 := [.int x13]) ?_ (fun Jh14 => ?_)
        · clear hAh14 hlh14
          refine v_istore (ls' := [(7, _), (0, _), (1, _), (2, _), (4, _), (5, _), (8, _)]) C dX17_retrace_113 (by decide) rfl ?_
          refine v_iinc (ls' := [(8, _), (7, _), (0, _), (1, _), (2, _), (4, _), (5, _)]) (y := i8 + (1 : Int32)) C 6 dX17_retrace_115 rfl rfl (by decide) rfl ?_
          refine v_goto (tgt := 73) C dX17_retrace_118 (by decide) ?_
          refine v_sub (ls' := _) [2, 3, 4, 5, 6, 1, 0] rfl (ih x13 (i8 + (1 : Int32)) _ _ _ hf hl J)
        · clear hf
          have hf := hAh14
          have hl := hlh14
          refine v_if_eq C hf (tgt := 112) dX17_retrace_84 (by decide) (fun c84 hf => ?_) (fun c84 hf => ?_)
          · refine v_iconst (x := 0) C dX17_retrace_112 (by decide) ?_
            obtain ⟨e1, rfl⟩ := mret_inv hf
            subst e1
            exact v_sub (ls' := _) [0, 1, 2, 3, 4, 6] rfl Jh14
          · refine v_aload_n C 0 dX17_retrace_87 rfl rfl ?_
            refine v_gR (Cn := RX17) (T := TX17) (N := 37) C hf in_X17 rfl (by decide) q1838 rfl dX17_retrace_88 (fun x15 hf => ?_)
            refine v_bipush (x := 32) C dX17_retrace_91 (by decide) ?_
            refine v_iload_n C 2 dX17_retrace_93 rfl rfl ?_
            refine v_imul C dX17_retrace_94 ?_
            refine v_iload C 3 dX17_retrace_95 rfl ?_
            refine v_iadd C dX17_retrace_97 ?_
            refine v_iload C 6 dX17_retrace_98 rfl ?_
            refine v_iadd C dX17_retrace_100 ?_
            refine v_laload C hf dX17_retrace_101 (fun x16 hf => ?_)
            refine v_callS (stk := fun b => .int b :: []) C (ct_X17_isPlace _ x16) nd_X17_isPlace rfl (Nat.le_of_ble_eq_true rfl) (Nat.le_of_ble_eq_true rfl) [] (Nat.le_of_ble_eq_true rfl) (fun _ => rfl) rfl q1993 q1994 q127 q1995 hf hl dX17_retrace_102 (fun x17 h18 hf => ?_)
            refine v_if_eq C hf (tgt := 112) dX17_retrace_105 (by decide) (fun c105 hf => ?_) (fun c105 hf => ?_)
            · refine v_iconst (x := 0) C dX17_retrace_112 (by decide) ?_
              obtain ⟨e1, rfl⟩ := mret_inv hf
              subst e1
              exact v_sub (ls' := _) [0, 1, 2, 3, 4, 6] rfl Jh14
            · refine v_iconst (x := 1) C dX17_retrace_108 (by decide) ?_
              refine v_goto (tgt := 113) C dX17_retrace_109 (by decide) ?_
              obtain ⟨e1, rfl⟩ := mret_inv hf
              subst e1
              exact v_sub (ls' := _) [0, 1, 2, 3, 4, 6] rfl Jh14
  have L175 : ∀ (a0 : Nat) (i8 : Int32) (n : Nat) (i9 : Int32) (h h1 : Hp) (o : Unit), (l_X17_retrace_175 a0 i8 n i9).1 h = some (o, h1) → hle h1 he → V X h1 205 [(0, .ref a0), (8, .int i8)] [] → V X h 175 [(0, .ref a0), (8, .int i8), (9, .int i9)] [] := by
    intro a0 i8 n
    induction n with
    | zero => intro i9 h h1 o hf; exact mfail_inv hf
    | succ n ih =>
      intro i9 h h1 o hf hl J
      rw [l_X17_retrace_175] at hf
      refine v_iload C 2 dX17_retrace_175 rfl ?_
      refine v_bipush (x := 24) C dX17_retrace_177 (by decide) ?_
      refine v_icmp_ge C hf (tgt := 205) dX17_retrace_179 (by decide) (fun c179 hf => ?_) (fun c179 hf => ?_)
      · obtain ⟨e1, rfl⟩ := mret_inv hf
        subst e1
        exact v_sub (ls' := _) [0, 1] rfl J
      · refine v_aload_n C 0 dX17_retrace_182 rfl rfl ?_
        refine v_gR (Cn := RX17) (T := TX17) (N := 37) C hf in_X17 rfl (by decide) q1804 rfl dX17_retrace_183 (fun x29 hf => ?_)
        refine v_bipush (x := 96) C dX17_retrace_186 (by decide) ?_
        refine v_iload C 2 dX17_retrace_188 rfl ?_
        refine v_iadd C dX17_retrace_190 ?_
        refine v_aload_n C 0 dX17_retrace_191 rfl rfl ?_
        refine v_gR (Cn := RX17) (T := TX17) (N := 37) C hf in_X17 rfl (by decide) q1824 rfl dX17_retrace_192 (fun x30 hf => ?_)
        refine v_iload C 2 dX17_retrace_195 rfl ?_
        refine v_iaload C hf dX17_retrace_197 (fun x31 hf => ?_)
        refine v_iastore C hf dX17_retrace_198 (fun h32 hf => ?_)
        refine v_iinc (ls' := [(9, _), (0, _), (8, _)]) (y := i9 + (1 : Int32)) C 2 dX17_retrace_199 rfl rfl (by decide) rfl ?_
        refine v_goto (tgt := 175) C dX17_retrace_202 (by decide) ?_
        refine v_sub (ls' := _) [1, 2, 0] rfl (ih (i9 + (1 : Int32)) _ _ _ hf hl J)
  unfold f_X17_retrace at hf
  refine v_iload_n C 1 dX17_retrace_0 rfl rfl ?_
  refine v_callS (stk := fun b => .int b :: []) C (ct_X17_isGroup _ i1) nd_X17_isGroup rfl (Nat.le_of_ble_eq_true rfl) (Nat.le_of_ble_eq_true rfl) [] (Nat.le_of_ble_eq_true rfl) (fun _ => rfl) rfl q2139 q2140 q127 q2141 hf hl dX17_retrace_1 (fun x1 h2 hf => ?_)
  refine v_if_eq C hf (tgt := 39) dX17_retrace_4 (by decide) (fun c4 hf => ?_) (fun c4 hf => ?_)
  · refine v_iconst (x := (-1)) C dX17_retrace_39 (by decide) ?_
    exact v_iret C E hf dX17_retrace_40
  · refine v_iload_n C 2 dX17_retrace_7 rfl rfl ?_
    refine v_callS (stk := fun b => .int b :: []) C (ct_X17_isSheet _ i2) nd_X17_isSheet rfl (Nat.le_of_ble_eq_true rfl) (Nat.le_of_ble_eq_true rfl) [] (Nat.le_of_ble_eq_true rfl) (fun _ => rfl) rfl q2284 q2285 q127 q2286 hf hl dX17_retrace_8 (fun x3 h4 hf => ?_)
    refine v_if_eq C hf (tgt := 39) dX17_retrace_11 (by decide) (fun c11 hf => ?_) (fun c11 hf => ?_)
    · refine v_iconst (x := (-1)) C dX17_retrace_39 (by decide) ?_
      exact v_iret C E hf dX17_retrace_40
    · refine v_iload_n C 3 dX17_retrace_14 rfl rfl ?_
      refine v_i2l C dX17_retrace_15 ?_
      refine v_lconst (x := 0) C dX17_retrace_16 (by decide) ?_
      refine v_ldc2 (x := 3) C q2067 dX17_retrace_17 ?_
      refine v_callS (stk := fun b => .int b :: []) C (ct_X17_in _ i3.toInt64 (0 : Int64) (3 : Int64)) nd_X17_in rfl (Nat.le_of_ble_eq_true rfl) (Nat.le_of_ble_eq_true rfl) [] (Nat.le_of_ble_eq_true rfl) (fun _ => rfl) rfl q1779 q1780 q127 q1781 hf hl dX17_retrace_20 (fun x5 h6 hf => ?_)
      refine v_if_eq C hf (tgt := 39) dX17_retrace_23 (by decide) (fun c23 hf => ?_) (fun c23 hf => ?_)
      · refine v_iconst (x := (-1)) C dX17_retrace_39 (by decide) ?_
        exact v_iret C E hf dX17_retrace_40
      · refine v_iload C 5 dX17_retrace_26 rfl ?_
        refine v_i2l C dX17_retrace_28 ?_
        refine v_lconst (x := 1) C dX17_retrace_29 (by decide) ?_
        refine v_ldc2 (x := 8) C q1984 dX17_retrace_30 ?_
        refine v_callS (stk := fun b => .int b :: []) C (ct_X17_in _ i5.toInt64 (1 : Int64) (8 : Int64)) nd_X17_in rfl (Nat.le_of_ble_eq_true rfl) (Nat.le_of_ble_eq_true rfl) [] (Nat.le_of_ble_eq_true rfl) (fun _ => rfl) rfl q1779 q1780 q127 q1781 hf hl dX17_retrace_33 (fun x7 h8 hf => ?_)
        refine v_if_ne C hf (tgt := 41) dX17_retrace_36 (by decide) (fun c36 hf => ?_) (fun c36 hf => ?_)
        · refine v_aload_n C 0 dX17_retrace_41 rfl rfl ?_
          refine v_iload_n C 2 dX17_retrace_42 rfl rfl ?_
          refine v_iload_n C 3 dX17_retrace_43 rfl rfl ?_
          refine v_iload C 4 dX17_retrace_44 rfl ?_
          refine v_iconst (x := 2) C dX17_retrace_46 (by decide) ?_
          refine v_iload C 5 dX17_retrace_47 rfl ?_
          refine v_imul C dX17_retrace_49 ?_
          refine v_callV (stk := fun b => .int b :: []) C (ct_X17_why _ a0 i2 i3 i4 ((2 : Int32) * i5)) rfl ⟨rfl, nd_X17_why⟩ rfl (Nat.le_of_ble_eq_true rfl) (Nat.le_of_ble_eq_true rfl) [] (Nat.le_of_ble_eq_true rfl) (fun _ => rfl) rfl q2295 q2297 qs91 q127 q2298 hf hl dX17_retrace_50 (fun x9 h10 hf => ?_)
          refine v_istore (ls' := [(6, _), (0, _), (1, _), (2, _), (3, _), (4, _), (5, _)]) C dX17_retrace_53 (by decide) rfl ?_
          refine v_iload C 0 dX17_retrace_55 rfl ?_
          refine v_if_ge C hf (tgt := 63) dX17_retrace_57 (by decide) (fun c57 hf => ?_) (fun c57 hf => ?_)
          · refine v_aload_n C 1 dX17_retrace_63 rfl rfl ?_
            refine v_iload_n C 2 dX17_retrace_64 rfl rfl ?_
            refine v_callV (stk := fun b => .int b :: []) C (ct_X17_allKeep _ a0 i1) rfl ⟨rfl, nd_X17_allKeep⟩ rfl (Nat.le_of_ble_eq_true rfl) (Nat.le_of_ble_eq_true rfl) [] (Nat.le_of_ble_eq_true rfl) (fun _ => rfl) rfl q2143 q2145 qs71 q127 q2146 hf hl dX17_retrace_65 (fun x11 h12 hf => ?_)
            refine v_istore (ls' := [(7, _), (6, _), (0, _), (1, _), (2, _), (3, _), (4, _), (5, _)]) C dX17_retrace_68 (by decide) rfl ?_
            refine v_iconst (x := 0) C dX17_retrace_70 (by decide) ?_
            refine v_istore (ls' := [(8, _), (7, _), (6, _), (0, _), (1, _), (2, _), (3, _), (4, _), (5, _)]) C dX17_retrace_71 (by decide) rfl ?_
            obtain ⟨x19, h20, eh20, hf, hlh20⟩ := mb_inv hf hl
            refine v_sub (ls' := _) [3, 4, 5, 7, 8, 1, 0] rfl (L73 a0 i1 i2 i4 i5 FU x11 (0 : Int32) _ _ _ eh20 hlh20 ?_)
            refine v_iload C 5 dX17_retrace_121 rfl ?_
            refine v_if_ne C hf (tgt := 129) dX17_retrace_123 (by decide) (fun c123 hf => ?_) (fun c123 hf => ?_)
            · refine v_aload_n C 0 dX17_retrace_129 rfl rfl ?_
              refine v_bipush (x := 32) C dX17_retrace_130 (by decide) ?_
              refine v_iload_n C 2 dX17_retrace_132 rfl rfl ?_
              refine v_imul C dX17_retrace_133 ?_
              refine v_iload C 3 dX17_retrace_134 rfl ?_
              refine v_iadd C dX17_retrace_136 ?_
              refine v_iload C 4 dX17_retrace_137 rfl ?_
              refine v_callV (stk := fun b => .int b :: []) C (ct_X17_wants _ a0 (((32 : Int32) * i2) + i4) i5) rfl ⟨rfl, nd_X17_wants⟩ rfl (Nat.le_of_ble_eq_true rfl) (Nat.le_of_ble_eq_true rfl) [] (Nat.le_of_ble_eq_true rfl) (fun _ => rfl) rfl q2314 q2316 qs92 q127 q2317 hf hl dX17_retrace_139 (fun x21 h22 hf => ?_)
              refine v_istore (ls' := [(8, _), (0, _), (1, _), (2, _), (4, _), (5, _), (7, _)]) C dX17_retrace_142 (by decide) rfl ?_
              refine v_iload C 0 dX17_retrace_144 rfl ?_
              refine v_if_ge C hf (tgt := 151) dX17_retrace_146 (by decide) (fun c146 hf => ?_) (fun c146 hf => ?_)
              · refine v_aload_n C 1 dX17_retrace_151 rfl rfl ?_
                refine v_iload_n C 2 dX17_retrace_152 rfl rfl ?_
                refine v_iload C 0 dX17_retrace_153 rfl ?_
                refine v_callV (stk := fun _ => []) C (ct_X17_builds _ a0 i1 x21) rfl ⟨rfl, nd_X17_builds⟩ rfl (Nat.le_of_ble_eq_true rfl) (Nat.le_of_ble_eq_true rfl) [] (Nat.le_of_ble_eq_true rfl) (fun _ => rfl) rfl q2147 q2149 qs72 q127 q2150 hf hl dX17_retrace_155 (fun x23 h24 hf => ?_)
                refine v_aload_n C 1 dX17_retrace_158 rfl rfl ?_
                refine v_iload C 0 dX17_retrace_159 rfl ?_
                refine v_callS (stk := fun b => .int b :: [.ref a0]) C (ct_X17_bits _ x21) nd_X17_bits rfl (Nat.le_of_ble_eq_true rfl) (Nat.le_of_ble_eq_true rfl) [.ref a0] (Nat.le_of_ble_eq_true rfl) (fun _ => rfl) rfl q1801 q1802 q127 q1803 hf hl dX17_retrace_161 (fun x25 h26 hf => ?_)
                refine v_callV (stk := fun b => .int b :: []) C (ct_X17_finds _ a0 x25) rfl ⟨rfl, nd_X17_finds⟩ rfl (Nat.le_of_ble_eq_true rfl) (Nat.le_of_ble_eq_true rfl) [] (Nat.le_of_ble_eq_true rfl) (fun _ => rfl) rfl q2318 q2320 qs93 q127 q2321 hf hl dX17_retrace_164 (fun x27 h28 hf => ?_)
                refine v_if_ne C hf (tgt := 172) dX17_retrace_167 (by decide) (fun c167 hf => ?_) (fun c167 hf => ?_)
                · refine v_iconst (x := 0) C dX17_retrace_172 (by decide) ?_
                  refine v_istore (ls' := [(9, _), (8, _), (0, _), (1, _), (2, _), (4, _), (5, _), (7, _)]) C dX17_retrace_173 (by decide) rfl ?_
                  obtain ⟨x33, h34, eh34, hf, hlh34⟩ := mb_inv hf hl
                  refine v_sub (ls' := _) [2, 1, 0] rfl (L175 a0 x21 FU (0 : Int32) _ _ _ eh34 hlh34 ?_)
                  refine v_aload_n C 0 dX17_retrace_205 rfl rfl ?_
                  refine v_iload C 1 dX17_retrace_206 rfl ?_
                  refine v_callS (stk := fun b => .int b :: [.ref a0]) C (ct_X17_bits _ x21) nd_X17_bits rfl (Nat.le_of_ble_eq_true rfl) (Nat.le_of_ble_eq_true rfl) [.ref a0] (Nat.le_of_ble_eq_true rfl) (fun _ => rfl) rfl q1801 q1802 q127 q1803 hf hl dX17_retrace_208 (fun x35 h36 hf => ?_)
                  refine v_callV (stk := fun b => .int b :: []) C (ct_X17_manyFrom _ a0 x35) rfl ⟨rfl, nd_X17_manyFrom⟩ rfl (Nat.le_of_ble_eq_true rfl) (Nat.le_of_ble_eq_true rfl) [] (Nat.le_of_ble_eq_true rfl) (fun _ => rfl) rfl q2175 q2177 qs79 q127 q2178 hf hl dX17_retrace_211 (fun x37 h38 hf => ?_)
                  exact v_iret C E hf dX17_retrace_214
                · refine v_iconst (x := 0) C dX17_retrace_170 (by decide) ?_
                  exact v_iret C E hf dX17_retrace_171
              · refine v_iconst (x := 0) C dX17_retrace_149 (by decide) ?_
                exact v_iret C E hf dX17_retrace_150
            · refine v_bipush (x := (-2)) C dX17_retrace_126 (by decide) ?_
              exact v_iret C E hf dX17_retrace_128
          · refine v_iload C 0 dX17_retrace_60 rfl ?_
            exact v_iret C E hf dX17_retrace_62
        · refine v_iconst (x := (-1)) C dX17_retrace_39 (by decide) ?_
          exact v_iret C E hf dX17_retrace_40
def d_JC_length (a : Nat) : hM Int32 := mb (gC a) fun c => mi (c = 19) (mat a 19 (f_J4_length a )) (mi (c = 20) (mat a 20 (f_J5_length a )) (mfail))
theorem ndx_JC_length : ({ cls := "java/lang/CharSequence", name := "length", desc := "()I" } : Jvm.MethodName).cls ≠ "java/lang/invoke/MethodHandle" ∧ ({ cls := "java/lang/CharSequence", name := "length", desc := "()I" } : Jvm.MethodName).cls ≠ "java/lang/invoke/VarHandle" ∧ (parseMethodDescriptor ({ cls := "java/lang/CharSequence", name := "length", desc := "()I" } : Jvm.MethodName).desc).map (fun d => d.parameters.length) = some 0 := by decide +kernel
theorem v_d_JC_length {X : hX} {own : String} {cc : ByteArray} {nL : Nat} {ret : Option FieldType} {he : Hp} {F L : Nat} {h hr : Hp} {pc : Nat} {ls : List (Nat × Value)} {st : List Value} {α : Type} {v : α} (C : Cx X own cc nL ret he F L) {index cnt : Nat} (a : Nat) {k : Int32 → hM α} (rest : List Value) (hF : 2 ≤ F) (hL : 40 ≤ L) (hcat : (rest.map fun v => v.category).sum ≤ 8) (hst : st = .ref a :: rest) (w1 : Jvm.Cond.methodLink own index ({ cls := "java/lang/CharSequence", name := "length", desc := "()I" } : Jvm.MethodName) ∈ lw_all) (hf : (mb (d_JC_length a ) k).1 h = some (v, hr)) (hl : hle hr he) (d : decode cc pc = .ok (.invokeinterface index cnt, 5)) (kk : ∀ (b : Int32) (h1 : Hp), (k b).1 h1 = some (v, hr) → V X h1 (pc + 5) ls (.int b :: rest)) : V X h pc ls st := by
  unfold d_JC_length at hf
  obtain ⟨c, hf⟩ := dsp_inv hf
  rcases mb_mi hf with ⟨_, hf⟩ | ⟨_, hf⟩
  · exact v_callF (stk := fun b => .int b :: rest) C (ct_J4_length _ a ) rfl ndx_JC_length rfl (Nat.le_trans (Nat.le_of_ble_eq_true rfl) hF) (Nat.le_trans (Nat.le_of_ble_eq_true rfl) hL) rest hcat (fun _ => rfl) hst w1 q1082 q1029 q106 q1030 q1076 q1075 q1084 q1083 q1081 hf hl d kk
  rcases mb_mi hf with ⟨_, hf⟩ | ⟨_, hf⟩
  · exact v_callF (stk := fun b => .int b :: rest) C (ct_J5_length _ a ) rfl ndx_JC_length rfl (Nat.le_trans (Nat.le_of_ble_eq_true rfl) hF) (Nat.le_trans (Nat.le_of_ble_eq_true rfl) hL) rest hcat (fun _ => rfl) hst w1 q1078 q941 q107 q943 q1076 q1075 q1080 q1079 q1077 hf hl d kk
  exact mb_fail hf
def d_JC_charAt (a : Nat) (i1 : Int32) : hM Int32 := mb (gC a) fun c => mi (c = 19) (mat a 19 (f_J4_charAt a i1)) (mi (c = 20) (mat a 20 (f_J5_charAt a i1)) (mfail))
theorem ndx_JC_charAt : ({ cls := "java/lang/CharSequence", name := "charAt", desc := "(I)C" } : Jvm.MethodName).cls ≠ "java/lang/invoke/MethodHandle" ∧ ({ cls := "java/lang/CharSequence", name := "charAt", desc := "(I)C" } : Jvm.MethodName).cls ≠ "java/lang/invoke/VarHandle" ∧ (parseMethodDescriptor ({ cls := "java/lang/CharSequence", name := "charAt", desc := "(I)C" } : Jvm.MethodName).desc).map (fun d => d.parameters.length) = some 1 := by decide +kernel
theorem v_d_JC_charAt {X : hX} {own : String} {cc : ByteArray} {nL : Nat} {ret : Option FieldType} {he : Hp} {F L : Nat} {h hr : Hp} {pc : Nat} {ls : List (Nat × Value)} {st : List Value} {α : Type} {v : α} (C : Cx X own cc nL ret he F L) {index cnt : Nat} (a : Nat) (i1 : Int32) {k : Int32 → hM α} (rest : List Value) (hF : 4 ≤ F) (hL : 86 ≤ L) (hcat : (rest.map fun v => v.category).sum ≤ 8) (hst : st = .int i1 :: .ref a :: rest) (w1 : Jvm.Cond.methodLink own index ({ cls := "java/lang/CharSequence", name := "charAt", desc := "(I)C" } : Jvm.MethodName) ∈ lw_all) (hf : (mb (d_JC_charAt a i1) k).1 h = some (v, hr)) (hl : hle hr he) (d : decode cc pc = .ok (.invokeinterface index cnt, 5)) (kk : ∀ (b : Int32) (h1 : Hp), (k b).1 h1 = some (v, hr) → V X h1 (pc + 5) ls (.int b :: rest)) : V X h pc ls st := by
  unfold d_JC_charAt at hf
  obtain ⟨c, hf⟩ := dsp_inv hf
  rcases mb_mi hf with ⟨_, hf⟩ | ⟨_, hf⟩
  · exact v_callF (stk := fun b => .int b :: rest) C (ct_J4_charAt _ a i1) rfl ndx_JC_charAt rfl (Nat.le_trans (Nat.le_of_ble_eq_true rfl) hF) (Nat.le_trans (Nat.le_of_ble_eq_true rfl) hL) rest hcat (fun _ => rfl) hst w1 q1110 q1112 q106 q1114 q1088 q1087 q1113 q1111 q1081 hf hl d kk
  rcases mb_mi hf with ⟨_, hf⟩ | ⟨_, hf⟩
  · exact v_callF (stk := fun b => .int b :: rest) C (ct_J5_charAt _ a i1) rfl ndx_JC_charAt rfl (Nat.le_trans (Nat.le_of_ble_eq_true rfl) hF) (Nat.le_trans (Nat.le_of_ble_eq_true rfl) hL) rest hcat (fun _ => rfl) hst w1 q1089 q1091 q107 q1093 q1088 q1087 q1092 q1090 q1077 hf hl d kk
  exact mb_fail hf
def l_X18_behindBlanks_2 (a0 : Nat) : Nat → Int32 → hM (Int32)
  | 0, _ => mfail
  | n + 1, i2 => mb (d_JC_length a0) fun x1 => mi (x1 ≤ i2) (mret i2) (mb (d_JC_charAt a0 i2) fun x3 => mi (¬ x3 = (32 : Int32)) (mret i2) (l_X18_behindBlanks_2 a0 n (i2 + (1 : Int32))))
def f_X18_behindBlanks (a0 : Nat) (i1 : Int32) : hM Int32 :=
  mb (l_X18_behindBlanks_2 a0 FU i1) fun x5 => mret x5
theorem nd_X18_behindBlanks : yX18_behindBlanks.cls ≠ "java/lang/invoke/MethodHandle" ∧ yX18_behindBlanks.cls ≠ "java/lang/invoke/VarHandle" ∧ (parseMethodDescriptor yX18_behindBlanks.desc).map (fun d => d.parameters.length) = some 2 := by decide +kernel
set_option maxHeartbeats 4000000 in
theorem ct_X18_behindBlanks (l : Launch) (a0 : Nat) (i1 : Int32) : CT l yX18_behindBlanks cX18_behindBlanks 3 (some .int) 4 86 rvI [.ref a0, .int i1] (f_X18_behindBlanks a0 i1) := by
  refine CT_of (ls := [(0, .ref a0), (1, .int i1)]) (by decide) (Nat.le_of_ble_eq_true rfl) rfl ?_
  intro X h he z hX hf C E hnm hh
  have hl := hle.rf he
  subst hX
  have L2 : ∀ (a0 : Nat) (n : Nat) (i2 : Int32) (h h1 : Hp) (o : Int32), (l_X18_behindBlanks_2 a0 n i2).1 h = some (o, h1) → hle h1 he → V X h1 30 [(2, .int o)] [] → V X h 2 [(0, .ref a0), (2, .int i2)] [] := by
    intro a0 n
    induction n with
    | zero => intro i2 h h1 o hf; exact mfail_inv hf
    | succ n ih =>
      intro i2 h h1 o hf hl J
      rw [l_X18_behindBlanks_2] at hf
      refine v_iload_n C 1 dX18_behindBlanks_2 rfl rfl ?_
      refine v_aload_n C 0 dX18_behindBlanks_3 rfl rfl ?_
      refine v_d_JC_length C a0  [.int i2] (Nat.le_of_ble_eq_true rfl) (Nat.le_of_ble_eq_true rfl) (Nat.le_of_ble_eq_true rfl) rfl q1190 hf hl dX18_behindBlanks_4 (fun x1 h2 hf => ?_)
      refine v_icmp_ge C hf (tgt := 30) dX18_behindBlanks_9 (by decide) (fun c9 hf => ?_) (fun c9 hf => ?_)
      · obtain ⟨e1, rfl⟩ := mret_inv hf
        subst e1
        exact v_sub (ls' := _) [1] rfl J
      · refine v_aload_n C 0 dX18_behindBlanks_12 rfl rfl ?_
        refine v_iload_n C 1 dX18_behindBlanks_13 rfl rfl ?_
        refine v_d_JC_charAt C a0 i2 [] (Nat.le_of_ble_eq_true rfl) (Nat.le_of_ble_eq_true rfl) (Nat.le_of_ble_eq_true rfl) rfl q1192 hf hl dX18_behindBlanks_14 (fun x3 h4 hf => ?_)
        refine v_bipush (x := 32) C dX18_behindBlanks_19 (by decide) ?_
        refine v_icmp_ne C hf (tgt := 30) dX18_behindBlanks_21 (by decide) (fun c21 hf => ?_) (fun c21 hf => ?_)
        · obtain ⟨e1, rfl⟩ := mret_inv hf
          subst e1
          exact v_sub (ls' := _) [1] rfl J
        · refine v_iinc (ls' := [(2, _), (0, _)]) (y := i2 + (1 : Int32)) C 1 dX18_behindBlanks_24 rfl rfl (by decide) rfl ?_
          refine v_goto (tgt := 2) C dX18_behindBlanks_27 (by decide) ?_
          refine v_sub (ls' := _) [1, 0] rfl (ih (i2 + (1 : Int32)) _ _ _ hf hl J)
  unfold f_X18_behindBlanks at hf
  refine v_iload_n C 1 dX18_behindBlanks_0 rfl rfl ?_
  refine v_istore_n (ls' := [(2, _), (0, _), (1, _)]) C dX18_behindBlanks_1 rfl (by decide) rfl ?_
  obtain ⟨x5, h6, eh6, hf, hlh6⟩ := mb_inv hf hl
  refine v_sub (ls' := _) [1, 0] rfl (L2 a0 FU i1 _ _ _ eh6 hlh6 ?_)
  refine v_iload_n C 0 dX18_behindBlanks_30 rfl rfl ?_
  exact v_iret C E hf dX18_behindBlanks_31
theorem ndx_X18_at : ({ cls := "EightBlocks$Letters", name := "at", desc := "()I" } : Jvm.MethodName).cls ≠ "java/lang/invoke/MethodHandle" ∧ ({ cls := "EightBlocks$Letters", name := "at", desc := "()I" } : Jvm.MethodName).cls ≠ "java/lang/invoke/VarHandle" ∧ (parseMethodDescriptor ({ cls := "EightBlocks$Letters", name := "at", desc := "()I" } : Jvm.MethodName).desc).map (fun d => d.parameters.length) = some 0 := by decide +kernel
theorem ndx_X18_text : ({ cls := "EightBlocks$Letters", name := "text", desc := "()Ljava/lang/CharSequence;" } : Jvm.MethodName).cls ≠ "java/lang/invoke/MethodHandle" ∧ ({ cls := "EightBlocks$Letters", name := "text", desc := "()Ljava/lang/CharSequence;" } : Jvm.MethodName).cls ≠ "java/lang/invoke/VarHandle" ∧ (parseMethodDescriptor ({ cls := "EightBlocks$Letters", name := "text", desc := "()Ljava/lang/CharSequence;" } : Jvm.MethodName).desc).map (fun d => d.parameters.length) = some 0 := by decide +kernel
def f_X18_here (a0 : Nat) : hM Int32 :=
  mb (mat a0 4 (f_X4_at a0 )) fun x1 => mb (mat a0 4 (f_X4_text a0 )) fun x3 => mb (d_JC_length x3) fun x5 => mb (mi (x5 ≤ x1) (mret (-4 : Int32)) (mb (mat a0 4 (f_X4_text a0 )) fun x9 => mb (mat a0 4 (f_X4_at a0 )) fun x11 => mb (d_JC_charAt x9 x11) fun x13 => mret x13)) fun x7 => mret x7
theorem nd_X18_here : yX18_here.cls ≠ "java/lang/invoke/MethodHandle" ∧ yX18_here.cls ≠ "java/lang/invoke/VarHandle" ∧ (parseMethodDescriptor yX18_here.desc).map (fun d => d.parameters.length) = some 0 := by decide +kernel
set_option maxHeartbeats 4000000 in
theorem ct_X18_here (l : Launch) (a0 : Nat) : CT l yX18_here cX18_here 1 (some .int) 4 86 rvI [.ref a0] (f_X18_here a0) := by
  refine CT_of (ls := [(0, .ref a0)]) (by decide) (Nat.le_of_ble_eq_true rfl) rfl ?_
  intro X h he z hX hf C E hnm hh
  have hl := hle.rf he
  subst hX
  unfold f_X18_here at hf
  refine v_aload_n C 0 dX18_here_0 rfl rfl ?_
  refine v_callF (stk := fun b => .int b :: []) C (ct_X4_at _ a0 ) rfl ndx_X18_at rfl (Nat.le_of_ble_eq_true rfl) (Nat.le_of_ble_eq_true rfl) [] (Nat.le_of_ble_eq_true rfl) (fun _ => rfl) rfl q1178 q1181 q1183 q104 q1185 q1180 q1179 q1184 q1182 q1171 hf hl dX18_here_1 (fun x1 h2 hf => ?_)
  refine v_aload_n C 0 dX18_here_6 rfl rfl ?_
  refine v_callF (stk := fun b => .ref b :: [.int x1]) C (ct_X4_text _ a0 ) rfl ndx_X18_text rfl (Nat.le_of_ble_eq_true rfl) (Nat.le_of_ble_eq_true rfl) [.int x1] (Nat.le_of_ble_eq_true rfl) (fun _ => rfl) rfl q1168 q1172 q1174 q104 q1176 q1170 q1169 q1175 q1173 q1171 hf hl dX18_here_7 (fun x3 h4 hf => ?_)
  refine v_d_JC_length C x3  [.int x1] (Nat.le_of_ble_eq_true rfl) (Nat.le_of_ble_eq_true rfl) (Nat.le_of_ble_eq_true rfl) rfl q1190 hf hl dX18_here_12 (fun x5 h6 hf => ?_)
  obtain ⟨x7, h8, hAh8, hf, hlh8⟩ := mb_inv hf hl
  refine v_cut (h1 := h8) (pc1 := 42) (ls1 := []) (st1 := [.int x7]) ?_ (fun Jh8 => ?_)
  · clear hAh8 hlh8
    exact v_iret C E hf dX18_here_42
  · clear hf
    have hf := hAh8
    have hl := hlh8
    refine v_icmp_ge C hf (tgt := 40) dX18_here_17 (by decide) (fun c17 hf => ?_) (fun c17 hf => ?_)
    · refine v_bipush (x := (-4)) C dX18_here_40 (by decide) ?_
      obtain ⟨e1, rfl⟩ := mret_inv hf
      subst e1
      exact v_sub (ls' := _) [] rfl Jh8
    · refine v_aload_n C 0 dX18_here_20 rfl rfl ?_
      refine v_callF (stk := fun b => .ref b :: []) C (ct_X4_text _ a0 ) rfl ndx_X18_text rfl (Nat.le_of_ble_eq_true rfl) (Nat.le_of_ble_eq_true rfl) [] (Nat.le_of_ble_eq_true rfl) (fun _ => rfl) rfl q1168 q1172 q1174 q104 q1176 q1170 q1169 q1175 q1173 q1171 hf hl dX18_here_21 (fun x9 h10 hf => ?_)
      refine v_aload_n C 0 dX18_here_26 rfl rfl ?_
      refine v_callF (stk := fun b => .int b :: [.ref x9]) C (ct_X4_at _ a0 ) rfl ndx_X18_at rfl (Nat.le_of_ble_eq_true rfl) (Nat.le_of_ble_eq_true rfl) [.ref x9] (Nat.le_of_ble_eq_true rfl) (fun _ => rfl) rfl q1178 q1181 q1183 q104 q1185 q1180 q1179 q1184 q1182 q1171 hf hl dX18_here_27 (fun x11 h12 hf => ?_)
      refine v_d_JC_charAt C x9 x11 [] (Nat.le_of_ble_eq_true rfl) (Nat.le_of_ble_eq_true rfl) (Nat.le_of_ble_eq_true rfl) rfl q1192 hf hl dX18_here_32 (fun x13 h14 hf => ?_)
      refine v_goto (tgt := 42) C dX18_here_37 (by decide) ?_
      obtain ⟨e1, rfl⟩ := mret_inv hf
      subst e1
      exact v_sub (ls' := _) [] rfl Jh8
theorem ndx_X18_here : ({ cls := "EightBlocks$Letters", name := "here", desc := "()I" } : Jvm.MethodName).cls ≠ "java/lang/invoke/MethodHandle" ∧ ({ cls := "EightBlocks$Letters", name := "here", desc := "()I" } : Jvm.MethodName).cls ≠ "java/lang/invoke/VarHandle" ∧ (parseMethodDescriptor ({ cls := "EightBlocks$Letters", name := "here", desc := "()I" } : Jvm.MethodName).desc).map (fun d => d.parameters.length) = some 0 := by decide +kernel
def f_X18_isName (a0 : Nat) : hM Int32 :=
  mb (mat a0 4 (f_X18_here a0 )) fun x1 => mb (f_X0_isIn x1.toInt64 (97 : Int64) (122 : Int64)) fun x3 => mrt .boolean x3
theorem nd_X18_isName : yX18_isName.cls ≠ "java/lang/invoke/MethodHandle" ∧ yX18_isName.cls ≠ "java/lang/invoke/VarHandle" ∧ (parseMethodDescriptor yX18_isName.desc).map (fun d => d.parameters.length) = some 0 := by decide +kernel
set_option maxHeartbeats 4000000 in
theorem ct_X18_isName (l : Launch) (a0 : Nat) : CT l yX18_isName cX18_isName 1 (some .boolean) 5 106 rvI [.ref a0] (f_X18_isName a0) := by
  refine CT_of (ls := [(0, .ref a0)]) (by decide) (Nat.le_of_ble_eq_true rfl) rfl ?_
  intro X h he z hX hf C E hnm hh
  have hl := hle.rf he
  subst hX
  unfold f_X18_isName at hf
  refine v_aload_n C 0 dX18_isName_0 rfl rfl ?_
  refine v_callFD (stk := fun b => .int b :: []) C (ct_X18_here _ a0 ) rfl ndx_X18_here rfl (Nat.le_of_ble_eq_true rfl) (Nat.le_of_ble_eq_true rfl) [] (Nat.le_of_ble_eq_true rfl) (fun _ => rfl) rfl q1203 nw_6 q1205 q1204 q1208 q1171 q1207 q130 q1209 hf hl dX18_isName_1 (fun x1 h2 hf => ?_)
  refine v_i2l C dX18_isName_6 ?_
  refine v_ldc2 (x := 97) C q1215 dX18_isName_7 ?_
  refine v_ldc2 (x := 122) C q1216 dX18_isName_10 ?_
  refine v_callSN (stk := fun b => .int b :: []) C (ct_X0_isIn _ x1.toInt64 (97 : Int64) (122 : Int64)) nd_X0_isIn rfl (Nat.le_of_ble_eq_true rfl) (Nat.le_of_ble_eq_true rfl) [] (Nat.le_of_ble_eq_true rfl) (fun _ => rfl) rfl q1217 q750 q96 q751 hf hl dX18_isName_13 (fun x3 h4 hf => ?_)
  exact v_zret C E hf dX18_isName_16
def f_X18_isFigure (a0 : Nat) : hM Int32 :=
  mb (mat a0 4 (f_X18_here a0 )) fun x1 => mb (f_X0_isIn x1.toInt64 (48 : Int64) (57 : Int64)) fun x3 => mrt .boolean x3
theorem nd_X18_isFigure : yX18_isFigure.cls ≠ "java/lang/invoke/MethodHandle" ∧ yX18_isFigure.cls ≠ "java/lang/invoke/VarHandle" ∧ (parseMethodDescriptor yX18_isFigure.desc).map (fun d => d.parameters.length) = some 0 := by decide +kernel
set_option maxHeartbeats 4000000 in
theorem ct_X18_isFigure (l : Launch) (a0 : Nat) : CT l yX18_isFigure cX18_isFigure 1 (some .boolean) 5 106 rvI [.ref a0] (f_X18_isFigure a0) := by
  refine CT_of (ls := [(0, .ref a0)]) (by decide) (Nat.le_of_ble_eq_true rfl) rfl ?_
  intro X h he z hX hf C E hnm hh
  have hl := hle.rf he
  subst hX
  unfold f_X18_isFigure at hf
  refine v_aload_n C 0 dX18_isFigure_0 rfl rfl ?_
  refine v_callFD (stk := fun b => .int b :: []) C (ct_X18_here _ a0 ) rfl ndx_X18_here rfl (Nat.le_of_ble_eq_true rfl) (Nat.le_of_ble_eq_true rfl) [] (Nat.le_of_ble_eq_true rfl) (fun _ => rfl) rfl q1203 nw_6 q1205 q1204 q1208 q1171 q1207 q130 q1209 hf hl dX18_isFigure_1 (fun x1 h2 hf => ?_)
  refine v_i2l C dX18_isFigure_6 ?_
  refine v_ldc2 (x := 48) C q1257 dX18_isFigure_7 ?_
  refine v_ldc2 (x := 57) C q1258 dX18_isFigure_10 ?_
  refine v_callSN (stk := fun b => .int b :: []) C (ct_X0_isIn _ x1.toInt64 (48 : Int64) (57 : Int64)) nd_X0_isIn rfl (Nat.le_of_ble_eq_true rfl) (Nat.le_of_ble_eq_true rfl) [] (Nat.le_of_ble_eq_true rfl) (fun _ => rfl) rfl q1217 q750 q96 q751 hf hl dX18_isFigure_13 (fun x3 h4 hf => ?_)
  exact v_zret C E hf dX18_isFigure_16
def l_X2_takeFrom_2 (a0 : Nat) (a1 : Nat) : Nat → Int32 → hM (Unit)
  | 0, _ => mfail
  | n + 1, i2 => mi ((5 : Int32) ≤ i2) (mret ()) (mb (gR a0 2 0) fun x1 => mb (aR 6 x1 i2) fun x2 => mb (gR a1 2 0) fun x3 => mb (aR 6 x3 i2) fun x4 => mb (mat x2 3 (f_X3_take x2 x4)) fun x5 => l_X2_takeFrom_2 a0 a1 n (i2 + (1 : Int32)))
def f_X2_takeFrom (a0 : Nat) (a1 : Nat) : hM Unit :=
  mb (l_X2_takeFrom_2 a0 a1 FU (0 : Int32)) fun x7 => mb (gI a1 2 1) fun x9 => mb (pF a0 2 1 (.int x9)) fun _ => mb (gI a1 2 2) fun x11 => mb (pF a0 2 2 (.int x11)) fun _ => mret ()
theorem nd_X2_takeFrom : yX2_takeFrom.cls ≠ "java/lang/invoke/MethodHandle" ∧ yX2_takeFrom.cls ≠ "java/lang/invoke/VarHandle" ∧ (parseMethodDescriptor yX2_takeFrom.desc).map (fun d => d.parameters.length) = some 1 := by decide +kernel
set_option maxHeartbeats 4000000 in
theorem ct_X2_takeFrom (l : Launch) (a0 : Nat) (a1 : Nat) : CT l yX2_takeFrom cX2_takeFrom 3 none 4 86 rv0 [.ref a0, .ref a1] (f_X2_takeFrom a0 a1) := by
  refine CT_of (ls := [(0, .ref a0), (1, .ref a1)]) (by decide) (Nat.le_of_ble_eq_true rfl) rfl ?_
  intro X h he z hX hf C E hnm hh
  have hl := hle.rf he
  subst hX
  have L2 : ∀ (a0 : Nat) (a1 : Nat) (n : Nat) (i2 : Int32) (h h1 : Hp) (o : Unit), (l_X2_takeFrom_2 a0 a1 n i2).1 h = some (o, h1) → hle h1 he → V X h1 29 [(0, .ref a0), (1, .ref a1)] [] → V X h 2 [(0, .ref a0), (1, .ref a1), (2, .int i2)] [] := by
    intro a0 a1 n
    induction n with
    | zero => intro i2 h h1 o hf; exact mfail_inv hf
    | succ n ih =>
      intro i2 h h1 o hf hl J
      rw [l_X2_takeFrom_2] at hf
      refine v_iload_n C 2 dX2_takeFrom_2 rfl rfl ?_
      refine v_iconst (x := 5) C dX2_takeFrom_3 (by decide) ?_
      refine v_icmp_ge C hf (tgt := 29) dX2_takeFrom_4 (by decide) (fun c4 hf => ?_) (fun c4 hf => ?_)
      · obtain ⟨e1, rfl⟩ := mret_inv hf
        subst e1
        exact v_sub (ls' := _) [0, 1] rfl J
      · refine v_aload_n C 0 dX2_takeFrom_7 rfl rfl ?_
        refine v_gR (Cn := RX2) (T := TX2) (N := 3) C hf in_X2 rfl (by decide) q257 rfl dX2_takeFrom_8 (fun x1 hf => ?_)
        refine v_iload_n C 2 dX2_takeFrom_11 rfl rfl ?_
        refine v_aaload C hf (by decide) rfl dX2_takeFrom_12 (fun x2 hf => ?_)
        refine v_aload_n C 1 dX2_takeFrom_13 rfl rfl ?_
        refine v_gR (Cn := RX2) (T := TX2) (N := 3) C hf in_X2 rfl (by decide) q257 rfl dX2_takeFrom_14 (fun x3 hf => ?_)
        refine v_iload_n C 2 dX2_takeFrom_17 rfl rfl ?_
        refine v_aaload C hf (by decide) rfl dX2_takeFrom_18 (fun x4 hf => ?_)
        refine v_callV (stk := fun b => .ref b :: []) C (ct_X3_take _ x2 x4) rfl ⟨rfl, nd_X3_take⟩ rfl (Nat.le_of_ble_eq_true rfl) (Nat.le_of_ble_eq_true rfl) [] (Nat.le_of_ble_eq_true rfl) (fun _ => rfl) rfl q1365 q636 q637 q103 q638 hf hl dX2_takeFrom_19 (fun x5 h6 hf => ?_)
        refine v_pop C dX2_takeFrom_22 rfl ?_
        refine v_iinc (ls' := [(2, _), (0, _), (1, _)]) (y := i2 + (1 : Int32)) C 2 dX2_takeFrom_23 rfl rfl (by decide) rfl ?_
        refine v_goto (tgt := 2) C dX2_takeFrom_26 (by decide) ?_
        refine v_sub (ls' := _) [1, 2, 0] rfl (ih (i2 + (1 : Int32)) _ _ _ hf hl J)
  unfold f_X2_takeFrom at hf
  refine v_iconst (x := 0) C dX2_takeFrom_0 (by decide) ?_
  refine v_istore_n (ls' := [(2, _), (0, _), (1, _)]) C dX2_takeFrom_1 rfl (by decide) rfl ?_
  obtain ⟨x7, h8, eh8, hf, hlh8⟩ := mb_inv hf hl
  refine v_sub (ls' := _) [1, 2, 0] rfl (L2 a0 a1 FU (0 : Int32) _ _ _ eh8 hlh8 ?_)
  refine v_aload_n C 0 dX2_takeFrom_29 rfl rfl ?_
  refine v_aload_n C 1 dX2_takeFrom_30 rfl rfl ?_
  refine v_gI (Cn := RX2) (T := TX2) (N := 3) C hf in_X2 rfl (by decide) q260 rfl dX2_takeFrom_31 (fun x9 hf => ?_)
  refine v_putv (Cn := RX2) (T := TX2) (N := 3) (ty0 := tyX2) C hf in_X2 tyX2_ok nmX2 rfl (by decide) q260 rfl rfl rfl rfl dX2_takeFrom_34 (fun h10 hf => ?_)
  refine v_aload_n C 0 dX2_takeFrom_37 rfl rfl ?_
  refine v_aload_n C 1 dX2_takeFrom_38 rfl rfl ?_
  refine v_gI (Cn := RX2) (T := TX2) (N := 3) C hf in_X2 rfl (by decide) q262 rfl dX2_takeFrom_39 (fun x11 hf => ?_)
  refine v_putv (Cn := RX2) (T := TX2) (N := 3) (ty0 := tyX2) C hf in_X2 tyX2_ok nmX2 rfl (by decide) q262 rfl rfl rfl rfl dX2_takeFrom_42 (fun h12 hf => ?_)
  exact v_vret C E hf dX2_takeFrom_45
def f_X21_next (a0 : Nat) (i1 : Int32) (a2 : Nat) : hM Int32 :=
  mb (gR a0 17 0) fun x1 => mb (aI 1 x1 i1) fun x2 => mb (mat a2 3 (f_X11_over a2 x2)) fun x3 => mb (mat a0 17 (f_X21_at a0 x3)) fun x5 => mret x5
theorem nd_X21_next : yX21_next.cls ≠ "java/lang/invoke/MethodHandle" ∧ yX21_next.cls ≠ "java/lang/invoke/VarHandle" ∧ (parseMethodDescriptor yX21_next.desc).map (fun d => d.parameters.length) = some 2 := by decide +kernel
set_option maxHeartbeats 4000000 in
theorem ct_X21_next (l : Launch) (a0 : Nat) (i1 : Int32) (a2 : Nat) : CT l yX21_next cX21_next 3 (some .int) 4 87 rvI [.ref a0, .int i1, .ref a2] (f_X21_next a0 i1 a2) := by
  refine CT_of (ls := [(0, .ref a0), (1, .int i1), (2, .ref a2)]) (by decide) (Nat.le_of_ble_eq_true rfl) rfl ?_
  intro X h he z hX hf C E hnm hh
  have hl := hle.rf he
  subst hX
  unfold f_X21_next at hf
  refine v_aload_n C 0 dX21_next_0 rfl rfl ?_
  refine v_aload_n C 2 dX21_next_1 rfl rfl ?_
  refine v_aload_n C 0 dX21_next_2 rfl rfl ?_
  refine v_gR (Cn := RX21) (T := TX21) (N := 1) C hf in_X21 rfl (by decide) q1454 rfl dX21_next_3 (fun x1 hf => ?_)
  refine v_iload_n C 1 dX21_next_6 rfl rfl ?_
  refine v_iaload C hf dX21_next_7 (fun x2 hf => ?_)
  refine v_callD (x := ({ cls := "EightBlocks$Move", name := "over", desc := "(I)I" } : Jvm.MethodName)) (stk := fun b => .int b :: [.ref a0]) C (ct_X11_over _ a2 x2) rfl nd_X11_over rfl (Nat.le_of_ble_eq_true rfl) (Nat.le_of_ble_eq_true rfl) [.ref a0] (Nat.le_of_ble_eq_true rfl) (fun _ => rfl) rfl nw_7 nw_8 nw_9 q829 q831 q119 q833 hf hl dX21_next_8 (fun x3 h4 hf => ?_)
  refine v_callV (stk := fun b => .int b :: []) C (ct_X21_at _ a0 x3) rfl ⟨rfl, nd_X21_at⟩ rfl (Nat.le_of_ble_eq_true rfl) (Nat.le_of_ble_eq_true rfl) [] (Nat.le_of_ble_eq_true rfl) (fun _ => rfl) rfl q1542 q1543 q1544 q136 q1545 hf hl dX21_next_11 (fun x5 h6 hf => ?_)
  exact v_iret C E hf dX21_next_14
def f_X22_next (a0 : Nat) (i1 : Int32) (a2 : Nat) : hM Int32 :=
  mb (gR a0 18 0) fun x1 => mb (gR a0 18 1) fun x2 => mb (mat x1 1 (f_X1_tetrads x1 i1 x2)) fun _ => mb (gR a0 18 0) fun x5 => mb (gR a0 18 1) fun x6 => mb (aI 1 x6 (0 : Int32)) fun x7 => mb (mat a2 3 (f_X11_over a2 x7)) fun x8 => mb (mat x5 1 (f_X1_remainder x5 x8)) fun x10 => mret x10
theorem nd_X22_next : yX22_next.cls ≠ "java/lang/invoke/MethodHandle" ∧ yX22_next.cls ≠ "java/lang/invoke/VarHandle" ∧ (parseMethodDescriptor yX22_next.desc).map (fun d => d.parameters.length) = some 2 := by decide +kernel
set_option maxHeartbeats 4000000 in
theorem ct_X22_next (l : Launch) (a0 : Nat) (i1 : Int32) (a2 : Nat) : CT l yX22_next cX22_next 3 (some .int) 4 87 rvI [.ref a0, .int i1, .ref a2] (f_X22_next a0 i1 a2) := by
  refine CT_of (ls := [(0, .ref a0), (1, .int i1), (2, .ref a2)]) (by decide) (Nat.le_of_ble_eq_true rfl) rfl ?_
  intro X h he z hX hf C E hnm hh
  have hl := hle.rf he
  subst hX
  unfold f_X22_next at hf
  refine v_aload_n C 0 dX22_next_0 rfl rfl ?_
  refine v_gR (Cn := RX22) (T := TX22) (N := 2) C hf in_X22 rfl (by decide) q1464 rfl dX22_next_1 (fun x1 hf => ?_)
  refine v_iload_n C 1 dX22_next_4 rfl rfl ?_
  refine v_aload_n C 0 dX22_next_5 rfl rfl ?_
  refine v_gR (Cn := RX22) (T := TX22) (N := 2) C hf in_X22 rfl (by decide) q1465 rfl dX22_next_6 (fun x2 hf => ?_)
  refine v_callV (stk := fun _ => []) C (ct_X1_tetrads _ x1 i1 x2) rfl ⟨rfl, nd_X1_tetrads⟩ rfl (Nat.le_of_ble_eq_true rfl) (Nat.le_of_ble_eq_true rfl) [] (Nat.le_of_ble_eq_true rfl) (fun _ => rfl) rfl q1551 q766 q767 q97 q768 hf hl dX22_next_9 (fun x3 h4 hf => ?_)
  refine v_aload_n C 0 dX22_next_12 rfl rfl ?_
  refine v_gR (Cn := RX22) (T := TX22) (N := 2) C hf in_X22 rfl (by decide) q1464 rfl dX22_next_13 (fun x5 hf => ?_)
  refine v_aload_n C 2 dX22_next_16 rfl rfl ?_
  refine v_aload_n C 0 dX22_next_17 rfl rfl ?_
  refine v_gR (Cn := RX22) (T := TX22) (N := 2) C hf in_X22 rfl (by decide) q1465 rfl dX22_next_18 (fun x6 hf => ?_)
  refine v_iconst (x := 0) C dX22_next_21 (by decide) ?_
  refine v_iaload C hf dX22_next_22 (fun x7 hf => ?_)
  refine v_callD (x := ({ cls := "EightBlocks$Move", name := "over", desc := "(I)I" } : Jvm.MethodName)) (stk := fun b => .int b :: [.ref x5]) C (ct_X11_over _ a2 x7) rfl nd_X11_over rfl (Nat.le_of_ble_eq_true rfl) (Nat.le_of_ble_eq_true rfl) [.ref x5] (Nat.le_of_ble_eq_true rfl) (fun _ => rfl) rfl nw_10 nw_8 nw_9 q829 q831 q119 q833 hf hl dX22_next_23 (fun x8 h9 hf => ?_)
  refine v_callV (stk := fun b => .int b :: []) C (ct_X1_remainder _ x5 x8) rfl ⟨rfl, nd_X1_remainder⟩ rfl (Nat.le_of_ble_eq_true rfl) (Nat.le_of_ble_eq_true rfl) [] (Nat.le_of_ble_eq_true rfl) (fun _ => rfl) rfl q1552 q753 q754 q97 q755 hf hl dX22_next_26 (fun x10 h11 hf => ?_)
  exact v_iret C E hf dX22_next_29
def l_X3_rings_59 (a0 : Nat) (i1 : Int32) (i3 : Int32) (i4 : Int32) (i5 : Int32) (i6 : Int32) : Nat → Int32 → Int32 → Int32 → hM (Int32)
  | 0, _, _, _ => mfail
  | n + 1, i2, i7, i8 => mi (i6 ≤ i8) (mret i2) (mb (gR a0 3 0) fun x12 => mb (aI 0 x12 i7) fun x13 => l_X3_rings_59 a0 i1 i3 i4 i5 i6 n (i2 ||| ((1 : Int32) <<< (i7 &&& 31))) x13 (i8 + (1 : Int32)))
def l_X3_rings_10 (a0 : Nat) (i1 : Int32) : Nat → Int32 → Int32 → Int32 → Int32 → hM (Int32 × Int32)
  | 0, _, _, _, _ => mfail
  | n + 1, i2, i3, i4, i5 => mi ((24 : Int32) ≤ i5) (mret (i3, i4)) (mb (f_X0_has i2 i5) fun x1 => mb (mi (¬ x1 = 0) (mret (i2, i3, i4)) (mb (mat a0 3 (f_X11_round a0 i5)) fun x7 => mb (f_X3_common i4 x7) fun x9 => mb (mdiv i4 x9) fun x11 => mb (l_X3_rings_59 a0 i1 (i3 + (1 : Int32)) (x11 * x7) i5 x7 FU i2 i5 (0 : Int32)) fun x14 => mret (x14, i3 + (1 : Int32), x11 * x7))) fun ⟨x3, x4, x5⟩ => l_X3_rings_10 a0 i1 n x3 x4 x5 (i5 + (1 : Int32)))
def f_X3_rings (a0 : Nat) (i1 : Int32) : hM Int32 :=
  mb (l_X3_rings_10 a0 i1 FU (0 : Int32) (0 : Int32) (1 : Int32) (0 : Int32)) fun x16 => mb (mi (¬ i1 = (2 : Int32)) (mret x16.2) (mret x16.1)) fun x18 => mret x18
theorem nd_X3_rings : yX3_rings.cls ≠ "java/lang/invoke/MethodHandle" ∧ yX3_rings.cls ≠ "java/lang/invoke/VarHandle" ∧ (parseMethodDescriptor yX3_rings.desc).map (fun d => d.parameters.length) = some 1 := by decide +kernel
set_option maxHeartbeats 4000000 in
theorem ct_X3_rings (l : Launch) (a0 : Nat) (i1 : Int32) : CT l yX3_rings cX3_rings 9 (some .int) 4 87 rvI [.ref a0, .int i1] (f_X3_rings a0 i1) := by
  refine CT_of (ls := [(0, .ref a0), (1, .int i1)]) (by decide) (Nat.le_of_ble_eq_true rfl) rfl ?_
  intro X h he z hX hf C E hnm hh
  have hl := hle.rf he
  subst hX
  have L59 : ∀ (a0 : Nat) (i1 : Int32) (i3 : Int32) (i4 : Int32) (i5 : Int32) (i6 : Int32) (n : Nat) (i2 : Int32) (i7 : Int32) (i8 : Int32) (h h1 : Hp) (o : Int32), (l_X3_rings_59 a0 i1 i3 i4 i5 i6 n i2 i7 i8).1 h = some (o, h1) → hle h1 he → V X h1 88 [(0, .ref a0), (1, .int i1), (2, .int o), (3, .int i3), (4, .int i4), (5, .int i5)] [] → V X h 59 [(0, .ref a0), (1, .int i1), (2, .int i2), (3, .int i3), (4, .int i4), (5, .int i5), (6, .int i6), (7, .int i7), (8, .int i8)] [] := by
    intro a0 i1 i3 i4 i5 i6 n
    induction n with
    | zero => intro i2 i7 i8 h h1 o hf; exact mfail_inv hf
    | succ n ih =>
      intro i2 i7 i8 h h1 o hf hl J
      rw [l_X3_rings_59] at hf
      refine v_iload C 8 dX3_rings_59 rfl ?_
      refine v_iload C 6 dX3_rings_61 rfl ?_
      refine v_icmp_ge C hf (tgt := 88) dX3_rings_63 (by decide) (fun c63 hf => ?_) (fun c63 hf => ?_)
      · obtain ⟨e1, rfl⟩ := mret_inv hf
        subst e1
        exact v_sub (ls' := _) [0, 1, 2, 3, 4, 5] rfl J
      · refine v_iload_n C 2 dX3_rings_66 rfl rfl ?_
        refine v_iconst (x := 1) C dX3_rings_67 (by decide) ?_
        refine v_iload C 7 dX3_rings_68 rfl ?_
        refine v_ishl C dX3_rings_70 ?_
        refine v_ior C dX3_rings_71 ?_
        refine v_istore_n (ls' := [(2, _), (0, _), (1, _), (3, _), (4, _), (5, _), (6, _), (7, _), (8, _)]) C dX3_rings_72 rfl (by decide) rfl ?_
        refine v_aload_n C 1 dX3_rings_73 rfl rfl ?_
        refine v_gR (Cn := RX3) (T := TX3) (N := 2) C hf in_X3 rfl (by decide) q248 rfl dX3_rings_74 (fun x12 hf => ?_)
        refine v_iload C 7 dX3_rings_77 rfl ?_
        refine v_baload C hf dX3_rings_79 (fun x13 hf => ?_)
        refine v_istore (ls' := [(7, _), (2, _), (0, _), (1, _), (3, _), (4, _), (5, _), (6, _), (8, _)]) C dX3_rings_80 (by decide) rfl ?_
        refine v_iinc (ls' := [(8, _), (7, _), (2, _), (0, _), (1, _), (3, _), (4, _), (5, _), (6, _)]) (y := i8 + (1 : Int32)) C 8 dX3_rings_82 rfl rfl (by decide) rfl ?_
        refine v_goto (tgt := 59) C dX3_rings_85 (by decide) ?_
        refine v_sub (ls' := _) [3, 4, 2, 5, 6, 7, 8, 1, 0] rfl (ih (i2 ||| ((1 : Int32) <<< (i7 &&& 31))) x13 (i8 + (1 : Int32)) _ _ _ hf hl J)
  have L10 : ∀ (a0 : Nat) (i1 : Int32) (n : Nat) (i2 : Int32) (i3 : Int32) (i4 : Int32) (i5 : Int32) (h h1 : Hp) (o : Int32 × Int32), (l_X3_rings_10 a0 i1 n i2 i3 i4 i5).1 h = some (o, h1) → hle h1 he → V X h1 94 [(1, .int i1), (3, .int o.1), (4, .int o.2)] [] → V X h 10 [(0, .ref a0), (1, .int i1), (2, .int i2), (3, .int i3), (4, .int i4), (5, .int i5)] [] := by
    intro a0 i1 n
    induction n with
    | zero => intro i2 i3 i4 i5 h h1 o hf; exact mfail_inv hf
    | succ n ih =>
      intro i2 i3 i4 i5 h h1 o hf hl J
      rw [l_X3_rings_10] at hf
      refine v_iload C 5 dX3_rings_10 rfl ?_
      refine v_bipush (x := 24) C dX3_rings_12 (by decide) ?_
      refine v_icmp_ge C hf (tgt := 94) dX3_rings_14 (by decide) (fun c14 hf => ?_) (fun c14 hf => ?_)
      · obtain ⟨e1, rfl⟩ := mret_inv hf
        subst e1
        exact v_sub (ls' := _) [1, 3, 4] rfl J
      · refine v_iload_n C 2 dX3_rings_17 rfl rfl ?_
        refine v_iload C 5 dX3_rings_18 rfl ?_
        refine v_callSN (stk := fun b => .int b :: []) C (ct_X0_has _ i2 i5) nd_X0_has rfl (Nat.le_of_ble_eq_true rfl) (Nat.le_of_ble_eq_true rfl) [] (Nat.le_of_ble_eq_true rfl) (fun _ => rfl) rfl q845 q164 q96 q165 hf hl dX3_rings_20 (fun x1 h2 hf => ?_)
        obtain ⟨⟨x3, x4, x5⟩, h6, hAh6, hf, hlh6⟩ := mb_inv hf hl
        refine v_cut (h1 := h6) (pc1 := 88) (ls1 := [(0, .ref a0), (1, .int i1), (2, .int x3), (3, .int x4), (4, .int x5), (5, .int i5)]) (st1 := []) ?_ (fun Jh6 => ?_)
        · clear hAh6 hlh6
          refine v_iinc (ls' := [(5, _), (0, _), (1, _), (2, _), (3, _), (4, _)]) (y := i5 + (1 : Int32)) C 5 dX3_rings_88 rfl rfl (by decide) rfl ?_
          refine v_goto (tgt := 10) C dX3_rings_91 (by decide) ?_
          refine v_sub (ls' := _) [1, 2, 3, 4, 5, 0] rfl (ih x3 x4 x5 (i5 + (1 : Int32)) _ _ _ hf hl J)
        · clear hf
          have hf := hAh6
          have hl := hlh6
          refine v_if_ne C hf (tgt := 88) dX3_rings_23 (by decide) (fun c23 hf => ?_) (fun c23 hf => ?_)
          · obtain ⟨e1, rfl⟩ := mret_inv hf
            simp only [Prod.mk.injEq] at e1
            obtain ⟨rfl, rfl, rfl⟩ := e1
            exact v_sub (ls' := _) [0, 1, 2, 3, 4, 5] rfl Jh6
          · refine v_iinc (ls' := [(3, _), (0, _), (1, _), (2, _), (4, _), (5, _)]) (y := i3 + (1 : Int32)) C 3 dX3_rings_26 rfl rfl (by decide) rfl ?_
            refine v_aload_n C 1 dX3_rings_29 rfl rfl ?_
            refine v_iload C 5 dX3_rings_30 rfl ?_
            refine v_callD (x := ({ cls := "EightBlocks$Move", name := "round", desc := "(I)I" } : Jvm.MethodName)) (stk := fun b => .int b :: []) C (ct_X11_round _ a0 i5) rfl nd_X11_round rfl (Nat.le_of_ble_eq_true rfl) (Nat.le_of_ble_eq_true rfl) [] (Nat.le_of_ble_eq_true rfl) (fun _ => rfl) rfl nw_11 nw_12 nw_13 q846 q848 q119 q850 hf hl dX3_rings_32 (fun x7 h8 hf => ?_)
            refine v_istore (ls' := [(6, _), (3, _), (0, _), (1, _), (2, _), (4, _), (5, _)]) C dX3_rings_35 (by decide) rfl ?_
            refine v_iload C 5 dX3_rings_37 rfl ?_
            refine v_iload C 5 dX3_rings_39 rfl ?_
            refine v_iload C 0 dX3_rings_41 rfl ?_
            refine v_callS (stk := fun b => .int b :: [.int i4]) C (ct_X3_common _ i4 x7) nd_X3_common rfl (Nat.le_of_ble_eq_true rfl) (Nat.le_of_ble_eq_true rfl) [.int i4] (Nat.le_of_ble_eq_true rfl) (fun _ => rfl) rfl q851 q852 q103 q853 hf hl dX3_rings_43 (fun x9 h10 hf => ?_)
            refine v_idiv C hf dX3_rings_46 (fun x11 hf => ?_)
            refine v_iload C 0 dX3_rings_47 rfl ?_
            refine v_imul C dX3_rings_49 ?_
            refine v_istore (ls' := [(4, _), (6, _), (3, _), (0, _), (1, _), (2, _), (5, _)]) C dX3_rings_50 (by decide) rfl ?_
            refine v_iload C 6 dX3_rings_52 rfl ?_
            refine v_istore (ls' := [(7, _), (4, _), (6, _), (3, _), (0, _), (1, _), (2, _), (5, _)]) C dX3_rings_54 (by decide) rfl ?_
            refine v_iconst (x := 0) C dX3_rings_56 (by decide) ?_
            refine v_istore (ls' := [(8, _), (7, _), (4, _), (6, _), (3, _), (0, _), (1, _), (2, _), (5, _)]) C dX3_rings_57 (by decide) rfl ?_
            obtain ⟨x14, h15, eh15, hf, hlh15⟩ := mb_inv hf hl
            refine v_sub (ls' := _) [5, 6, 7, 4, 2, 8, 3, 1, 0] rfl (L59 a0 i1 (i3 + (1 : Int32)) (x11 * x7) i5 x7 FU i2 i5 (0 : Int32) _ _ _ eh15 hlh15 ?_)
            obtain ⟨e1, rfl⟩ := mret_inv hf
            simp only [Prod.mk.injEq] at e1
            obtain ⟨rfl, rfl, rfl⟩ := e1
            exact v_sub (ls' := _) [0, 1, 2, 3, 4, 5] rfl Jh6
  unfold f_X3_rings at hf
  refine v_iconst (x := 0) C dX3_rings_0 (by decide) ?_
  refine v_istore_n (ls' := [(2, _), (0, _), (1, _)]) C dX3_rings_1 rfl (by decide) rfl ?_
  refine v_iconst (x := 0) C dX3_rings_2 (by decide) ?_
  refine v_istore_n (ls' := [(3, _), (2, _), (0, _), (1, _)]) C dX3_rings_3 rfl (by decide) rfl ?_
  refine v_iconst (x := 1) C dX3_rings_4 (by decide) ?_
  refine v_istore (ls' := [(4, _), (3, _), (2, _), (0, _), (1, _)]) C dX3_rings_5 (by decide) rfl ?_
  refine v_iconst (x := 0) C dX3_rings_7 (by decide) ?_
  refine v_istore (ls' := [(5, _), (4, _), (3, _), (2, _), (0, _), (1, _)]) C dX3_rings_8 (by decide) rfl ?_
  obtain ⟨x16, h17, eh17, hf, hlh17⟩ := mb_inv hf hl
  refine v_sub (ls' := _) [4, 5, 3, 2, 1, 0] rfl (L10 a0 i1 FU (0 : Int32) (0 : Int32) (1 : Int32) (0 : Int32) _ _ _ eh17 hlh17 ?_)
  refine v_iload_n C 0 dX3_rings_94 rfl rfl ?_
  refine v_iconst (x := 2) C dX3_rings_95 (by decide) ?_
  obtain ⟨x18, h19, hAh19, hf, hlh19⟩ := mb_inv hf hl
  refine v_cut (h1 := h19) (pc1 := 105) (ls1 := []) (st1 := [.int x18]) ?_ (fun Jh19 => ?_)
  · clear hAh19 hlh19
    exact v_iret C E hf dX3_rings_105
  · clear hf
    have hf := hAh19
    have hl := hlh19
    refine v_icmp_ne C hf (tgt := 103) dX3_rings_96 (by decide) (fun c96 hf => ?_) (fun c96 hf => ?_)
    · refine v_iload C 2 dX3_rings_103 rfl ?_
      obtain ⟨e1, rfl⟩ := mret_inv hf
      subst e1
      exact v_sub (ls' := _) [] rfl Jh19
    · refine v_iload_n C 1 dX3_rings_99 rfl rfl ?_
      refine v_goto (tgt := 105) C dX3_rings_100 (by decide) ?_
      obtain ⟨e1, rfl⟩ := mret_inv hf
      subst e1
      exact v_sub (ls' := _) [] rfl Jh19
def l_X3_power_32 (a0 : Nat) (i1 : Int32) (i2 : Int32) (a3 : Nat) (i4 : Int32) : Nat → Int32 → Int32 → hM (Int32)
  | 0, _, _ => mfail
  | n + 1, i5, i6 => mi (i6 ≤ 0) (mret i5) (mb (mi (i2 = 0) (mb (gR a0 3 0) fun x10 => mb (aI 0 x10 i5) fun x11 => mret x11) (mb (gR a0 3 1) fun x12 => mb (aI 0 x12 i5) fun x13 => mret x13)) fun x8 => l_X3_power_32 a0 i1 i2 a3 i4 n x8 (i6 + (-1 : Int32)))
def l_X3_power_11 (a0 : Nat) (i1 : Int32) (i2 : Int32) (a3 : Nat) : Nat → Int32 → hM (Unit)
  | 0, _ => mfail
  | n + 1, i4 => mi ((24 : Int32) ≤ i4) (mret ()) (mb (mat a0 3 (f_X11_round a0 i4)) fun x5 => mb (mrem i1 x5) fun x7 => mb (l_X3_power_32 a0 i1 i2 a3 i4 FU i4 x7) fun x14 => mb (gR a3 3 0) fun x16 => mb (sI 0 x16 i4 x14.toInt8.toInt32) fun _ => l_X3_power_11 a0 i1 i2 a3 n (i4 + (1 : Int32)))
def f_X3_power (a0 : Nat) (i1 : Int32) (i2 : Int32) : hM Nat :=
  mb (newO 3 2 [.null, .null]) fun x1 => mb (f_X3_init x1) fun _ => mb (l_X3_power_11 a0 i1 i2 x1 FU (0 : Int32)) fun x18 => mb (mat x1 3 (f_X3_turnBack x1)) fun _ => mret x1
theorem nd_X3_power : yX3_power.cls ≠ "java/lang/invoke/MethodHandle" ∧ yX3_power.cls ≠ "java/lang/invoke/VarHandle" ∧ (parseMethodDescriptor yX3_power.desc).map (fun d => d.parameters.length) = some 2 := by decide +kernel
set_option maxHeartbeats 4000000 in
theorem ct_X3_power (l : Launch) (a0 : Nat) (i1 : Int32) (i2 : Int32) : CT l yX3_power cX3_power 7 (some (.object "EightBlocks$Move")) 4 87 rvR [.ref a0, .int i1, .int i2] (f_X3_power a0 i1 i2) := by
  refine CT_of (ls := [(0, .ref a0), (1, .int i1), (2, .int i2)]) (by decide) (Nat.le_of_ble_eq_true rfl) rfl ?_
  intro X h he z hX hf C E hnm hh
  have hl := hle.rf he
  subst hX
  have L32 : ∀ (a0 : Nat) (i1 : Int32) (i2 : Int32) (a3 : Nat) (i4 : Int32) (n : Nat) (i5 : Int32) (i6 : Int32) (h h1 : Hp) (o : Int32), (l_X3_power_32 a0 i1 i2 a3 i4 n i5 i6).1 h = some (o, h1) → hle h1 he → V X h1 66 [(0, .ref a0), (1, .int i1), (2, .int i2), (3, .ref a3), (4, .int i4), (5, .int o)] [] → V X h 32 [(0, .ref a0), (1, .int i1), (2, .int i2), (3, .ref a3), (4, .int i4), (5, .int i5), (6, .int i6)] [] := by
    intro a0 i1 i2 a3 i4 n
    induction n with
    | zero => intro i5 i6 h h1 o hf; exact mfail_inv hf
    | succ n ih =>
      intro i5 i6 h h1 o hf hl J
      rw [l_X3_power_32] at hf
      refine v_iload C 6 dX3_power_32 rfl ?_
      refine v_if_le C hf (tgt := 66) dX3_power_34 (by decide) (fun c34 hf => ?_) (fun c34 hf => ?_)
      · obtain ⟨e1, rfl⟩ := mret_inv hf
        subst e1
        exact v_sub (ls' := _) [0, 1, 2, 3, 4, 5] rfl J
      · refine v_iload_n C 2 dX3_power_37 rfl rfl ?_
        obtain ⟨x8, h9, hAh9, hf, hlh9⟩ := mb_inv hf hl
        refine v_cut (h1 := h9) (pc1 := 58) (ls1 := [(0, .ref a0), (1, .int i1), (2, .int i2), (3, .ref a3), (4, .int i4), (6, .int i6)]) (st1 := [.int x8]) ?_ (fun Jh9 => ?_)
        · clear hAh9 hlh9
          refine v_istore (ls' := [(5, _), (0, _), (1, _), (2, _), (3, _), (4, _), (6, _)]) C dX3_power_58 (by decide) rfl ?_
          refine v_iinc (ls' := [(6, _), (5, _), (0, _), (1, _), (2, _), (3, _), (4, _)]) (y := i6 + (-1 : Int32)) C 6 dX3_power_60 rfl rfl (by decide) rfl ?_
          refine v_goto (tgt := 32) C dX3_power_63 (by decide) ?_
          refine v_sub (ls' := _) [2, 3, 4, 5, 6, 1, 0] rfl (ih x8 (i6 + (-1 : Int32)) _ _ _ hf hl J)
        · clear hf
          have hf := hAh9
          have hl := hlh9
          refine v_if_eq C hf (tgt := 51) dX3_power_38 (by decide) (fun c38 hf => ?_) (fun c38 hf => ?_)
          · refine v_aload_n C 0 dX3_power_51 rfl rfl ?_
            refine v_gR (Cn := RX3) (T := TX3) (N := 2) C hf in_X3 rfl (by decide) q248 rfl dX3_power_52 (fun x10 hf => ?_)
            refine v_iload C 5 dX3_power_55 rfl ?_
            refine v_baload C hf dX3_power_57 (fun x11 hf => ?_)
            obtain ⟨e1, rfl⟩ := mret_inv hf
            subst e1
            exact v_sub (ls' := _) [0, 1, 2, 3, 4, 6] rfl Jh9
          · refine v_aload_n C 0 dX3_power_41 rfl rfl ?_
            refine v_gR (Cn := RX3) (T := TX3) (N := 2) C hf in_X3 rfl (by decide) q250 rfl dX3_power_42 (fun x12 hf => ?_)
            refine v_iload C 5 dX3_power_45 rfl ?_
            refine v_baload C hf dX3_power_47 (fun x13 hf => ?_)
            refine v_goto (tgt := 58) C dX3_power_48 (by decide) ?_
            obtain ⟨e1, rfl⟩ := mret_inv hf
            subst e1
            exact v_sub (ls' := _) [0, 1, 2, 3, 4, 6] rfl Jh9
  have L11 : ∀ (a0 : Nat) (i1 : Int32) (i2 : Int32) (a3 : Nat) (n : Nat) (i4 : Int32) (h h1 : Hp) (o : Unit), (l_X3_power_11 a0 i1 i2 a3 n i4).1 h = some (o, h1) → hle h1 he → V X h1 82 [(3, .ref a3)] [] → V X h 11 [(0, .ref a0), (1, .int i1), (2, .int i2), (3, .ref a3), (4, .int i4)] [] := by
    intro a0 i1 i2 a3 n
    induction n with
    | zero => intro i4 h h1 o hf; exact mfail_inv hf
    | succ n ih =>
      intro i4 h h1 o hf hl J
      rw [l_X3_power_11] at hf
      refine v_iload C 4 dX3_power_11 rfl ?_
      refine v_bipush (x := 24) C dX3_power_13 (by decide) ?_
      refine v_icmp_ge C hf (tgt := 82) dX3_power_15 (by decide) (fun c15 hf => ?_) (fun c15 hf => ?_)
      · obtain ⟨e1, rfl⟩ := mret_inv hf
        subst e1
        exact v_sub (ls' := _) [3] rfl J
      · refine v_iload C 4 dX3_power_18 rfl ?_
        refine v_istore (ls' := [(5, _), (0, _), (1, _), (2, _), (3, _), (4, _)]) C dX3_power_20 (by decide) rfl ?_
        refine v_iload_n C 2 dX3_power_22 rfl rfl ?_
        refine v_aload_n C 1 dX3_power_23 rfl rfl ?_
        refine v_iload C 5 dX3_power_24 rfl ?_
        refine v_callD (x := ({ cls := "EightBlocks$Move", name := "round", desc := "(I)I" } : Jvm.MethodName)) (stk := fun b => .int b :: [.int i1]) C (ct_X11_round _ a0 i4) rfl nd_X11_round rfl (Nat.le_of_ble_eq_true rfl) (Nat.le_of_ble_eq_true rfl) [.int i1] (Nat.le_of_ble_eq_true rfl) (fun _ => rfl) rfl nw_11 nw_12 nw_13 q846 q848 q119 q850 hf hl dX3_power_26 (fun x5 h6 hf => ?_)
        refine v_irem C hf dX3_power_29 (fun x7 hf => ?_)
        refine v_istore (ls' := [(6, _), (5, _), (0, _), (1, _), (2, _), (3, _), (4, _)]) C dX3_power_30 (by decide) rfl ?_
        obtain ⟨x14, h15, eh15, hf, hlh15⟩ := mb_inv hf hl
        refine v_sub (ls' := _) [2, 3, 4, 5, 6, 1, 0] rfl (L32 a0 i1 i2 a3 i4 FU i4 x7 _ _ _ eh15 hlh15 ?_)
        refine v_aload_n C 3 dX3_power_66 rfl rfl ?_
        refine v_gR (Cn := RX3) (T := TX3) (N := 2) C hf in_X3 rfl (by decide) q248 rfl dX3_power_67 (fun x16 hf => ?_)
        refine v_iload C 4 dX3_power_70 rfl ?_
        refine v_iload C 5 dX3_power_72 rfl ?_
        refine v_i2b C dX3_power_74 ?_
        refine v_bastore C hf dX3_power_75 (fun h17 hf => ?_)
        refine v_iinc (ls' := [(4, _), (0, _), (1, _), (2, _), (3, _), (5, _)]) (y := i4 + (1 : Int32)) C 4 dX3_power_76 rfl rfl (by decide) rfl ?_
        refine v_goto (tgt := 11) C dX3_power_79 (by decide) ?_
        refine v_sub (ls' := _) [1, 2, 3, 4, 0] rfl (ih (i4 + (1 : Int32)) _ _ _ hf hl J)
  unfold f_X3_power at hf
  refine v_new (Cn := RX3) (T := TX3) (N := 2) (ty0 := tyX3) C hf hl in_X3 tyX3_ok rfl q1273 q243 q103 dvX3 dX3_power_0 (fun x1 h2 hf => ?_)
  refine v_dup C dX3_power_3 rfl ?_
  refine v_callI (stk := fun _ => [.ref x1]) C (ct_X3_init _ x1) nd_X3_init rfl (Nat.le_of_ble_eq_true rfl) (Nat.le_of_ble_eq_true rfl) [.ref x1] (Nat.le_of_ble_eq_true rfl) (fun _ => rfl) rfl rfl q1274 q245 q103 q246 hf hl dX3_power_4 (fun x3 h4 hf => ?_)
  refine v_astore_n (ls' := [(3, _), (0, _), (1, _), (2, _)]) C dX3_power_7 rfl (by decide) rfl ?_
  refine v_iconst (x := 0) C dX3_power_8 (by decide) ?_
  refine v_istore (ls' := [(4, _), (3, _), (0, _), (1, _), (2, _)]) C dX3_power_9 (by decide) rfl ?_
  obtain ⟨x18, h19, eh19, hf, hlh19⟩ := mb_inv hf hl
  refine v_sub (ls' := _) [2, 3, 4, 1, 0] rfl (L11 a0 i1 i2 x1 FU (0 : Int32) _ _ _ eh19 hlh19 ?_)
  refine v_aload_n C 0 dX3_power_82 rfl rfl ?_
  refine v_callV (stk := fun _ => []) C (ct_X3_turnBack _ x1) rfl ⟨rfl, nd_X3_turnBack⟩ rfl (Nat.le_of_ble_eq_true rfl) (Nat.le_of_ble_eq_true rfl) [] (Nat.le_of_ble_eq_true rfl) (fun _ => rfl) rfl q688 q690 qs6 q103 q691 hf hl dX3_power_83 (fun x20 h21 hf => ?_)
  refine v_aload_n C 0 dX3_power_86 rfl rfl ?_
  exact v_aret C E hf (Or.inl ⟨_, rfl⟩) dX3_power_87
def f_X4_init (a0 : Nat) : hM Unit :=
  mb (newO 19 4 [.null, .int 0, .int 0, .int 0]) fun x1 => mb (f_J4_init x1 (100 : Int32)) fun _ => mb (pF a0 4 0 (.ref x1)) fun _ => mret ()
theorem nd_X4_init : yX4_init.cls ≠ "java/lang/invoke/MethodHandle" ∧ yX4_init.cls ≠ "java/lang/invoke/VarHandle" ∧ (parseMethodDescriptor yX4_init.desc).map (fun d => d.parameters.length) = some 0 := by decide +kernel
set_option maxHeartbeats 4000000 in
theorem ct_X4_init (l : Launch) (a0 : Nat) : CT l yX4_init cX4_init 1 none 4 82 rv0 [.ref a0] (f_X4_init a0) := by
  refine CT_of (ls := [(0, .ref a0)]) (by decide) (Nat.le_of_ble_eq_true rfl) rfl ?_
  intro X h he z hX hf C E hnm hh
  have hl := hle.rf he
  subst hX
  unfold f_X4_init at hf
  refine v_aload_n C 0 dX4_init_0 rfl rfl ?_
  refine v_objInit C q276 q147 q148 (Nat.le_of_ble_eq_true rfl) (Nat.le_of_ble_eq_true rfl) dX4_init_1 ?_
  refine v_aload_n C 0 dX4_init_4 rfl rfl ?_
  refine v_new (Cn := RJ4) (T := TJ4) (N := 4) (ty0 := tyJ4) C hf hl in_J4 tyJ4_ok rfl q277 q278 q106 dvJ4 dX4_init_5 (fun x1 h2 hf => ?_)
  refine v_dup C dX4_init_8 rfl ?_
  refine v_bipush (x := 100) C dX4_init_9 (by decide) ?_
  refine v_callI (stk := fun _ => [.ref x1, .ref a0]) C (ct_J4_init _ x1 (100 : Int32)) nd_J4_init rfl (Nat.le_of_ble_eq_true rfl) (Nat.le_of_ble_eq_true rfl) [.ref x1, .ref a0] (Nat.le_of_ble_eq_true rfl) (fun _ => rfl) rfl rfl q279 q280 q106 q281 hf hl dX4_init_11 (fun x3 h4 hf => ?_)
  refine v_putvF (Cn := RX4) (T := TX4) (N := 2) (ty0 := tyX4) C hf in_X4 tyX4_ok nmX4 rfl (by decide) q390 rfl rfl rfl hnm rfl rfl dX4_init_14 (fun h5 hf => ?_)
  exact v_vret C E hf dX4_init_17
def l_X6_lay_28 (a0 : Nat) (i1 : Int32) (a2 : Nat) (i3 : Int32) : Nat → Int32 → hM (Unit)
  | 0, _ => mfail
  | n + 1, i4 => mb (gI a0 6 3) fun x7 => mi (x7 ≤ i4) (mret ()) (mb (gR a0 6 1) fun x8 => mb (aR 6 x8 i4) fun x9 => mb (gR a2 8 2) fun x10 => mb (aI 1 x10 i3) fun x11 => mb (mat x9 3 (f_X3_to x9 x11)) fun x12 => mb (gR a0 6 2) fun x14 => mb (aI 1 x14 i4) fun x15 => mb (mi (x15 < i1) (mret ()) (mb (gI a2 8 3) fun x17 => mb (f_X0_has x17 x12) fun x18 => mi (¬ x18 = 0) (mret ()) (mb (mat a2 8 (f_X8_reach a2 x12)) fun x20 => mb (gR a2 8 1) fun x22 => mb (gR a2 8 2) fun x23 => mb (aI 1 x23 i3) fun x24 => mb (aR 6 x22 x24) fun x25 => mb (mat x20 3 (f_X3_take x20 x25)) fun x26 => mb (gR a0 6 1) fun x28 => mb (aR 6 x28 i4) fun x29 => mb (mat x26 3 (f_X3_then x26 x29)) fun x30 => mret ()))) fun _ => l_X6_lay_28 a0 i1 a2 i3 n (i4 + (1 : Int32)))
def l_X6_lay_17 (a0 : Nat) (i1 : Int32) (a2 : Nat) : Nat → Int32 → hM (Unit)
  | 0, _ => mfail
  | n + 1, i3 => mb (gI a2 8 4) fun x6 => mi (x6 ≤ i3) (mret ()) (mb (l_X6_lay_28 a0 i1 a2 i3 FU (0 : Int32)) fun x32 => l_X6_lay_17 a0 i1 a2 n (i3 + (1 : Int32)))
def f_X6_lay (a0 : Nat) (i1 : Int32) : hM Unit :=
  mb (gR a0 6 0) fun x1 => mb (aR 7 x1 i1) fun x2 => mb (gR a0 6 5) fun x3 => mb (mat x2 8 (f_X8_begin x2 x3)) fun _ => mb (l_X6_lay_17 a0 i1 x2 FU (0 : Int32)) fun x34 => mret ()
theorem nd_X6_lay : yX6_lay.cls ≠ "java/lang/invoke/MethodHandle" ∧ yX6_lay.cls ≠ "java/lang/invoke/VarHandle" ∧ (parseMethodDescriptor yX6_lay.desc).map (fun d => d.parameters.length) = some 1 := by decide +kernel
set_option maxHeartbeats 4000000 in
theorem ct_X6_lay (l : Launch) (a0 : Nat) (i1 : Int32) : CT l yX6_lay cX6_lay 6 none 5 107 rv0 [.ref a0, .int i1] (f_X6_lay a0 i1) := by
  refine CT_of (ls := [(0, .ref a0), (1, .int i1)]) (by decide) (Nat.le_of_ble_eq_true rfl) rfl ?_
  intro X h he z hX hf C E hnm hh
  have hl := hle.rf he
  subst hX
  have L28 : ∀ (a0 : Nat) (i1 : Int32) (a2 : Nat) (i3 : Int32) (n : Nat) (i4 : Int32) (h h1 : Hp) (o : Unit), (l_X6_lay_28 a0 i1 a2 i3 n i4).1 h = some (o, h1) → hle h1 he → V X h1 115 [(0, .ref a0), (1, .int i1), (2, .ref a2), (3, .int i3)] [] → V X h 28 [(0, .ref a0), (1, .int i1), (2, .ref a2), (3, .int i3), (4, .int i4)] [] := by
    intro a0 i1 a2 i3 n
    induction n with
    | zero => intro i4 h h1 o hf; exact mfail_inv hf
    | succ n ih =>
      intro i4 h h1 o hf hl J
      rw [l_X6_lay_28] at hf
      refine v_iload C 4 dX6_lay_28 rfl ?_
      refine v_aload_n C 0 dX6_lay_30 rfl rfl ?_
      refine v_gI (Cn := RX6) (T := TX6) (N := 6) C hf in_X6 rfl (by decide) q469 rfl dX6_lay_31 (fun x7 hf => ?_)
      refine v_icmp_ge C hf (tgt := 115) dX6_lay_34 (by decide) (fun c34 hf => ?_) (fun c34 hf => ?_)
      · obtain ⟨e1, rfl⟩ := mret_inv hf
        subst e1
        exact v_sub (ls' := _) [0, 1, 2, 3] rfl J
      · refine v_aload_n C 0 dX6_lay_37 rfl rfl ?_
        refine v_gR (Cn := RX6) (T := TX6) (N := 6) C hf in_X6 rfl (by decide) q467 rfl dX6_lay_38 (fun x8 hf => ?_)
        refine v_iload C 4 dX6_lay_41 rfl ?_
        refine v_aaload C hf (by decide) rfl dX6_lay_43 (fun x9 hf => ?_)
        refine v_aload_n C 2 dX6_lay_44 rfl rfl ?_
        refine v_gRN (Cn := RX8) (T := TX8) (N := 5) C hf in_X8 rfl (by decide) q450 rfl dX6_lay_45 (fun x10 hf => ?_)
        refine v_iload_n C 3 dX6_lay_48 rfl rfl ?_
        refine v_iaload C hf dX6_lay_49 (fun x11 hf => ?_)
        refine v_callV (stk := fun b => .int b :: []) C (ct_X3_to _ x9 x11) rfl ⟨rfl, nd_X3_to⟩ rfl (Nat.le_of_ble_eq_true rfl) (Nat.le_of_ble_eq_true rfl) [] (Nat.le_of_ble_eq_true rfl) (fun _ => rfl) rfl q1399 q646 q2328 q103 q648 hf hl dX6_lay_50 (fun x12 h13 hf => ?_)
        refine v_istore (ls' := [(5, _), (0, _), (1, _), (2, _), (3, _), (4, _)]) C dX6_lay_53 (by decide) rfl ?_
        refine v_aload_n C 1 dX6_lay_55 rfl rfl ?_
        refine v_gR (Cn := RX6) (T := TX6) (N := 6) C hf in_X6 rfl (by decide) q468 rfl dX6_lay_56 (fun x14 hf => ?_)
        refine v_iload C 5 dX6_lay_59 rfl ?_
        refine v_iaload C hf dX6_lay_61 (fun x15 hf => ?_)
        refine v_iload_n C 2 dX6_lay_62 rfl rfl ?_
        obtain ⟨_u, h16, hAh16, hf, hlh16⟩ := mb_inv hf hl
        refine v_cut (h1 := h16) (pc1 := 109) (ls1 := [(0, .ref a0), (1, .int i1), (2, .ref a2), (3, .int i3), (4, .int i4)]) (st1 := []) ?_ (fun Jh16 => ?_)
        · clear hAh16 hlh16
          refine v_iinc (ls' := [(4, _), (0, _), (1, _), (2, _), (3, _)]) (y := i4 + (1 : Int32)) C 4 dX6_lay_109 rfl rfl (by decide) rfl ?_
          refine v_goto (tgt := 28) C dX6_lay_112 (by decide) ?_
          refine v_sub (ls' := _) [1, 2, 3, 4, 0] rfl (ih (i4 + (1 : Int32)) _ _ _ hf hl J)
        · clear hf
          have hf := hAh16
          have hl := hlh16
          refine v_icmp_lt C hf (tgt := 109) dX6_lay_63 (by decide) (fun c63 hf => ?_) (fun c63 hf => ?_)
          · obtain ⟨e1, rfl⟩ := mret_inv hf
            exact v_sub (ls' := _) [1, 2, 3, 4, 5] rfl Jh16
          · refine v_aload_n C 3 dX6_lay_66 rfl rfl ?_
            refine v_gIN (Cn := RX8) (T := TX8) (N := 5) C hf in_X8 rfl (by decide) q452 rfl dX6_lay_67 (fun x17 hf => ?_)
            refine v_iload C 0 dX6_lay_70 rfl ?_
            refine v_callSN (stk := fun b => .int b :: []) C (ct_X0_has _ x17 x12) nd_X0_has rfl (Nat.le_of_ble_eq_true rfl) (Nat.le_of_ble_eq_true rfl) [] (Nat.le_of_ble_eq_true rfl) (fun _ => rfl) rfl q1390 q164 q96 q165 hf hl dX6_lay_72 (fun x18 h19 hf => ?_)
            refine v_if_ne C hf (tgt := 109) dX6_lay_75 (by decide) (fun c75 hf => ?_) (fun c75 hf => ?_)
            · obtain ⟨e1, rfl⟩ := mret_inv hf
              exact v_sub (ls' := _) [1, 2, 3, 4, 5] rfl Jh16
            · refine v_aload_n C 3 dX6_lay_78 rfl rfl ?_
              refine v_iload C 0 dX6_lay_79 rfl ?_
              refine v_callV (stk := fun b => .ref b :: []) C (ct_X8_reach _ a2 x12) rfl ⟨rfl, nd_X8_reach⟩ rfl (Nat.le_of_ble_eq_true rfl) (Nat.le_of_ble_eq_true rfl) [] (Nat.le_of_ble_eq_true rfl) (fun _ => rfl) rfl q1419 q1414 q1415 q116 q1416 hf hl dX6_lay_81 (fun x20 h21 hf => ?_)
              refine v_aload_n C 3 dX6_lay_84 rfl rfl ?_
              refine v_gRN (Cn := RX8) (T := TX8) (N := 5) C hf in_X8 rfl (by decide) q448 rfl dX6_lay_85 (fun x22 hf => ?_)
              refine v_aload_n C 3 dX6_lay_88 rfl rfl ?_
              refine v_gRN (Cn := RX8) (T := TX8) (N := 5) C hf in_X8 rfl (by decide) q450 rfl dX6_lay_89 (fun x23 hf => ?_)
              refine v_iload_n C 4 dX6_lay_92 rfl rfl ?_
              refine v_iaload C hf dX6_lay_93 (fun x24 hf => ?_)
              refine v_aaload C hf (by decide) rfl dX6_lay_94 (fun x25 hf => ?_)
              refine v_callV (stk := fun b => .ref b :: []) C (ct_X3_take _ x20 x25) rfl ⟨rfl, nd_X3_take⟩ rfl (Nat.le_of_ble_eq_true rfl) (Nat.le_of_ble_eq_true rfl) [] (Nat.le_of_ble_eq_true rfl) (fun _ => rfl) rfl q1400 q636 q637 q103 q638 hf hl dX6_lay_95 (fun x26 h27 hf => ?_)
              refine v_aload_n C 1 dX6_lay_98 rfl rfl ?_
              refine v_gR (Cn := RX6) (T := TX6) (N := 6) C hf in_X6 rfl (by decide) q467 rfl dX6_lay_99 (fun x28 hf => ?_)
              refine v_iload C 5 dX6_lay_102 rfl ?_
              refine v_aaload C hf (by decide) rfl dX6_lay_104 (fun x29 hf => ?_)
              refine v_callV (stk := fun b => .ref b :: []) C (ct_X3_then _ x26 x29) rfl ⟨rfl, nd_X3_then⟩ rfl (Nat.le_of_ble_eq_true rfl) (Nat.le_of_ble_eq_true rfl) [] (Nat.le_of_ble_eq_true rfl) (fun _ => rfl) rfl q1420 q1276 q1277 q103 q1278 hf hl dX6_lay_105 (fun x30 h31 hf => ?_)
              refine v_pop C dX6_lay_108 rfl ?_
              obtain ⟨e1, rfl⟩ := mret_inv hf
              exact v_sub (ls' := _) [1, 2, 3, 4, 5] rfl Jh16
  have L17 : ∀ (a0 : Nat) (i1 : Int32) (a2 : Nat) (n : Nat) (i3 : Int32) (h h1 : Hp) (o : Unit), (l_X6_lay_17 a0 i1 a2 n i3).1 h = some (o, h1) → hle h1 he → V X h1 121 [] [] → V X h 17 [(0, .ref a0), (1, .int i1), (2, .ref a2), (3, .int i3)] [] := by
    intro a0 i1 a2 n
    induction n with
    | zero => intro i3 h h1 o hf; exact mfail_inv hf
    | succ n ih =>
      intro i3 h h1 o hf hl J
      rw [l_X6_lay_17] at hf
      refine v_iload_n C 3 dX6_lay_17 rfl rfl ?_
      refine v_aload_n C 2 dX6_lay_18 rfl rfl ?_
      refine v_gIN (Cn := RX8) (T := TX8) (N := 5) C hf in_X8 rfl (by decide) q454 rfl dX6_lay_19 (fun x6 hf => ?_)
      refine v_icmp_ge C hf (tgt := 121) dX6_lay_22 (by decide) (fun c22 hf => ?_) (fun c22 hf => ?_)
      · obtain ⟨e1, rfl⟩ := mret_inv hf
        subst e1
        exact v_sub (ls' := _) [] rfl J
      · refine v_iconst (x := 0) C dX6_lay_25 (by decide) ?_
        refine v_istore (ls' := [(4, _), (0, _), (1, _), (2, _), (3, _)]) C dX6_lay_26 (by decide) rfl ?_
        obtain ⟨x32, h33, eh33, hf, hlh33⟩ := mb_inv hf hl
        refine v_sub (ls' := _) [1, 2, 3, 4, 0] rfl (L28 a0 i1 a2 i3 FU (0 : Int32) _ _ _ eh33 hlh33 ?_)
        refine v_iinc (ls' := [(3, _), (0, _), (1, _), (2, _)]) (y := i3 + (1 : Int32)) C 3 dX6_lay_115 rfl rfl (by decide) rfl ?_
        refine v_goto (tgt := 17) C dX6_lay_118 (by decide) ?_
        refine v_sub (ls' := _) [1, 2, 3, 0] rfl (ih (i3 + (1 : Int32)) _ _ _ hf hl J)
  unfold f_X6_lay at hf
  refine v_aload_n C 0 dX6_lay_0 rfl rfl ?_
  refine v_gR (Cn := RX6) (T := TX6) (N := 6) C hf in_X6 rfl (by decide) q466 rfl dX6_lay_1 (fun x1 hf => ?_)
  refine v_iload_n C 1 dX6_lay_4 rfl rfl ?_
  refine v_aaload C hf (by decide) rfl dX6_lay_5 (fun x2 hf => ?_)
  refine v_astore_n (ls' := [(2, _), (0, _), (1, _)]) C dX6_lay_6 rfl (by decide) rfl ?_
  refine v_aload_n C 0 dX6_lay_7 rfl rfl ?_
  refine v_aload_n C 1 dX6_lay_8 rfl rfl ?_
  refine v_gR (Cn := RX6) (T := TX6) (N := 6) C hf in_X6 rfl (by decide) q471 rfl dX6_lay_9 (fun x3 hf => ?_)
  refine v_callV (stk := fun _ => []) C (ct_X8_begin _ x2 x3) rfl ⟨rfl, nd_X8_begin⟩ rfl (Nat.le_of_ble_eq_true rfl) (Nat.le_of_ble_eq_true rfl) [] (Nat.le_of_ble_eq_true rfl) (fun _ => rfl) rfl q1409 q1410 q1411 q116 q1412 hf hl dX6_lay_12 (fun x4 h5 hf => ?_)
  refine v_iconst (x := 0) C dX6_lay_15 (by decide) ?_
  refine v_istore_n (ls' := [(3, _), (2, _), (0, _), (1, _)]) C dX6_lay_16 rfl (by decide) rfl ?_
  obtain ⟨x34, h35, eh35, hf, hlh35⟩ := mb_inv hf hl
  refine v_sub (ls' := _) [2, 3, 1, 0] rfl (L17 a0 i1 x2 FU (0 : Int32) _ _ _ eh35 hlh35 ?_)
  exact v_vret C E hf dX6_lay_121
def d_X19_next (a : Nat) (i1 : Int32) (b2 : Nat) : hM Int32 := mb (gC a) fun c => mi (c = 16) (mat a 16 (f_X20_next a i1 b2)) (mi (c = 17) (mat a 17 (f_X21_next a i1 b2)) (mi (c = 18) (mat a 18 (f_X22_next a i1 b2)) (mfail)))
theorem ndx_X19_next : ({ cls := "EightBlocks$Things", name := "next", desc := "(ILEightBlocks$Move;)I" } : Jvm.MethodName).cls ≠ "java/lang/invoke/MethodHandle" ∧ ({ cls := "EightBlocks$Things", name := "next", desc := "(ILEightBlocks$Move;)I" } : Jvm.MethodName).cls ≠ "java/lang/invoke/VarHandle" ∧ (parseMethodDescriptor ({ cls := "EightBlocks$Things", name := "next", desc := "(ILEightBlocks$Move;)I" } : Jvm.MethodName).desc).map (fun d => d.parameters.length) = some 2 := by decide +kernel
theorem v_d_X19_next {X : hX} {own : String} {cc : ByteArray} {nL : Nat} {ret : Option FieldType} {he : Hp} {F L : Nat} {h hr : Hp} {pc : Nat} {ls : List (Nat × Value)} {st : List Value} {α : Type} {v : α} (C : Cx X own cc nL ret he F L) {index cnt : Nat} (a : Nat) (i1 : Int32) (b2 : Nat) {k : Int32 → hM α} (rest : List Value) (hF : 5 ≤ F) (hL : 109 ≤ L) (hcat : (rest.map fun v => v.category).sum ≤ 8) (hst : st = .ref b2 :: .int i1 :: .ref a :: rest) (w1 : Jvm.Cond.methodLink own index ({ cls := "EightBlocks$Things", name := "next", desc := "(ILEightBlocks$Move;)I" } : Jvm.MethodName) ∈ lw_all) (hf : (mb (d_X19_next a i1 b2) k).1 h = some (v, hr)) (hl : hle hr he) (d : decode cc pc = .ok (.invokeinterface index cnt, 5)) (kk : ∀ (b : Int32) (h1 : Hp), (k b).1 h1 = some (v, hr) → V X h1 (pc + 5) ls (.int b :: rest)) : V X h pc ls st := by
  unfold d_X19_next at hf
  obtain ⟨c, hf⟩ := dsp_inv hf
  rcases mb_mi hf with ⟨_, hf⟩ | ⟨_, hf⟩
  · exact v_callF (stk := fun b => .int b :: rest) C (ct_X20_next _ a i1 b2) rfl ndx_X19_next rfl (Nat.le_trans (Nat.le_of_ble_eq_true rfl) hF) (Nat.le_trans (Nat.le_of_ble_eq_true rfl) hL) rest hcat (fun _ => rfl) hst w1 q1531 q1533 q135 q1535 q1530 q1529 q1534 q1532 q1475 hf hl d kk
  rcases mb_mi hf with ⟨_, hf⟩ | ⟨_, hf⟩
  · exact v_callF (stk := fun b => .int b :: rest) C (ct_X21_next _ a i1 b2) rfl ndx_X19_next rfl (Nat.le_trans (Nat.le_of_ble_eq_true rfl) hF) (Nat.le_trans (Nat.le_of_ble_eq_true rfl) hL) rest hcat (fun _ => rfl) hst w1 q1537 q1539 q136 q1541 q1530 q1529 q1540 q1538 q1496 hf hl d kk
  rcases mb_mi hf with ⟨_, hf⟩ | ⟨_, hf⟩
  · exact v_callF (stk := fun b => .int b :: rest) C (ct_X22_next _ a i1 b2) rfl ndx_X19_next rfl (Nat.le_trans (Nat.le_of_ble_eq_true rfl) hF) (Nat.le_trans (Nat.le_of_ble_eq_true rfl) hL) rest hcat (fun _ => rfl) hst w1 q1546 q1548 q137 q1550 q1530 q1529 q1549 q1547 q1502 hf hl d kk
  exact mb_fail hf
def l_X9_spread_40 (a0 : Nat) (a1 : Nat) (a3 : Nat) (i4 : Int32) (i7 : Int32) : Nat → Int32 → Int32 → Int32 → hM (Int32 × Int32)
  | 0, _, _, _ => mfail
  | n + 1, i5, i6, i8 => mi ((4 : Int32) ≤ i8) (mret (i5, i6)) (mb (f_X0_has i4 i8) fun x7 => mb (mi (x7 = 0) (mret i7) (mb (gR a3 2 0) fun x20 => mb (aR 6 x20 i8) fun x21 => mb (d_X19_next a1 i7 x21) fun x22 => mret x22)) fun x9 => mb (gR a0 9 0) fun x11 => mb (aI 2 x11 x9) fun x12 => mb (mi (¬ x12 = 0) (mret (i5, i6)) (mb (gR a0 9 0) fun x16 => mb (sI 2 x16 x9 (1 : Int32)) fun _ => mb (gR a0 9 1) fun x18 => mb (sI 1 x18 i5 x9) fun _ => mret (i5 + (1 : Int32), i6 + (1 : Int32)))) fun ⟨x13, x14⟩ => l_X9_spread_40 a0 a1 a3 i4 i7 n x13 x14 (i8 + (1 : Int32)))
def l_X9_spread_20 (a0 : Nat) (a1 : Nat) (a3 : Nat) (i4 : Int32) : Nat → Int32 → Int32 → hM (Int32)
  | 0, _, _ => mfail
  | n + 1, i5, i6 => mi (i5 ≤ 0) (mret i6) (mb (gR a0 9 1) fun x5 => mb (aI 1 x5 (i5 + (-1 : Int32))) fun x6 => mb (l_X9_spread_40 a0 a1 a3 i4 x6 FU (i5 + (-1 : Int32)) i6 (0 : Int32)) fun x24 => l_X9_spread_20 a0 a1 a3 i4 n x24.1 x24.2)
def f_X9_spread (a0 : Nat) (a1 : Nat) (i2 : Int32) (a3 : Nat) (i4 : Int32) : hM Int32 :=
  mb (gR a0 9 1) fun x1 => mb (sI 1 x1 (0 : Int32) i2) fun _ => mb (gR a0 9 0) fun x3 => mb (sI 2 x3 i2 (1 : Int32)) fun _ => mb (l_X9_spread_20 a0 a1 a3 i4 FU (1 : Int32) (1 : Int32)) fun x26 => mret x26
theorem nd_X9_spread : yX9_spread.cls ≠ "java/lang/invoke/MethodHandle" ∧ yX9_spread.cls ≠ "java/lang/invoke/VarHandle" ∧ (parseMethodDescriptor yX9_spread.desc).map (fun d => d.parameters.length) = some 4 := by decide +kernel
set_option maxHeartbeats 4000000 in
theorem ct_X9_spread (l : Launch) (a0 : Nat) (a1 : Nat) (i2 : Int32) (a3 : Nat) (i4 : Int32) : CT l yX9_spread cX9_spread 10 (some .int) 5 109 rvI [.ref a0, .ref a1, .int i2, .ref a3, .int i4] (f_X9_spread a0 a1 i2 a3 i4) := by
  refine CT_of (ls := [(0, .ref a0), (1, .ref a1), (2, .int i2), (3, .ref a3), (4, .int i4)]) (by decide) (Nat.le_of_ble_eq_true rfl) rfl ?_
  intro X h he z hX hf C E hnm hh
  have hl := hle.rf he
  subst hX
  have L40 : ∀ (a0 : Nat) (a1 : Nat) (a3 : Nat) (i4 : Int32) (i7 : Int32) (n : Nat) (i5 : Int32) (i6 : Int32) (i8 : Int32) (h h1 : Hp) (o : Int32 × Int32), (l_X9_spread_40 a0 a1 a3 i4 i7 n i5 i6 i8).1 h = some (o, h1) → hle h1 he → V X h1 117 [(0, .ref a0), (1, .ref a1), (3, .ref a3), (4, .int i4), (5, .int o.1), (6, .int o.2)] [] → V X h 40 [(0, .ref a0), (1, .ref a1), (3, .ref a3), (4, .int i4), (5, .int i5), (6, .int i6), (7, .int i7), (8, .int i8)] [] := by
    intro a0 a1 a3 i4 i7 n
    induction n with
    | zero => intro i5 i6 i8 h h1 o hf; exact mfail_inv hf
    | succ n ih =>
      intro i5 i6 i8 h h1 o hf hl J
      rw [l_X9_spread_40] at hf
      refine v_iload C 7 dX9_spread_40 rfl ?_
      refine v_iconst (x := 4) C dX9_spread_42 (by decide) ?_
      refine v_icmp_ge C hf (tgt := 117) dX9_spread_43 (by decide) (fun c43 hf => ?_) (fun c43 hf => ?_)
      · obtain ⟨e1, rfl⟩ := mret_inv hf
        subst e1
        exact v_sub (ls' := _) [0, 1, 2, 3, 4, 5] rfl J
      · refine v_iload C 3 dX9_spread_46 rfl ?_
        refine v_iload C 7 dX9_spread_48 rfl ?_
        refine v_callSN (stk := fun b => .int b :: []) C (ct_X0_has _ i4 i8) nd_X0_has rfl (Nat.le_of_ble_eq_true rfl) (Nat.le_of_ble_eq_true rfl) [] (Nat.le_of_ble_eq_true rfl) (fun _ => rfl) rfl q1526 q164 q96 q165 hf hl dX9_spread_50 (fun x7 h8 hf => ?_)
        obtain ⟨x9, h10, hAh10, hf, hlh10⟩ := mb_inv hf hl
        refine v_cut (h1 := h10) (pc1 := 76) (ls1 := [(0, .ref a0), (1, .ref a1), (3, .ref a3), (4, .int i4), (5, .int i5), (6, .int i6), (7, .int i7), (8, .int i8)]) (st1 := [.int x9]) ?_ (fun Jh10 => ?_)
        · clear hAh10 hlh10
          refine v_istore (ls' := [(9, _), (0, _), (1, _), (3, _), (4, _), (5, _), (6, _), (7, _), (8, _)]) C dX9_spread_76 (by decide) rfl ?_
          refine v_aload_n C 1 dX9_spread_78 rfl rfl ?_
          refine v_gR (Cn := RX9) (T := TX9) (N := 2) C hf in_X9 rfl (by decide) q491 rfl dX9_spread_79 (fun x11 hf => ?_)
          refine v_iload C 0 dX9_spread_82 rfl ?_
          refine v_zaload C hf dX9_spread_84 (fun x12 hf => ?_)
          obtain ⟨⟨x13, x14⟩, h15, hAh15, hf, hlh15⟩ := mb_inv hf hl
          refine v_cut (h1 := h15) (pc1 := 111) (ls1 := [(0, .ref a0), (1, .ref a1), (3, .ref a3), (4, .int i4), (5, .int x13), (6, .int x14), (7, .int i7), (8, .int i8)]) (st1 := []) ?_ (fun Jh15 => ?_)
          · clear hAh15 hlh15
            refine v_iinc (ls' := [(8, _), (0, _), (1, _), (3, _), (4, _), (5, _), (6, _), (7, _)]) (y := i8 + (1 : Int32)) C 7 dX9_spread_111 rfl rfl (by decide) rfl ?_
            refine v_goto (tgt := 40) C dX9_spread_114 (by decide) ?_
            refine v_sub (ls' := _) [1, 2, 3, 4, 5, 6, 7, 0] rfl (ih x13 x14 (i8 + (1 : Int32)) _ _ _ hf hl J)
          · clear hf
            have hf := hAh15
            have hl := hlh15
            refine v_if_ne C hf (tgt := 111) dX9_spread_85 (by decide) (fun c85 hf => ?_) (fun c85 hf => ?_)
            · obtain ⟨e1, rfl⟩ := mret_inv hf
              simp only [Prod.mk.injEq] at e1
              obtain ⟨rfl, rfl⟩ := e1
              exact v_sub (ls' := _) [1, 2, 3, 4, 5, 6, 7, 8] rfl Jh15
            · refine v_aload_n C 1 dX9_spread_88 rfl rfl ?_
              refine v_gR (Cn := RX9) (T := TX9) (N := 2) C hf in_X9 rfl (by decide) q491 rfl dX9_spread_89 (fun x16 hf => ?_)
              refine v_iload C 0 dX9_spread_92 rfl ?_
              refine v_iconst (x := 1) C dX9_spread_94 (by decide) ?_
              refine v_zastore C hf dX9_spread_95 (fun h17 hf => ?_)
              refine v_aload_n C 1 dX9_spread_96 rfl rfl ?_
              refine v_gR (Cn := RX9) (T := TX9) (N := 2) C hf in_X9 rfl (by decide) q493 rfl dX9_spread_97 (fun x18 hf => ?_)
              refine v_iload C 5 dX9_spread_100 rfl ?_
              refine v_iload C 0 dX9_spread_102 rfl ?_
              refine v_iastore C hf dX9_spread_104 (fun h19 hf => ?_)
              refine v_iinc (ls' := [(5, _), (9, _), (0, _), (1, _), (3, _), (4, _), (6, _), (7, _), (8, _)]) (y := i5 + (1 : Int32)) C 5 dX9_spread_105 rfl rfl (by decide) rfl ?_
              refine v_iinc (ls' := [(6, _), (5, _), (9, _), (0, _), (1, _), (3, _), (4, _), (7, _), (8, _)]) (y := i6 + (1 : Int32)) C 6 dX9_spread_108 rfl rfl (by decide) rfl ?_
              obtain ⟨e1, rfl⟩ := mret_inv hf
              simp only [Prod.mk.injEq] at e1
              obtain ⟨rfl, rfl⟩ := e1
              exact v_sub (ls' := _) [3, 4, 5, 6, 1, 0, 7, 8] rfl Jh15
        · clear hf
          have hf := hAh10
          have hl := hlh10
          refine v_if_eq C hf (tgt := 74) dX9_spread_53 (by decide) (fun c53 hf => ?_) (fun c53 hf => ?_)
          · refine v_iload C 6 dX9_spread_74 rfl ?_
            obtain ⟨e1, rfl⟩ := mret_inv hf
            subst e1
            exact v_sub (ls' := _) [0, 1, 2, 3, 4, 5, 6, 7] rfl Jh10
          · refine v_aload_n C 1 dX9_spread_56 rfl rfl ?_
            refine v_iload C 6 dX9_spread_57 rfl ?_
            refine v_aload_n C 2 dX9_spread_59 rfl rfl ?_
            refine v_gRN (Cn := RX2) (T := TX2) (N := 3) C hf in_X2 rfl (by decide) q258 rfl dX9_spread_60 (fun x20 hf => ?_)
            refine v_iload C 7 dX9_spread_63 rfl ?_
            refine v_aaload C hf (by decide) rfl dX9_spread_65 (fun x21 hf => ?_)
            refine v_d_X19_next C a1 i7 x21 [] (Nat.le_of_ble_eq_true rfl) (Nat.le_of_ble_eq_true rfl) (Nat.le_of_ble_eq_true rfl) rfl q1528 hf hl dX9_spread_66 (fun x22 h23 hf => ?_)
            refine v_goto (tgt := 76) C dX9_spread_71 (by decide) ?_
            obtain ⟨e1, rfl⟩ := mret_inv hf
            subst e1
            exact v_sub (ls' := _) [0, 1, 2, 3, 4, 5, 6, 7] rfl Jh10
  have L20 : ∀ (a0 : Nat) (a1 : Nat) (a3 : Nat) (i4 : Int32) (n : Nat) (i5 : Int32) (i6 : Int32) (h h1 : Hp) (o : Int32), (l_X9_spread_20 a0 a1 a3 i4 n i5 i6).1 h = some (o, h1) → hle h1 he → V X h1 120 [(6, .int o)] [] → V X h 20 [(0, .ref a0), (1, .ref a1), (3, .ref a3), (4, .int i4), (5, .int i5), (6, .int i6)] [] := by
    intro a0 a1 a3 i4 n
    induction n with
    | zero => intro i5 i6 h h1 o hf; exact mfail_inv hf
    | succ n ih =>
      intro i5 i6 h h1 o hf hl J
      rw [l_X9_spread_20] at hf
      refine v_iload C 4 dX9_spread_20 rfl ?_
      refine v_if_le C hf (tgt := 120) dX9_spread_22 (by decide) (fun c22 hf => ?_) (fun c22 hf => ?_)
      · obtain ⟨e1, rfl⟩ := mret_inv hf
        subst e1
        exact v_sub (ls' := _) [5] rfl J
      · refine v_iinc (ls' := [(5, _), (0, _), (1, _), (3, _), (4, _), (6, _)]) (y := i5 + (-1 : Int32)) C 4 dX9_spread_25 rfl rfl (by decide) rfl ?_
        refine v_aload_n C 1 dX9_spread_28 rfl rfl ?_
        refine v_gR (Cn := RX9) (T := TX9) (N := 2) C hf in_X9 rfl (by decide) q493 rfl dX9_spread_29 (fun x5 hf => ?_)
        refine v_iload C 0 dX9_spread_32 rfl ?_
        refine v_iaload C hf dX9_spread_34 (fun x6 hf => ?_)
        refine v_istore (ls' := [(7, _), (5, _), (0, _), (1, _), (3, _), (4, _), (6, _)]) C dX9_spread_35 (by decide) rfl ?_
        refine v_iconst (x := 0) C dX9_spread_37 (by decide) ?_
        refine v_istore (ls' := [(8, _), (7, _), (5, _), (0, _), (1, _), (3, _), (4, _), (6, _)]) C dX9_spread_38 (by decide) rfl ?_
        obtain ⟨x24, h25, eh25, hf, hlh25⟩ := mb_inv hf hl
        refine v_sub (ls' := _) [3, 4, 5, 6, 2, 7, 1, 0] rfl (L40 a0 a1 a3 i4 x6 FU (i5 + (-1 : Int32)) i6 (0 : Int32) _ _ _ eh25 hlh25 ?_)
        refine v_goto (tgt := 20) C dX9_spread_117 (by decide) ?_
        refine v_sub (ls' := _) [0, 1, 2, 3, 4, 5] rfl (ih x24.1 x24.2 _ _ _ hf hl J)
  unfold f_X9_spread at hf
  refine v_iconst (x := 1) C dX9_spread_0 (by decide) ?_
  refine v_istore (ls' := [(5, _), (0, _), (1, _), (2, _), (3, _), (4, _)]) C dX9_spread_1 (by decide) rfl ?_
  refine v_iconst (x := 1) C dX9_spread_3 (by decide) ?_
  refine v_istore (ls' := [(6, _), (5, _), (0, _), (1, _), (2, _), (3, _), (4, _)]) C dX9_spread_4 (by decide) rfl ?_
  refine v_aload_n C 2 dX9_spread_6 rfl rfl ?_
  refine v_gR (Cn := RX9) (T := TX9) (N := 2) C hf in_X9 rfl (by decide) q493 rfl dX9_spread_7 (fun x1 hf => ?_)
  refine v_iconst (x := 0) C dX9_spread_10 (by decide) ?_
  refine v_iload_n C 4 dX9_spread_11 rfl rfl ?_
  refine v_iastore C hf dX9_spread_12 (fun h2 hf => ?_)
  refine v_aload_n C 2 dX9_spread_13 rfl rfl ?_
  refine v_gR (Cn := RX9) (T := TX9) (N := 2) C hf in_X9 rfl (by decide) q491 rfl dX9_spread_14 (fun x3 hf => ?_)
  refine v_iload_n C 4 dX9_spread_17 rfl rfl ?_
  refine v_iconst (x := 1) C dX9_spread_18 (by decide) ?_
  refine v_zastore C hf dX9_spread_19 (fun h4 hf => ?_)
  obtain ⟨x26, h27, eh27, hf, hlh27⟩ := mb_inv hf hl
  refine v_sub (ls' := _) [2, 3, 5, 6, 1, 0] rfl (L20 a0 a1 a3 i4 FU (1 : Int32) (1 : Int32) _ _ _ eh27 hlh27 ?_)
  refine v_iload C 0 dX9_spread_120 rfl ?_
  exact v_iret C E hf dX9_spread_122
def f_J3_inflateIfNeededFor (a0 : Nat) (a1 : Nat) : hM Unit :=
  mb (mi ((1 : Int32) = 0) (mret ()) (mb (gI a0 19 1) fun x2 => mb (mat a1 20 (f_J5_coder a1)) fun x3 => mi (x2 = x3) (mret ()) (mb (mat a0 19 (f_J3_inflate a0)) fun _ => mret ()))) fun _ => mret ()
theorem nd_J3_inflateIfNeededFor : yJ3_inflateIfNeededFor.cls ≠ "java/lang/invoke/MethodHandle" ∧ yJ3_inflateIfNeededFor.cls ≠ "java/lang/invoke/VarHandle" ∧ (parseMethodDescriptor yJ3_inflateIfNeededFor.desc).map (fun d => d.parameters.length) = some 1 := by decide +kernel
set_option maxHeartbeats 4000000 in
theorem ct_J3_inflateIfNeededFor (l : Launch) (a0 : Nat) (a1 : Nat) : CT l yJ3_inflateIfNeededFor cJ3_inflateIfNeededFor 2 none 5 114 rv0 [.ref a0, .ref a1] (f_J3_inflateIfNeededFor a0 a1) := by
  refine CT_of (ls := [(0, .ref a0), (1, .ref a1)]) (by decide) (Nat.le_of_ble_eq_true rfl) rfl ?_
  intro X h he z hX hf C E hnm hh
  have hl := hle.rf he
  subst hX
  unfold f_J3_inflateIfNeededFor at hf
  refine v_getsI (z := 1) C q287 q107 nw_0 q286 rfl dJ3_inflateIfNeededFor_0 ?_
  obtain ⟨_u, h1, hAh1, hf, hlh1⟩ := mb_inv hf hl
  refine v_cut (h1 := h1) (pc1 := 21) (ls1 := []) (st1 := []) ?_ (fun Jh1 => ?_)
  · clear hAh1 hlh1
    exact v_vret C E hf dJ3_inflateIfNeededFor_21
  · clear hf
    have hf := hAh1
    have hl := hlh1
    refine v_if_eq C hf (tgt := 21) dJ3_inflateIfNeededFor_3 (by decide) (fun c3 hf => ?_) (fun c3 hf => ?_)
    · obtain ⟨e1, rfl⟩ := mret_inv hf
      exact v_sub (ls' := _) [] rfl Jh1
    · refine v_aload_n C 0 dJ3_inflateIfNeededFor_6 rfl rfl ?_
      refine v_gI (Cn := RJ4) (T := TJ4) (N := 4) C hf in_J4 rfl (by decide) q377 rfl dJ3_inflateIfNeededFor_7 (fun x2 hf => ?_)
      refine v_aload_n C 1 dJ3_inflateIfNeededFor_10 rfl rfl ?_
      refine v_callV (stk := fun b => .int b :: [.int x2]) C (ct_J5_coder _ a1) (show clG[20]? = some (RJ5, TJ5, 4) from rfl) ⟨rfl, nd_J5_coder⟩ rfl (Nat.le_of_ble_eq_true rfl) (Nat.le_of_ble_eq_true rfl) [.int x2] (Nat.le_of_ble_eq_true rfl) (fun _ => rfl) rfl q956 q945 q946 q107 q947 hf hl dJ3_inflateIfNeededFor_11 (fun x3 h4 hf => ?_)
      refine v_icmp_eq C hf (tgt := 21) dJ3_inflateIfNeededFor_14 (by decide) (fun c14 hf => ?_) (fun c14 hf => ?_)
      · obtain ⟨e1, rfl⟩ := mret_inv hf
        exact v_sub (ls' := _) [] rfl Jh1
      · refine v_aload_n C 0 dJ3_inflateIfNeededFor_17 rfl rfl ?_
        refine v_callU (stk := fun _ => []) C (ct_J3_inflate _ a0) rfl ⟨by decide, by decide, nd_J3_inflate.2.2⟩ rfl (Nat.le_of_ble_eq_true rfl) (Nat.le_of_ble_eq_true rfl) [] (Nat.le_of_ble_eq_true rfl) (fun _ => rfl) rfl q957 q2335 (se_p C ⟨by decide, by decide⟩ q278 q2335 q958 q959) q959 q105 q960 (dc_code C q959 q960) hf hl dJ3_inflateIfNeededFor_18 (fun x5 h6 hf => ?_)
        obtain ⟨e1, rfl⟩ := mret_inv hf
        exact v_sub (ls' := _) [] rfl Jh1
def f_J5_init_2 (a0 : Nat) (a1 : Nat) (q2 : Option Nat) : hM Unit :=
  mb (mat a1 19 (f_J3_getValue a1)) fun x1 => mb (mat a1 19 (f_J4_length a1)) fun x3 => mb (mat a1 19 (f_J3_isLatin1 a1)) fun x5 => mi (x5 = 0) (mi ((1 : Int32) = 0) (mb (pN .byte a0 20 1 (1 : Int32)) fun _ => mb (f_J2_copyOfRange x1 (0 : Int32) (x3 <<< ((1 : Int32) &&& 31))) fun x8 => mb (pF a0 20 0 (.ref x8)) fun _ => mret ()) (mb (gI a1 19 2) fun x11 => mi (x11 = 0) (mb (pN .byte a0 20 1 (1 : Int32)) fun _ => mb (f_J2_copyOfRange x1 (0 : Int32) (x3 <<< ((1 : Int32) &&& 31))) fun x13 => mb (pF a0 20 0 (.ref x13)) fun _ => mret ()) (mb (f_J6_compress x1 (0 : Int32) x3) fun x16 => mb (pF a0 20 0 (.ref x16)) fun _ => mb (gR a0 20 0) fun x19 => mb (f_J6_coderFromArrayLen x19 x3) fun x20 => mb (pN .byte a0 20 1 x20) fun _ => mret ()))) (mb (pN .byte a0 20 1 (0 : Int32)) fun _ => mb (f_J2_copyOfRange x1 (0 : Int32) x3) fun x24 => mb (pF a0 20 0 (.ref x24)) fun _ => mret ())
theorem nd_J5_init_2 : yJ5_init_2.cls ≠ "java/lang/invoke/MethodHandle" ∧ yJ5_init_2.cls ≠ "java/lang/invoke/VarHandle" ∧ (parseMethodDescriptor yJ5_init_2.desc).map (fun d => d.parameters.length) = some 2 := by decide +kernel
set_option maxHeartbeats 4000000 in
theorem ct_J5_init_2 (l : Launch) (a0 : Nat) (a1 : Nat) (q2 : Option Nat) : CT l yJ5_init_2 cJ5_init_2 5 none 4 95 rv0 [.ref a0, .ref a1, va_rf q2] (f_J5_init_2 a0 a1 q2) := by
  refine CT_of (ls := [(0, .ref a0), (1, .ref a1), (2, va_rf q2)]) (by decide) (by cases q2 <;> exact Nat.le_of_ble_eq_true rfl) (by cases q2 <;> rfl) ?_
  intro X h he z hX hf C E hnm hh
  have hl := hle.rf he
  subst hX
  unfold f_J5_init_2 at hf
  refine v_aload_n C 0 dJ5_init_2_0 rfl rfl ?_
  refine v_objInit C q1019 q147 q148 (Nat.le_of_ble_eq_true rfl) (Nat.le_of_ble_eq_true rfl) dJ5_init_2_1 ?_
  refine v_aload_n C 1 dJ5_init_2_4 rfl rfl ?_
  refine v_callU (stk := fun b => .ref b :: []) C (ct_J3_getValue _ a1) rfl ⟨by decide, by decide, nd_J3_getValue.2.2⟩ rfl (Nat.le_of_ble_eq_true rfl) (Nat.le_of_ble_eq_true rfl) [] (Nat.le_of_ble_eq_true rfl) (fun _ => rfl) rfl q1020 q1022 (se_w C q1023) q1021 q105 q1024 (dc_code C q1021 q1024) hf hl dJ5_init_2_5 (fun x1 h2 hf => ?_)
  refine v_astore_n (ls' := [(3, .ref x1), (0, .ref a0), (1, .ref a1), (2, va_rf q2)]) C dJ5_init_2_8 rfl (by decide) (by generalize q2 = q9; cases q9 <;> rfl) ?_
  refine v_aload_n C 2 dJ5_init_2_9 rfl rfl ?_
  refine v_callU (stk := fun b => .int b :: []) C (ct_J4_length _ a1) rfl ⟨by decide, by decide, nd_J3_length.2.2⟩ rfl (Nat.le_of_ble_eq_true rfl) (Nat.le_of_ble_eq_true rfl) [] (Nat.le_of_ble_eq_true rfl) (fun _ => rfl) rfl q1025 q1027 (se_w C q1028) q1029 q106 q1030 (dc_code C q1026 q1032) hf hl dJ5_init_2_10 (fun x3 h4 hf => ?_)
  refine v_istore (ls' := [(4, _), (3, _), (0, _), (1, _), (2, _)]) C dJ5_init_2_13 (by decide) rfl ?_
  refine v_aload_n C 3 dJ5_init_2_15 rfl rfl ?_
  refine v_callU (stk := fun b => .int b :: []) C (ct_J3_isLatin1 _ a1) rfl ⟨by decide, by decide, nd_J3_isLatin1.2.2⟩ rfl (Nat.le_of_ble_eq_true rfl) (Nat.le_of_ble_eq_true rfl) [] (Nat.le_of_ble_eq_true rfl) (fun _ => rfl) rfl q1033 q920 (se_w C q921) q919 q105 q922 (dc_code C q919 q922) hf hl dJ5_init_2_16 (fun x5 h6 hf => ?_)
  refine v_if_eq C hf (tgt := 41) dJ5_init_2_19 (by decide) (fun c19 hf => ?_) (fun c19 hf => ?_)
  · refine v_getsI (z := 1) C q287 q107 nw_0 q531 rfl dJ5_init_2_41 ?_
    refine v_if_eq C hf (tgt := 79) dJ5_init_2_44 (by decide) (fun c44 hf => ?_) (fun c44 hf => ?_)
    · refine v_aload_n C 2 dJ5_init_2_79 rfl rfl ?_
      refine v_iconst (x := 1) C dJ5_init_2_80 (by decide) ?_
      obtain ⟨hnar, hf⟩ := v_pN_inv hf
      refine v_putvF (Cn := RJ5) (T := TJ5) (N := 4) (ty0 := tyJ5) C hf in_J5 tyJ5_ok nmJ5 rfl (by decide) q1054 rfl rfl rfl hnm hnar.1 hnar.2 dJ5_init_2_81 (fun h7 hf => ?_)
      refine v_aload_n C 2 dJ5_init_2_84 rfl rfl ?_
      refine v_aload_n C 1 dJ5_init_2_85 rfl rfl ?_
      refine v_iconst (x := 0) C dJ5_init_2_86 (by decide) ?_
      refine v_iload C 0 dJ5_init_2_87 rfl ?_
      refine v_iconst (x := 1) C dJ5_init_2_89 (by decide) ?_
      refine v_ishl C dJ5_init_2_90 ?_
      refine v_callS (stk := fun b => .ref b :: [.ref a0]) C (ct_J2_copyOfRange _ x1 (0 : Int32) (x3 <<< ((1 : Int32) &&& 31))) nd_J2_copyOfRange rfl (Nat.le_of_ble_eq_true rfl) (Nat.le_of_ble_eq_true rfl) [.ref a0] (Nat.le_of_ble_eq_true rfl) (fun _ => rfl) rfl q1034 q1035 q101 q1036 hf hl dJ5_init_2_91 (fun x8 h9 hf => ?_)
      refine v_putvF (Cn := RJ5) (T := TJ5) (N := 4) (ty0 := tyJ5) C hf in_J5 tyJ5_ok nmJ5 rfl (by decide) q1053 rfl rfl rfl hnm rfl rfl dJ5_init_2_94 (fun h10 hf => ?_)
      exact v_vret C E hf dJ5_init_2_97
    · refine v_aload_n C 3 dJ5_init_2_47 rfl rfl ?_
      refine v_gI (Cn := RJ4) (T := TJ4) (N := 4) C hf in_J4 rfl (by decide) q379 rfl dJ5_init_2_48 (fun x11 hf => ?_)
      refine v_if_eq C hf (tgt := 79) dJ5_init_2_51 (by decide) (fun c51 hf => ?_) (fun c51 hf => ?_)
      · refine v_aload_n C 2 dJ5_init_2_79 rfl rfl ?_
        refine v_iconst (x := 1) C dJ5_init_2_80 (by decide) ?_
        obtain ⟨hnar, hf⟩ := v_pN_inv hf
        refine v_putvF (Cn := RJ5) (T := TJ5) (N := 4) (ty0 := tyJ5) C hf in_J5 tyJ5_ok nmJ5 rfl (by decide) q1054 rfl rfl rfl hnm hnar.1 hnar.2 dJ5_init_2_81 (fun h12 hf => ?_)
        refine v_aload_n C 2 dJ5_init_2_84 rfl rfl ?_
        refine v_aload_n C 1 dJ5_init_2_85 rfl rfl ?_
        refine v_iconst (x := 0) C dJ5_init_2_86 (by decide) ?_
        refine v_iload C 0 dJ5_init_2_87 rfl ?_
        refine v_iconst (x := 1) C dJ5_init_2_89 (by decide) ?_
        refine v_ishl C dJ5_init_2_90 ?_
        refine v_callS (stk := fun b => .ref b :: [.ref a0]) C (ct_J2_copyOfRange _ x1 (0 : Int32) (x3 <<< ((1 : Int32) &&& 31))) nd_J2_copyOfRange rfl (Nat.le_of_ble_eq_true rfl) (Nat.le_of_ble_eq_true rfl) [.ref a0] (Nat.le_of_ble_eq_true rfl) (fun _ => rfl) rfl q1034 q1035 q101 q1036 hf hl dJ5_init_2_91 (fun x13 h14 hf => ?_)
        refine v_putvF (Cn := RJ5) (T := TJ5) (N := 4) (ty0 := tyJ5) C hf in_J5 tyJ5_ok nmJ5 rfl (by decide) q1053 rfl rfl rfl hnm rfl rfl dJ5_init_2_94 (fun h15 hf => ?_)
        exact v_vret C E hf dJ5_init_2_97
      · refine v_aload_n C 2 dJ5_init_2_54 rfl rfl ?_
        refine v_aload_n C 1 dJ5_init_2_55 rfl rfl ?_
        refine v_iconst (x := 0) C dJ5_init_2_56 (by decide) ?_
        refine v_iload C 0 dJ5_init_2_57 rfl ?_
        refine v_callS (stk := fun b => .ref b :: [.ref a0]) C (ct_J6_compress _ x1 (0 : Int32) x3) nd_J6_compress rfl (Nat.le_of_ble_eq_true rfl) (Nat.le_of_ble_eq_true rfl) [.ref a0] (Nat.le_of_ble_eq_true rfl) (fun _ => rfl) rfl q1043 q1044 q108 q1045 hf hl dJ5_init_2_59 (fun x16 h17 hf => ?_)
        refine v_putvF (Cn := RJ5) (T := TJ5) (N := 4) (ty0 := tyJ5) C hf in_J5 tyJ5_ok nmJ5 rfl (by decide) q1053 rfl rfl rfl hnm rfl rfl dJ5_init_2_62 (fun h18 hf => ?_)
        refine v_aload_n C 2 dJ5_init_2_65 rfl rfl ?_
        refine v_aload_n C 2 dJ5_init_2_66 rfl rfl ?_
        refine v_gR (Cn := RJ5) (T := TJ5) (N := 4) C hf in_J5 rfl (by decide) q1053 rfl dJ5_init_2_67 (fun x19 hf => ?_)
        refine v_iload C 0 dJ5_init_2_70 rfl ?_
        refine v_callS (stk := fun b => .int b :: [.ref a0]) C (ct_J6_coderFromArrayLen _ x19 x3) nd_J6_coderFromArrayLen rfl (Nat.le_of_ble_eq_true rfl) (Nat.le_of_ble_eq_true rfl) [.ref a0] (Nat.le_of_ble_eq_true rfl) (fun _ => rfl) rfl q1050 q1051 q108 q1052 hf hl dJ5_init_2_72 (fun x20 h21 hf => ?_)
        obtain ⟨hnar, hf⟩ := v_pN_inv hf
        refine v_putvF (Cn := RJ5) (T := TJ5) (N := 4) (ty0 := tyJ5) C hf in_J5 tyJ5_ok nmJ5 rfl (by decide) q1054 rfl rfl rfl hnm hnar.1 hnar.2 dJ5_init_2_75 (fun h22 hf => ?_)
        exact v_vret C E hf dJ5_init_2_78
  · refine v_aload_n C 2 dJ5_init_2_22 rfl rfl ?_
    refine v_iconst (x := 0) C dJ5_init_2_23 (by decide) ?_
    obtain ⟨hnar, hf⟩ := v_pN_inv hf
    refine v_putvF (Cn := RJ5) (T := TJ5) (N := 4) (ty0 := tyJ5) C hf in_J5 tyJ5_ok nmJ5 rfl (by decide) q1054 rfl rfl rfl hnm hnar.1 hnar.2 dJ5_init_2_24 (fun h23 hf => ?_)
    refine v_aload_n C 2 dJ5_init_2_27 rfl rfl ?_
    refine v_aload_n C 1 dJ5_init_2_28 rfl rfl ?_
    refine v_iconst (x := 0) C dJ5_init_2_29 (by decide) ?_
    refine v_iload C 0 dJ5_init_2_30 rfl ?_
    refine v_callS (stk := fun b => .ref b :: [.ref a0]) C (ct_J2_copyOfRange _ x1 (0 : Int32) x3) nd_J2_copyOfRange rfl (Nat.le_of_ble_eq_true rfl) (Nat.le_of_ble_eq_true rfl) [.ref a0] (Nat.le_of_ble_eq_true rfl) (fun _ => rfl) rfl q1034 q1035 q101 q1036 hf hl dJ5_init_2_32 (fun x24 h25 hf => ?_)
    refine v_putvF (Cn := RJ5) (T := TJ5) (N := 4) (ty0 := tyJ5) C hf in_J5 tyJ5_ok nmJ5 rfl (by decide) q1053 rfl rfl rfl hnm rfl rfl dJ5_init_2_35 (fun h26 hf => ?_)
    refine v_goto (tgt := 97) C dJ5_init_2_38 (by decide) ?_
    exact v_vret C E hf dJ5_init_2_97
def l_X0_init_133 (a0 : Nat) : Nat → Int32 → hM (Unit)
  | 0, _ => mfail
  | n + 1, i1 => mi ((4 : Int32) ≤ i1) (mret ()) (mb (gR a0 0 15) fun x54 => mb (newO 10 1 [.null]) fun x55 => mb (f_X10_init x55) fun _ => mb (sR 9 10 x54 i1 x55) fun _ => l_X0_init_133 a0 n (i1 + (1 : Int32)))
def l_X0_init_159 (a0 : Nat) : Nat → Int32 → hM (Unit)
  | 0, _ => mfail
  | n + 1, i1 => mi ((6 : Int32) ≤ i1) (mret ()) (mb (gR a0 0 9) fun x62 => mb (newO 2 3 [.null, .int 0, .int 0]) fun x63 => mb (f_X2_init x63) fun _ => mb (sR 8 2 x62 i1 x63) fun _ => mb (gR a0 0 12) fun x68 => mb (newO 2 3 [.null, .int 0, .int 0]) fun x69 => mb (f_X2_init x69) fun _ => mb (sR 8 2 x68 i1 x69) fun _ => l_X0_init_159 a0 n (i1 + (1 : Int32)))
def l_X0_init_229 (a0 : Nat) (a1 : Nat) : Nat → Int32 → hM (Unit)
  | 0, _ => mfail
  | n + 1, i2 => mi ((5 : Int32) ≤ i2) (mret ()) (mb (gR a0 0 3) fun x88 => mb (gR x88 2 0) fun x89 => mb (aR 6 x89 i2) fun x90 => mb (aR 10 a1 i2) fun x91 => mb (f_X11_named x91) fun x92 => mb (mnn x92) fun y96 => mb (mat x90 3 (f_X3_take x90 y96)) fun x94 => l_X0_init_229 a0 a1 n (i2 + (1 : Int32)))
def f_X0_init (a0 : Nat) : hM Unit :=
  mb (newO 1 10 [.null, .null, .null, .null, .null, .null, .null, .null, .null, .null]) fun x1 => mb (f_X1_init x1) fun _ => mb (pF a0 0 0 (.ref x1)) fun _ => mb (newA 1 (6 : Int32)) fun x6 => mb (pF a0 0 1 (.ref x6)) fun _ => mb (newA 1 (6 : Int32)) fun x9 => mb (pF a0 0 2 (.ref x9)) fun _ => mb (newO 2 3 [.null, .int 0, .int 0]) fun x12 => mb (f_X2_init x12) fun _ => mb (pF a0 0 3 (.ref x12)) fun _ => mb (newO 4 2 [.null, .int 0]) fun x17 => mb (f_X4_init x17) fun _ => mb (pF a0 0 4 (.ref x17)) fun _ => mb (newO 5 7 [.null, .null, .null, .null, .null, .int 0, .int 0]) fun x22 => mb (f_X5_init x22) fun _ => mb (pF a0 0 5 (.ref x22)) fun _ => mb (newO 6 6 [.null, .null, .null, .int 0, .null, .null]) fun x27 => mb (f_X6_init x27) fun _ => mb (pF a0 0 6 (.ref x27)) fun _ => mb (newO 9 2 [.null, .null]) fun x32 => mb (f_X9_init x32) fun _ => mb (pF a0 0 7 (.ref x32)) fun _ => mb (newA 1 (24 : Int32)) fun x37 => mb (pF a0 0 8 (.ref x37)) fun _ => mb (newA 8 (6 : Int32)) fun x40 => mb (pF a0 0 9 (.ref x40)) fun _ => mb (newO 2 3 [.null, .int 0, .int 0]) fun x43 => mb (f_X2_init x43) fun _ => mb (pF a0 0 11 (.ref x43)) fun _ => mb (newA 8 (6 : Int32)) fun x48 => mb (pF a0 0 12 (.ref x48)) fun _ => mb (newA 9 (4 : Int32)) fun x51 => mb (pF a0 0 15 (.ref x51)) fun _ => mb (l_X0_init_133 a0 FU (0 : Int32)) fun x60 => mb (l_X0_init_159 a0 FU (0 : Int32)) fun x74 => mb (newA 10 (5 : Int32)) fun x76 => mb (mcn 0) fun x78 => mb (sR 10 20 x76 (0 : Int32) x78) fun _ => mb (mcn 1) fun x80 => mb (sR 10 20 x76 (1 : Int32) x80) fun _ => mb (mcn 2) fun x82 => mb (sR 10 20 x76 (2 : Int32) x82) fun _ => mb (mcn 3) fun x84 => mb (sR 10 20 x76 (3 : Int32) x84) fun _ => mb (mcn 4) fun x86 => mb (sR 10 20 x76 (4 : Int32) x86) fun _ => mb (l_X0_init_229 a0 x76 FU (0 : Int32)) fun x97 => mb (gR a0 0 3) fun x99 => mb (gR a0 0 0) fun x100 => mb (gR x100 1 0) fun x101 => mb (aI 1 x101 (0 : Int32)) fun x102 => mb (pF x99 2 1 (.int x102)) fun _ => mb (gR a0 0 3) fun x104 => mb (pF x104 2 2 (.int (1 : Int32))) fun _ => mret ()
theorem nd_X0_init : yX0_init.cls ≠ "java/lang/invoke/MethodHandle" ∧ yX0_init.cls ≠ "java/lang/invoke/VarHandle" ∧ (parseMethodDescriptor yX0_init.desc).map (fun d => d.parameters.length) = some 0 := by decide +kernel
set_option maxHeartbeats 4000000 in
theorem ct_X0_init (l : Launch) (a0 : Nat) : CT l yX0_init cX0_init 3 none 5 112 rv0 [.ref a0] (f_X0_init a0) := by
  refine CT_of (ls := [(0, .ref a0)]) (by decide) (Nat.le_of_ble_eq_true rfl) rfl ?_
  intro X h he z hX hf C E hnm hh
  have hl := hle.rf he
  subst hX
  have L133 : ∀ (a0 : Nat) (n : Nat) (i1 : Int32) (h h1 : Hp) (o : Unit), (l_X0_init_133 a0 n i1).1 h = some (o, h1) → hle h1 he → V X h1 157 [(0, .ref a0)] [] → V X h 133 [(0, .ref a0), (1, .int i1)] [] := by
    intro a0 n
    induction n with
    | zero => intro i1 h h1 o hf; exact mfail_inv hf
    | succ n ih =>
      intro i1 h h1 o hf hl J
      rw [l_X0_init_133] at hf
      refine v_iload_n C 1 dX0_init_133 rfl rfl ?_
      refine v_iconst (x := 4) C dX0_init_134 (by decide) ?_
      refine v_icmp_ge C hf (tgt := 157) dX0_init_135 (by decide) (fun c135 hf => ?_) (fun c135 hf => ?_)
      · obtain ⟨e1, rfl⟩ := mret_inv hf
        subst e1
        exact v_sub (ls' := _) [0] rfl J
      · refine v_aload_n C 0 dX0_init_138 rfl rfl ?_
        refine v_gR (Cn := RX0) (T := TX0) (N := 16) C hf in_X0 rfl (by decide) q707 rfl dX0_init_139 (fun x54 hf => ?_)
        refine v_iload_n C 1 dX0_init_142 rfl rfl ?_
        refine v_new (Cn := RX10) (T := TX10) (N := 1) (ty0 := tyX10) C hf hl in_X10 tyX10_ok rfl q501 q503 q118 dvX10 dX0_init_143 (fun x55 h56 hf => ?_)
        refine v_dup C dX0_init_146 rfl ?_
        refine v_callIN (stk := fun _ => [.ref x55, .int i1, .ref x54]) C (ct_X10_init _ x55) nd_X10_init rfl (Nat.le_of_ble_eq_true rfl) (Nat.le_of_ble_eq_true rfl) [.ref x55, .int i1, .ref x54] (Nat.le_of_ble_eq_true rfl) (fun _ => rfl) rfl rfl q504 q505 q118 q506 hf hl dX0_init_147 (fun x57 h58 hf => ?_)
        refine v_aastore C hf (by decide) rfl rfl dX0_init_150 (fun h59 hf => ?_)
        refine v_iinc (ls' := [(1, _), (0, _)]) (y := i1 + (1 : Int32)) C 1 dX0_init_151 rfl rfl (by decide) rfl ?_
        refine v_goto (tgt := 133) C dX0_init_154 (by decide) ?_
        refine v_sub (ls' := _) [1, 0] rfl (ih (i1 + (1 : Int32)) _ _ _ hf hl J)
  have L159 : ∀ (a0 : Nat) (n : Nat) (i1 : Int32) (h h1 : Hp) (o : Unit), (l_X0_init_159 a0 n i1).1 h = some (o, h1) → hle h1 he → V X h1 197 [(0, .ref a0)] [] → V X h 159 [(0, .ref a0), (1, .int i1)] [] := by
    intro a0 n
    induction n with
    | zero => intro i1 h h1 o hf; exact mfail_inv hf
    | succ n ih =>
      intro i1 h h1 o hf hl J
      rw [l_X0_init_159] at hf
      refine v_iload_n C 1 dX0_init_159 rfl rfl ?_
      refine v_bipush (x := 6) C dX0_init_160 (by decide) ?_
      refine v_icmp_ge C hf (tgt := 197) dX0_init_162 (by decide) (fun c162 hf => ?_) (fun c162 hf => ?_)
      · obtain ⟨e1, rfl⟩ := mret_inv hf
        subst e1
        exact v_sub (ls' := _) [0] rfl J
      · refine v_aload_n C 0 dX0_init_165 rfl rfl ?_
        refine v_gR (Cn := RX0) (T := TX0) (N := 16) C hf in_X0 rfl (by decide) q701 rfl dX0_init_166 (fun x62 hf => ?_)
        refine v_iload_n C 1 dX0_init_169 rfl rfl ?_
        refine v_new (Cn := RX2) (T := TX2) (N := 3) (ty0 := tyX2) C hf hl in_X2 tyX2_ok rfl q235 q236 q102 dvX2 dX0_init_170 (fun x63 h64 hf => ?_)
        refine v_dup C dX0_init_173 rfl ?_
        refine v_callI (stk := fun _ => [.ref x63, .int i1, .ref x62]) C (ct_X2_init _ x63) nd_X2_init rfl (Nat.le_of_ble_eq_true rfl) (Nat.le_of_ble_eq_true rfl) [.ref x63, .int i1, .ref x62] (Nat.le_of_ble_eq_true rfl) (fun _ => rfl) rfl rfl q237 q238 q102 q239 hf hl dX0_init_174 (fun x65 h66 hf => ?_)
        refine v_aastore C hf (by decide) rfl rfl dX0_init_177 (fun h67 hf => ?_)
        refine v_aload_n C 0 dX0_init_178 rfl rfl ?_
        refine v_gR (Cn := RX0) (T := TX0) (N := 16) C hf in_X0 rfl (by decide) q704 rfl dX0_init_179 (fun x68 hf => ?_)
        refine v_iload_n C 1 dX0_init_182 rfl rfl ?_
        refine v_new (Cn := RX2) (T := TX2) (N := 3) (ty0 := tyX2) C hf hl in_X2 tyX2_ok rfl q235 q236 q102 dvX2 dX0_init_183 (fun x69 h70 hf => ?_)
        refine v_dup C dX0_init_186 rfl ?_
        refine v_callI (stk := fun _ => [.ref x69, .int i1, .ref x68]) C (ct_X2_init _ x69) nd_X2_init rfl (Nat.le_of_ble_eq_true rfl) (Nat.le_of_ble_eq_true rfl) [.ref x69, .int i1, .ref x68] (Nat.le_of_ble_eq_true rfl) (fun _ => rfl) rfl rfl q237 q238 q102 q239 hf hl dX0_init_187 (fun x71 h72 hf => ?_)
        refine v_aastore C hf (by decide) rfl rfl dX0_init_190 (fun h73 hf => ?_)
        refine v_iinc (ls' := [(1, _), (0, _)]) (y := i1 + (1 : Int32)) C 1 dX0_init_191 rfl rfl (by decide) rfl ?_
        refine v_goto (tgt := 159) C dX0_init_194 (by decide) ?_
        refine v_sub (ls' := _) [1, 0] rfl (ih (i1 + (1 : Int32)) _ _ _ hf hl J)
  have L229 : ∀ (a0 : Nat) (a1 : Nat) (n : Nat) (i2 : Int32) (h h1 : Hp) (o : Unit), (l_X0_init_229 a0 a1 n i2).1 h = some (o, h1) → hle h1 he → V X h1 259 [(0, .ref a0)] [] → V X h 229 [(0, .ref a0), (1, .ref a1), (2, .int i2)] [] := by
    intro a0 a1 n
    induction n with
    | zero => intro i2 h h1 o hf; exact mfail_inv hf
    | succ n ih =>
      intro i2 h h1 o hf hl J
      rw [l_X0_init_229] at hf
      refine v_iload_n C 2 dX0_init_229 rfl rfl ?_
      refine v_iconst (x := 5) C dX0_init_230 (by decide) ?_
      refine v_icmp_ge C hf (tgt := 259) dX0_init_231 (by decide) (fun c231 hf => ?_) (fun c231 hf => ?_)
      · obtain ⟨e1, rfl⟩ := mret_inv hf
        subst e1
        exact v_sub (ls' := _) [0] rfl J
      · refine v_aload_n C 0 dX0_init_234 rfl rfl ?_
        refine v_gR (Cn := RX0) (T := TX0) (N := 16) C hf in_X0 rfl (by decide) q695 rfl dX0_init_235 (fun x88 hf => ?_)
        refine v_gRN (Cn := RX2) (T := TX2) (N := 3) C hf in_X2 rfl (by decide) q259 rfl dX0_init_238 (fun x89 hf => ?_)
        refine v_iload_n C 2 dX0_init_241 rfl rfl ?_
        refine v_aaload C hf (by decide) rfl dX0_init_242 (fun x90 hf => ?_)
        refine v_aload_n C 1 dX0_init_243 rfl rfl ?_
        refine v_iload_n C 2 dX0_init_244 rfl rfl ?_
        refine v_aaload C hf (by decide) rfl dX0_init_245 (fun x91 hf => ?_)
        refine v_callS (stk := fun b => va_rf b :: [.ref x90]) C (ct_X11_named _ x91) nd_X11_named rfl (Nat.le_of_ble_eq_true rfl) (Nat.le_of_ble_eq_true rfl) [.ref x90] (Nat.le_of_ble_eq_true rfl) (fun _ => rfl) rfl q520 q521 q119 q522 hf hl dX0_init_246 (fun x92 h93 hf => ?_)
        obtain ⟨y96, hqy96, hf⟩ := mnn_inv hf
        subst hqy96
        refine v_callV (stk := fun b => .ref b :: []) C (ct_X3_take _ x90 y96) rfl ⟨rfl, nd_X3_take⟩ rfl (Nat.le_of_ble_eq_true rfl) (Nat.le_of_ble_eq_true rfl) [] (Nat.le_of_ble_eq_true rfl) (fun _ => rfl) rfl q635 q636 q637 q103 q638 hf hl dX0_init_249 (fun x94 h95 hf => ?_)
        refine v_pop C dX0_init_252 rfl ?_
        refine v_iinc (ls' := [(2, _), (0, _), (1, _)]) (y := i2 + (1 : Int32)) C 2 dX0_init_253 rfl rfl (by decide) rfl ?_
        refine v_goto (tgt := 229) C dX0_init_256 (by decide) ?_
        refine v_sub (ls' := _) [1, 2, 0] rfl (ih (i2 + (1 : Int32)) _ _ _ hf hl J)
  unfold f_X0_init at hf
  refine v_aload_n C 0 dX0_init_0 rfl rfl ?_
  refine v_objInit C q146 q147 q148 (Nat.le_of_ble_eq_true rfl) (Nat.le_of_ble_eq_true rfl) dX0_init_1 ?_
  refine v_aload_n C 0 dX0_init_4 rfl rfl ?_
  refine v_new (Cn := RX1) (T := TX1) (N := 10) (ty0 := tyX1) C hf hl in_X1 tyX1_ok rfl q149 q150 q97 dvX1 dX0_init_5 (fun x1 h2 hf => ?_)
  refine v_dup C dX0_init_8 rfl ?_
  refine v_callI (stk := fun _ => [.ref x1, .ref a0]) C (ct_X1_init _ x1) nd_X1_init rfl (Nat.le_of_ble_eq_true rfl) (Nat.le_of_ble_eq_true rfl) [.ref x1, .ref a0] (Nat.le_of_ble_eq_true rfl) (fun _ => rfl) rfl rfl q151 q152 q97 q153 hf hl dX0_init_9 (fun x3 h4 hf => ?_)
  refine v_putvF (Cn := RX0) (T := TX0) (N := 16) (ty0 := tyX0) C hf in_X0 tyX0_ok nmX0 rfl (by decide) q692 rfl rfl rfl hnm rfl rfl dX0_init_12 (fun h5 hf => ?_)
  refine v_aload_n C 0 dX0_init_15 rfl rfl ?_
  refine v_bipush (x := 6) C dX0_init_16 (by decide) ?_
  refine v_newarrayint C hf hl q234 dX0_init_18 (fun x6 h7 hf => ?_)
  refine v_putvF (Cn := RX0) (T := TX0) (N := 16) (ty0 := tyX0) C hf in_X0 tyX0_ok nmX0 rfl (by decide) q693 rfl rfl rfl hnm rfl rfl dX0_init_20 (fun h8 hf => ?_)
  refine v_aload_n C 0 dX0_init_23 rfl rfl ?_
  refine v_bipush (x := 6) C dX0_init_24 (by decide) ?_
  refine v_newarrayint C hf hl q234 dX0_init_26 (fun x9 h10 hf => ?_)
  refine v_putvF (Cn := RX0) (T := TX0) (N := 16) (ty0 := tyX0) C hf in_X0 tyX0_ok nmX0 rfl (by decide) q694 rfl rfl rfl hnm rfl rfl dX0_init_28 (fun h11 hf => ?_)
  refine v_aload_n C 0 dX0_init_31 rfl rfl ?_
  refine v_new (Cn := RX2) (T := TX2) (N := 3) (ty0 := tyX2) C hf hl in_X2 tyX2_ok rfl q235 q236 q102 dvX2 dX0_init_32 (fun x12 h13 hf => ?_)
  refine v_dup C dX0_init_35 rfl ?_
  refine v_callI (stk := fun _ => [.ref x12, .ref a0]) C (ct_X2_init _ x12) nd_X2_init rfl (Nat.le_of_ble_eq_true rfl) (Nat.le_of_ble_eq_true rfl) [.ref x12, .ref a0] (Nat.le_of_ble_eq_true rfl) (fun _ => rfl) rfl rfl q237 q238 q102 q239 hf hl dX0_init_36 (fun x14 h15 hf => ?_)
  refine v_putvF (Cn := RX0) (T := TX0) (N := 16) (ty0 := tyX0) C hf in_X0 tyX0_ok nmX0 rfl (by decide) q695 rfl rfl rfl hnm rfl rfl dX0_init_39 (fun h16 hf => ?_)
  refine v_aload_n C 0 dX0_init_42 rfl rfl ?_
  refine v_new (Cn := RX4) (T := TX4) (N := 2) (ty0 := tyX4) C hf hl in_X4 tyX4_ok rfl q271 q272 q104 dvX4 dX0_init_43 (fun x17 h18 hf => ?_)
  refine v_dup C dX0_init_46 rfl ?_
  refine v_callIN (stk := fun _ => [.ref x17, .ref a0]) C (ct_X4_init _ x17) nd_X4_init rfl (Nat.le_of_ble_eq_true rfl) (Nat.le_of_ble_eq_true rfl) [.ref x17, .ref a0] (Nat.le_of_ble_eq_true rfl) (fun _ => rfl) rfl rfl q273 q274 q104 q275 hf hl dX0_init_47 (fun x19 h20 hf => ?_)
  refine v_putvF (Cn := RX0) (T := TX0) (N := 16) (ty0 := tyX0) C hf in_X0 tyX0_ok nmX0 rfl (by decide) q696 rfl rfl rfl hnm rfl rfl dX0_init_50 (fun h21 hf => ?_)
  refine v_aload_n C 0 dX0_init_53 rfl rfl ?_
  refine v_new (Cn := RX5) (T := TX5) (N := 7) (ty0 := tyX5) C hf hl in_X5 tyX5_ok rfl q399 q400 q113 dvX5 dX0_init_54 (fun x22 h23 hf => ?_)
  refine v_dup C dX0_init_57 rfl ?_
  refine v_callI (stk := fun _ => [.ref x22, .ref a0]) C (ct_X5_init _ x22) nd_X5_init rfl (Nat.le_of_ble_eq_true rfl) (Nat.le_of_ble_eq_true rfl) [.ref x22, .ref a0] (Nat.le_of_ble_eq_true rfl) (fun _ => rfl) rfl rfl q408 q409 q113 q410 hf hl dX0_init_58 (fun x24 h25 hf => ?_)
  refine v_putvF (Cn := RX0) (T := TX0) (N := 16) (ty0 := tyX0) C hf in_X0 tyX0_ok nmX0 rfl (by decide) q697 rfl rfl rfl hnm rfl rfl dX0_init_61 (fun h26 hf => ?_)
  refine v_aload_n C 0 dX0_init_64 rfl rfl ?_
  refine v_new (Cn := RX6) (T := TX6) (N := 6) (ty0 := tyX6) C hf hl in_X6 tyX6_ok rfl q422 q423 q114 dvX6 dX0_init_65 (fun x27 h28 hf => ?_)
  refine v_dup C dX0_init_68 rfl ?_
  refine v_callI (stk := fun _ => [.ref x27, .ref a0]) C (ct_X6_init _ x27) nd_X6_init rfl (Nat.le_of_ble_eq_true rfl) (Nat.le_of_ble_eq_true rfl) [.ref x27, .ref a0] (Nat.le_of_ble_eq_true rfl) (fun _ => rfl) rfl rfl q424 q425 q114 q426 hf hl dX0_init_69 (fun x29 h30 hf => ?_)
  refine v_putvF (Cn := RX0) (T := TX0) (N := 16) (ty0 := tyX0) C hf in_X0 tyX0_ok nmX0 rfl (by decide) q698 rfl rfl rfl hnm rfl rfl dX0_init_72 (fun h31 hf => ?_)
  refine v_aload_n C 0 dX0_init_75 rfl rfl ?_
  refine v_new (Cn := RX9) (T := TX9) (N := 2) (ty0 := tyX9) C hf hl in_X9 tyX9_ok rfl q485 q486 q117 dvX9 dX0_init_76 (fun x32 h33 hf => ?_)
  refine v_dup C dX0_init_79 rfl ?_
  refine v_callIN (stk := fun _ => [.ref x32, .ref a0]) C (ct_X9_init _ x32) nd_X9_init rfl (Nat.le_of_ble_eq_true rfl) (Nat.le_of_ble_eq_true rfl) [.ref x32, .ref a0] (Nat.le_of_ble_eq_true rfl) (fun _ => rfl) rfl rfl q487 q488 q117 q489 hf hl dX0_init_80 (fun x34 h35 hf => ?_)
  refine v_putvF (Cn := RX0) (T := TX0) (N := 16) (ty0 := tyX0) C hf in_X0 tyX0_ok nmX0 rfl (by decide) q699 rfl rfl rfl hnm rfl rfl dX0_init_83 (fun h36 hf => ?_)
  refine v_aload_n C 0 dX0_init_86 rfl rfl ?_
  refine v_bipush (x := 24) C dX0_init_87 (by decide) ?_
  refine v_newarrayint C hf hl q234 dX0_init_89 (fun x37 h38 hf => ?_)
  refine v_putvF (Cn := RX0) (T := TX0) (N := 16) (ty0 := tyX0) C hf in_X0 tyX0_ok nmX0 rfl (by decide) q700 rfl rfl rfl hnm rfl rfl dX0_init_91 (fun h39 hf => ?_)
  refine v_aload_n C 0 dX0_init_94 rfl rfl ?_
  refine v_bipush (x := 6) C dX0_init_95 (by decide) ?_
  refine v_anewarray (kd := 8) (Cn := "EightBlocks$Hall") C hf hl (by decide) (by decide) rfl q235 q500 dX0_init_97 (fun x40 h41 hf => ?_)
  refine v_putvF (Cn := RX0) (T := TX0) (N := 16) (ty0 := tyX0) C hf in_X0 tyX0_ok nmX0 rfl (by decide) q701 rfl rfl rfl hnm rfl rfl dX0_init_100 (fun h42 hf => ?_)
  refine v_aload_n C 0 dX0_init_103 rfl rfl ?_
  refine v_new (Cn := RX2) (T := TX2) (N := 3) (ty0 := tyX2) C hf hl in_X2 tyX2_ok rfl q235 q236 q102 dvX2 dX0_init_104 (fun x43 h44 hf => ?_)
  refine v_dup C dX0_init_107 rfl ?_
  refine v_callI (stk := fun _ => [.ref x43, .ref a0]) C (ct_X2_init _ x43) nd_X2_init rfl (Nat.le_of_ble_eq_true rfl) (Nat.le_of_ble_eq_true rfl) [.ref x43, .ref a0] (Nat.le_of_ble_eq_true rfl) (fun _ => rfl) rfl rfl q237 q238 q102 q239 hf hl dX0_init_108 (fun x45 h46 hf => ?_)
  refine v_putvF (Cn := RX0) (T := TX0) (N := 16) (ty0 := tyX0) C hf in_X0 tyX0_ok nmX0 rfl (by decide) q703 rfl rfl rfl hnm rfl rfl dX0_init_111 (fun h47 hf => ?_)
  refine v_aload_n C 0 dX0_init_114 rfl rfl ?_
  refine v_bipush (x := 6) C dX0_init_115 (by decide) ?_
  refine v_anewarray (kd := 8) (Cn := "EightBlocks$Hall") C hf hl (by decide) (by decide) rfl q235 q500 dX0_init_117 (fun x48 h49 hf => ?_)
  refine v_putvF (Cn := RX0) (T := TX0) (N := 16) (ty0 := tyX0) C hf in_X0 tyX0_ok nmX0 rfl (by decide) q704 rfl rfl rfl hnm rfl rfl dX0_init_120 (fun h50 hf => ?_)
  refine v_aload_n C 0 dX0_init_123 rfl rfl ?_
  refine v_iconst (x := 4) C dX0_init_124 (by decide) ?_
  refine v_anewarray (kd := 9) (Cn := "EightBlocks$Sheet") C hf hl (by decide) (by decide) rfl q501 q502 dX0_init_125 (fun x51 h52 hf => ?_)
  refine v_putvF (Cn := RX0) (T := TX0) (N := 16) (ty0 := tyX0) C hf in_X0 tyX0_ok nmX0 rfl (by decide) q707 rfl rfl rfl hnm rfl rfl dX0_init_128 (fun h53 hf => ?_)
  refine v_iconst (x := 0) C dX0_init_131 (by decide) ?_
  refine v_istore_n (ls' := [(1, _), (0, _)]) C dX0_init_132 rfl (by decide) rfl ?_
  obtain ⟨x60, h61, eh61, hf, hlh61⟩ := mb_inv hf hl
  refine v_sub (ls' := _) [1, 0] rfl (L133 a0 FU (0 : Int32) _ _ _ eh61 hlh61 ?_)
  refine v_iconst (x := 0) C dX0_init_157 (by decide) ?_
  refine v_istore_n (ls' := [(1, _), (0, _)]) C dX0_init_158 rfl (by decide) rfl ?_
  obtain ⟨x74, h75, eh75, hf, hlh75⟩ := mb_inv hf hl
  refine v_sub (ls' := _) [1, 0] rfl (L159 a0 FU (0 : Int32) _ _ _ eh75 hlh75 ?_)
  refine v_iconst (x := 5) C dX0_init_197 (by decide) ?_
  refine v_anewarray (kd := 10) (Cn := "java/lang/String") C hf hl (by decide) (by decide) rfl q513 q514 dX0_init_198 (fun x76 h77 hf => ?_)
  refine v_dup C dX0_init_201 rfl ?_
  refine v_iconst (x := 0) C dX0_init_202 (by decide) ?_
  refine v_ldcS C hf rfl q515 dX0_init_203 (fun x78 hf => ?_)
  refine v_aastore C hf (by decide) rfl rfl dX0_init_205 (fun h79 hf => ?_)
  refine v_dup C dX0_init_206 rfl ?_
  refine v_iconst (x := 1) C dX0_init_207 (by decide) ?_
  refine v_ldcS C hf rfl q516 dX0_init_208 (fun x80 hf => ?_)
  refine v_aastore C hf (by decide) rfl rfl dX0_init_210 (fun h81 hf => ?_)
  refine v_dup C dX0_init_211 rfl ?_
  refine v_iconst (x := 2) C dX0_init_212 (by decide) ?_
  refine v_ldcS C hf rfl q517 dX0_init_213 (fun x82 hf => ?_)
  refine v_aastore C hf (by decide) rfl rfl dX0_init_215 (fun h83 hf => ?_)
  refine v_dup C dX0_init_216 rfl ?_
  refine v_iconst (x := 3) C dX0_init_217 (by decide) ?_
  refine v_ldcS C hf rfl q518 dX0_init_218 (fun x84 hf => ?_)
  refine v_aastore C hf (by decide) rfl rfl dX0_init_220 (fun h85 hf => ?_)
  refine v_dup C dX0_init_221 rfl ?_
  refine v_iconst (x := 4) C dX0_init_222 (by decide) ?_
  refine v_ldcS C hf rfl q519 dX0_init_223 (fun x86 hf => ?_)
  refine v_aastore C hf (by decide) rfl rfl dX0_init_225 (fun h87 hf => ?_)
  refine v_astore_n (ls' := [(1, _), (0, _)]) C dX0_init_226 rfl (by decide) rfl ?_
  refine v_iconst (x := 0) C dX0_init_227 (by decide) ?_
  refine v_istore_n (ls' := [(2, _), (1, _), (0, _)]) C dX0_init_228 rfl (by decide) rfl ?_
  obtain ⟨x97, h98, eh98, hf, hlh98⟩ := mb_inv hf hl
  refine v_sub (ls' := _) [2, 1, 0] rfl (L229 a0 x76 FU (0 : Int32) _ _ _ eh98 hlh98 ?_)
  refine v_aload_n C 0 dX0_init_259 rfl rfl ?_
  refine v_gR (Cn := RX0) (T := TX0) (N := 16) C hf in_X0 rfl (by decide) q695 rfl dX0_init_260 (fun x99 hf => ?_)
  refine v_aload_n C 0 dX0_init_263 rfl rfl ?_
  refine v_gR (Cn := RX0) (T := TX0) (N := 16) C hf in_X0 rfl (by decide) q692 rfl dX0_init_264 (fun x100 hf => ?_)
  refine v_gRN (Cn := RX1) (T := TX1) (N := 10) C hf in_X1 rfl (by decide) q195 rfl dX0_init_267 (fun x101 hf => ?_)
  refine v_iconst (x := 0) C dX0_init_270 (by decide) ?_
  refine v_iaload C hf dX0_init_271 (fun x102 hf => ?_)
  refine v_putvN (Cn := RX2) (T := TX2) (N := 3) (ty0 := tyX2) C hf in_X2 tyX2_ok nmX2 rfl (by decide) q261 rfl rfl rfl rfl dX0_init_272 (fun h103 hf => ?_)
  refine v_aload_n C 0 dX0_init_275 rfl rfl ?_
  refine v_gR (Cn := RX0) (T := TX0) (N := 16) C hf in_X0 rfl (by decide) q695 rfl dX0_init_276 (fun x104 hf => ?_)
  refine v_iconst (x := 1) C dX0_init_279 (by decide) ?_
  refine v_putvN (Cn := RX2) (T := TX2) (N := 3) (ty0 := tyX2) C hf in_X2 tyX2_ok nmX2 rfl (by decide) q263 rfl rfl rfl rfl dX0_init_280 (fun h105 hf => ?_)
  exact v_vret C E hf dX0_init_283
def l_X0_keeps_4 (a0 : Nat) (i1 : Int32) : Nat → Int32 → Int32 → hM (Int32)
  | 0, _, _ => mfail
  | n + 1, i2, i3 => mi ((12 : Int32) ≤ i3) (mret i2) (mi (i2 = 0) (mret i2) (mb (gR a0 0 0) fun x1 => mb (gR a0 0 3) fun x2 => mb (gR x2 2 0) fun x3 => mb (aR 6 x3 i1) fun x4 => mb (gR a0 0 0) fun x5 => mb (gR x5 1 0) fun x6 => mb (aI 1 x6 i3) fun x7 => mb (mat x4 3 (f_X11_over x4 x7)) fun x8 => mb (mat x1 1 (f_X1_remainder x1 x8)) fun x10 => mb (mi (¬ x10 = 0) (mret (0 : Int32)) (mret (1 : Int32))) fun x12 => l_X0_keeps_4 a0 i1 n x12 (i3 + (1 : Int32))))
def f_X0_keeps (a0 : Nat) (i1 : Int32) : hM Int32 :=
  mb (l_X0_keeps_4 a0 i1 FU (1 : Int32) (0 : Int32)) fun x14 => mrt .boolean x14
theorem nd_X0_keeps : yX0_keeps.cls ≠ "java/lang/invoke/MethodHandle" ∧ yX0_keeps.cls ≠ "java/lang/invoke/VarHandle" ∧ (parseMethodDescriptor yX0_keeps.desc).map (fun d => d.parameters.length) = some 1 := by decide +kernel
set_option maxHeartbeats 4000000 in
theorem ct_X0_keeps (l : Launch) (a0 : Nat) (i1 : Int32) : CT l yX0_keeps cX0_keeps 4 (some .boolean) 4 87 rvI [.ref a0, .int i1] (f_X0_keeps a0 i1) := by
  refine CT_of (ls := [(0, .ref a0), (1, .int i1)]) (by decide) (Nat.le_of_ble_eq_true rfl) rfl ?_
  intro X h he z hX hf C E hnm hh
  have hl := hle.rf he
  subst hX
  have L4 : ∀ (a0 : Nat) (i1 : Int32) (n : Nat) (i2 : Int32) (i3 : Int32) (h h1 : Hp) (o : Int32), (l_X0_keeps_4 a0 i1 n i2 i3).1 h = some (o, h1) → hle h1 he → V X h1 57 [(2, .int o)] [] → V X h 4 [(0, .ref a0), (1, .int i1), (2, .int i2), (3, .int i3)] [] := by
    intro a0 i1 n
    induction n with
    | zero => intro i2 i3 h h1 o hf; exact mfail_inv hf
    | succ n ih =>
      intro i2 i3 h h1 o hf hl J
      rw [l_X0_keeps_4] at hf
      refine v_iload_n C 3 dX0_keeps_4 rfl rfl ?_
      refine v_bipush (x := 12) C dX0_keeps_5 (by decide) ?_
      refine v_icmp_ge C hf (tgt := 57) dX0_keeps_7 (by decide) (fun c7 hf => ?_) (fun c7 hf => ?_)
      · obtain ⟨e1, rfl⟩ := mret_inv hf
        subst e1
        exact v_sub (ls' := _) [2] rfl J
      · refine v_iload_n C 2 dX0_keeps_10 rfl rfl ?_
        refine v_if_eq C hf (tgt := 57) dX0_keeps_11 (by decide) (fun c11 hf => ?_) (fun c11 hf => ?_)
        · obtain ⟨e1, rfl⟩ := mret_inv hf
          subst e1
          exact v_sub (ls' := _) [2] rfl J
        · refine v_aload_n C 0 dX0_keeps_14 rfl rfl ?_
          refine v_gR (Cn := RX0) (T := TX0) (N := 16) C hf in_X0 rfl (by decide) q692 rfl dX0_keeps_15 (fun x1 hf => ?_)
          refine v_aload_n C 0 dX0_keeps_18 rfl rfl ?_
          refine v_gR (Cn := RX0) (T := TX0) (N := 16) C hf in_X0 rfl (by decide) q695 rfl dX0_keeps_19 (fun x2 hf => ?_)
          refine v_gRN (Cn := RX2) (T := TX2) (N := 3) C hf in_X2 rfl (by decide) q259 rfl dX0_keeps_22 (fun x3 hf => ?_)
          refine v_iload_n C 1 dX0_keeps_25 rfl rfl ?_
          refine v_aaload C hf (by decide) rfl dX0_keeps_26 (fun x4 hf => ?_)
          refine v_aload_n C 0 dX0_keeps_27 rfl rfl ?_
          refine v_gR (Cn := RX0) (T := TX0) (N := 16) C hf in_X0 rfl (by decide) q692 rfl dX0_keeps_28 (fun x5 hf => ?_)
          refine v_gRN (Cn := RX1) (T := TX1) (N := 10) C hf in_X1 rfl (by decide) q195 rfl dX0_keeps_31 (fun x6 hf => ?_)
          refine v_iload_n C 3 dX0_keeps_34 rfl rfl ?_
          refine v_iaload C hf dX0_keeps_35 (fun x7 hf => ?_)
          refine v_callD (x := ({ cls := "EightBlocks$Move", name := "over", desc := "(I)I" } : Jvm.MethodName)) (stk := fun b => .int b :: [.ref x1]) C (ct_X11_over _ x4 x7) rfl nd_X11_over rfl (Nat.le_of_ble_eq_true rfl) (Nat.le_of_ble_eq_true rfl) [.ref x1] (Nat.le_of_ble_eq_true rfl) (fun _ => rfl) rfl nw_14 nw_8 nw_9 q829 q831 q119 q833 hf hl dX0_keeps_36 (fun x8 h9 hf => ?_)
          refine v_callV (stk := fun b => .int b :: []) C (ct_X1_remainder _ x1 x8) rfl ⟨rfl, nd_X1_remainder⟩ rfl (Nat.le_of_ble_eq_true rfl) (Nat.le_of_ble_eq_true rfl) [] (Nat.le_of_ble_eq_true rfl) (fun _ => rfl) rfl q752 q753 q754 q97 q755 hf hl dX0_keeps_39 (fun x10 h11 hf => ?_)
          obtain ⟨x12, h13, hAh13, hf, hlh13⟩ := mb_inv hf hl
          refine v_cut (h1 := h13) (pc1 := 50) (ls1 := [(0, .ref a0), (1, .int i1), (3, .int i3)]) (st1 := [.int x12]) ?_ (fun Jh13 => ?_)
          · clear hAh13 hlh13
            refine v_istore_n (ls' := [(2, _), (0, _), (1, _), (3, _)]) C dX0_keeps_50 rfl (by decide) rfl ?_
            refine v_iinc (ls' := [(3, _), (2, _), (0, _), (1, _)]) (y := i3 + (1 : Int32)) C 3 dX0_keeps_51 rfl rfl (by decide) rfl ?_
            refine v_goto (tgt := 4) C dX0_keeps_54 (by decide) ?_
            refine v_sub (ls' := _) [2, 3, 1, 0] rfl (ih x12 (i3 + (1 : Int32)) _ _ _ hf hl J)
          · clear hf
            have hf := hAh13
            have hl := hlh13
            refine v_if_ne C hf (tgt := 49) dX0_keeps_42 (by decide) (fun c42 hf => ?_) (fun c42 hf => ?_)
            · refine v_iconst (x := 0) C dX0_keeps_49 (by decide) ?_
              obtain ⟨e1, rfl⟩ := mret_inv hf
              subst e1
              exact v_sub (ls' := _) [0, 1, 3] rfl Jh13
            · refine v_iconst (x := 1) C dX0_keeps_45 (by decide) ?_
              refine v_goto (tgt := 50) C dX0_keeps_46 (by decide) ?_
              obtain ⟨e1, rfl⟩ := mret_inv hf
              subst e1
              exact v_sub (ls' := _) [0, 1, 3] rfl Jh13
  unfold f_X0_keeps at hf
  refine v_iconst (x := 1) C dX0_keeps_0 (by decide) ?_
  refine v_istore_n (ls' := [(2, _), (0, _), (1, _)]) C dX0_keeps_1 rfl (by decide) rfl ?_
  refine v_iconst (x := 0) C dX0_keeps_2 (by decide) ?_
  refine v_istore_n (ls' := [(3, _), (2, _), (0, _), (1, _)]) C dX0_keeps_3 rfl (by decide) rfl ?_
  obtain ⟨x14, h15, eh15, hf, hlh15⟩ := mb_inv hf hl
  refine v_sub (ls' := _) [2, 3, 1, 0] rfl (L4 a0 i1 FU (1 : Int32) (0 : Int32) _ _ _ eh15 hlh15 ?_)
  refine v_iload_n C 0 dX0_keeps_57 rfl rfl ?_
  exact v_zret C E hf dX0_keeps_58
def l_X0_octadsStaying_17 (a1 : Nat) (a3 : Nat) (i4 : Int32) : Nat → Int32 → Int32 → hM (Int32)
  | 0, _, _ => mfail
  | n + 1, i2, i5 => mi (i4 ≤ i5) (mret i2) (mb (aI 1 a3 i5) fun x4 => mb (mat a1 3 (f_X11_over a1 x4)) fun x5 => mb (mi (¬ x5 = x4) (mret (0 : Int32)) (mret (1 : Int32))) fun x7 => l_X0_octadsStaying_17 a1 a3 i4 n (i2 + x7) (i5 + (1 : Int32)))
def f_X0_octadsStaying (a0 : Nat) (a1 : Nat) : hM Int32 :=
  mb (gR a0 0 0) fun x1 => mb (gR x1 1 3) fun x2 => mb (alen 1 x2) fun x3 => mb (l_X0_octadsStaying_17 a1 x2 x3 FU (0 : Int32) (0 : Int32)) fun x9 => mret x9
theorem nd_X0_octadsStaying : yX0_octadsStaying.cls ≠ "java/lang/invoke/MethodHandle" ∧ yX0_octadsStaying.cls ≠ "java/lang/invoke/VarHandle" ∧ (parseMethodDescriptor yX0_octadsStaying.desc).map (fun d => d.parameters.length) = some 1 := by decide +kernel
set_option maxHeartbeats 4000000 in
theorem ct_X0_octadsStaying (l : Launch) (a0 : Nat) (a1 : Nat) : CT l yX0_octadsStaying cX0_octadsStaying 7 (some .int) 4 87 rvI [.ref a0, .ref a1] (f_X0_octadsStaying a0 a1) := by
  refine CT_of (ls := [(0, .ref a0), (1, .ref a1)]) (by decide) (Nat.le_of_ble_eq_true rfl) rfl ?_
  intro X h he z hX hf C E hnm hh
  have hl := hle.rf he
  subst hX
  have L17 : ∀ (a1 : Nat) (a3 : Nat) (i4 : Int32) (n : Nat) (i2 : Int32) (i5 : Int32) (h h1 : Hp) (o : Int32), (l_X0_octadsStaying_17 a1 a3 i4 n i2 i5).1 h = some (o, h1) → hle h1 he → V X h1 55 [(2, .int o)] [] → V X h 17 [(1, .ref a1), (2, .int i2), (3, .ref a3), (4, .int i4), (5, .int i5)] [] := by
    intro a1 a3 i4 n
    induction n with
    | zero => intro i2 i5 h h1 o hf; exact mfail_inv hf
    | succ n ih =>
      intro i2 i5 h h1 o hf hl J
      rw [l_X0_octadsStaying_17] at hf
      refine v_iload C 4 dX0_octadsStaying_17 rfl ?_
      refine v_iload C 3 dX0_octadsStaying_19 rfl ?_
      refine v_icmp_ge C hf (tgt := 55) dX0_octadsStaying_21 (by decide) (fun c21 hf => ?_) (fun c21 hf => ?_)
      · obtain ⟨e1, rfl⟩ := mret_inv hf
        subst e1
        exact v_sub (ls' := _) [1] rfl J
      · refine v_aload_n C 2 dX0_octadsStaying_24 rfl rfl ?_
        refine v_iload C 4 dX0_octadsStaying_25 rfl ?_
        refine v_iaload C hf dX0_octadsStaying_27 (fun x4 hf => ?_)
        refine v_istore (ls' := [(6, _), (1, _), (2, _), (3, _), (4, _), (5, _)]) C dX0_octadsStaying_28 (by decide) rfl ?_
        refine v_iload_n C 2 dX0_octadsStaying_30 rfl rfl ?_
        refine v_aload_n C 1 dX0_octadsStaying_31 rfl rfl ?_
        refine v_iload C 0 dX0_octadsStaying_32 rfl ?_
        refine v_callD (x := ({ cls := "EightBlocks$Move", name := "over", desc := "(I)I" } : Jvm.MethodName)) (stk := fun b => .int b :: [.int i2]) C (ct_X11_over _ a1 x4) rfl nd_X11_over rfl (Nat.le_of_ble_eq_true rfl) (Nat.le_of_ble_eq_true rfl) [.int i2] (Nat.le_of_ble_eq_true rfl) (fun _ => rfl) rfl nw_14 nw_8 nw_9 q829 q831 q119 q833 hf hl dX0_octadsStaying_34 (fun x5 h6 hf => ?_)
        refine v_iload C 0 dX0_octadsStaying_37 rfl ?_
        obtain ⟨x7, h8, hAh8, hf, hlh8⟩ := mb_inv hf hl
        refine v_cut (h1 := h8) (pc1 := 47) (ls1 := [(1, .ref a1), (3, .ref a3), (4, .int i4), (5, .int i5)]) (st1 := [.int x7, .int i2]) ?_ (fun Jh8 => ?_)
        · clear hAh8 hlh8
          refine v_iadd C dX0_octadsStaying_47 ?_
          refine v_istore_n (ls' := [(2, _), (1, _), (3, _), (4, _), (5, _)]) C dX0_octadsStaying_48 rfl (by decide) rfl ?_
          refine v_iinc (ls' := [(5, _), (2, _), (1, _), (3, _), (4, _)]) (y := i5 + (1 : Int32)) C 4 dX0_octadsStaying_49 rfl rfl (by decide) rfl ?_
          refine v_goto (tgt := 17) C dX0_octadsStaying_52 (by decide) ?_
          refine v_sub (ls' := _) [2, 1, 3, 4, 0] rfl (ih (i2 + x7) (i5 + (1 : Int32)) _ _ _ hf hl J)
        · clear hf
          have hf := hAh8
          have hl := hlh8
          refine v_icmp_ne C hf (tgt := 46) dX0_octadsStaying_39 (by decide) (fun c39 hf => ?_) (fun c39 hf => ?_)
          · refine v_iconst (x := 0) C dX0_octadsStaying_46 (by decide) ?_
            obtain ⟨e1, rfl⟩ := mret_inv hf
            subst e1
            exact v_sub (ls' := _) [1, 3, 4, 5] rfl Jh8
          · refine v_iconst (x := 1) C dX0_octadsStaying_42 (by decide) ?_
            refine v_goto (tgt := 47) C dX0_octadsStaying_43 (by decide) ?_
            obtain ⟨e1, rfl⟩ := mret_inv hf
            subst e1
            exact v_sub (ls' := _) [1, 3, 4, 5] rfl Jh8
  unfold f_X0_octadsStaying at hf
  refine v_iconst (x := 0) C dX0_octadsStaying_0 (by decide) ?_
  refine v_istore_n (ls' := [(2, _), (0, _), (1, _)]) C dX0_octadsStaying_1 rfl (by decide) rfl ?_
  refine v_aload_n C 1 dX0_octadsStaying_2 rfl rfl ?_
  refine v_gR (Cn := RX0) (T := TX0) (N := 16) C hf in_X0 rfl (by decide) q692 rfl dX0_octadsStaying_3 (fun x1 hf => ?_)
  refine v_gRN (Cn := RX1) (T := TX1) (N := 10) C hf in_X1 rfl (by decide) q202 rfl dX0_octadsStaying_6 (fun x2 hf => ?_)
  refine v_astore_n (ls' := [(3, _), (2, _), (0, _), (1, _)]) C dX0_octadsStaying_9 rfl (by decide) rfl ?_
  refine v_aload_n C 0 dX0_octadsStaying_10 rfl rfl ?_
  refine v_alen C hf (by decide) dX0_octadsStaying_11 (fun x3 hf => ?_)
  refine v_istore (ls' := [(4, _), (3, _), (2, _), (0, _), (1, _)]) C dX0_octadsStaying_12 (by decide) rfl ?_
  refine v_iconst (x := 0) C dX0_octadsStaying_14 (by decide) ?_
  refine v_istore (ls' := [(5, _), (4, _), (3, _), (2, _), (0, _), (1, _)]) C dX0_octadsStaying_15 (by decide) rfl ?_
  obtain ⟨x9, h10, eh10, hf, hlh10⟩ := mb_inv hf hl
  refine v_sub (ls' := _) [5, 3, 2, 1, 0] rfl (L17 a1 x2 x3 FU (0 : Int32) (0 : Int32) _ _ _ eh10 hlh10 ?_)
  refine v_iload_n C 0 dX0_octadsStaying_55 rfl rfl ?_
  exact v_iret C E hf dX0_octadsStaying_56
def f_X0_whereGoes (a0 : Nat) (i1 : Int32) (a2 : Nat) : hM Int32 :=
  mb (mat a2 3 (f_X11_over a2 i1)) fun x1 => mb (mi (¬ x1 = i1) (mi (¬ x1 = ((16777215 : Int32) - i1)) (mret (0 : Int32)) (mret (2 : Int32))) (mret (1 : Int32))) fun x3 => mret x3
theorem nd_X0_whereGoes : yX0_whereGoes.cls ≠ "java/lang/invoke/MethodHandle" ∧ yX0_whereGoes.cls ≠ "java/lang/invoke/VarHandle" ∧ (parseMethodDescriptor yX0_whereGoes.desc).map (fun d => d.parameters.length) = some 2 := by decide +kernel
set_option maxHeartbeats 4000000 in
theorem ct_X0_whereGoes (l : Launch) (a0 : Nat) (i1 : Int32) (a2 : Nat) : CT l yX0_whereGoes cX0_whereGoes 4 (some .int) 4 87 rvI [.ref a0, .int i1, .ref a2] (f_X0_whereGoes a0 i1 a2) := by
  refine CT_of (ls := [(0, .ref a0), (1, .int i1), (2, .ref a2)]) (by decide) (Nat.le_of_ble_eq_true rfl) rfl ?_
  intro X h he z hX hf C E hnm hh
  have hl := hle.rf he
  subst hX
  unfold f_X0_whereGoes at hf
  refine v_aload_n C 2 dX0_whereGoes_0 rfl rfl ?_
  refine v_iload_n C 1 dX0_whereGoes_1 rfl rfl ?_
  refine v_callD (x := ({ cls := "EightBlocks$Move", name := "over", desc := "(I)I" } : Jvm.MethodName)) (stk := fun b => .int b :: []) C (ct_X11_over _ a2 i1) rfl nd_X11_over rfl (Nat.le_of_ble_eq_true rfl) (Nat.le_of_ble_eq_true rfl) [] (Nat.le_of_ble_eq_true rfl) (fun _ => rfl) rfl nw_14 nw_8 nw_9 q829 q831 q119 q833 hf hl dX0_whereGoes_2 (fun x1 h2 hf => ?_)
  refine v_istore_n (ls' := [(3, _), (0, _), (1, _), (2, _)]) C dX0_whereGoes_5 rfl (by decide) rfl ?_
  refine v_iload_n C 0 dX0_whereGoes_6 rfl rfl ?_
  refine v_iload_n C 2 dX0_whereGoes_7 rfl rfl ?_
  obtain ⟨x3, h4, hAh4, hf, hlh4⟩ := mb_inv hf hl
  refine v_cut (h1 := h4) (pc1 := 28) (ls1 := []) (st1 := [.int x3]) ?_ (fun Jh4 => ?_)
  · clear hAh4 hlh4
    exact v_iret C E hf dX0_whereGoes_28
  · clear hf
    have hf := hAh4
    have hl := hlh4
    refine v_icmp_ne C hf (tgt := 15) dX0_whereGoes_8 (by decide) (fun c8 hf => ?_) (fun c8 hf => ?_)
    · refine v_iload_n C 0 dX0_whereGoes_15 rfl rfl ?_
      refine v_ldc (x := 16777215) C q862 dX0_whereGoes_16 ?_
      refine v_iload_n C 2 dX0_whereGoes_18 rfl rfl ?_
      refine v_isub C dX0_whereGoes_19 ?_
      refine v_icmp_ne C hf (tgt := 27) dX0_whereGoes_20 (by decide) (fun c20 hf => ?_) (fun c20 hf => ?_)
      · refine v_iconst (x := 0) C dX0_whereGoes_27 (by decide) ?_
        obtain ⟨e1, rfl⟩ := mret_inv hf
        subst e1
        exact v_sub (ls' := _) [] rfl Jh4
      · refine v_iconst (x := 2) C dX0_whereGoes_23 (by decide) ?_
        refine v_goto (tgt := 28) C dX0_whereGoes_24 (by decide) ?_
        obtain ⟨e1, rfl⟩ := mret_inv hf
        subst e1
        exact v_sub (ls' := _) [] rfl Jh4
    · refine v_iconst (x := 1) C dX0_whereGoes_11 (by decide) ?_
      refine v_goto (tgt := 28) C dX0_whereGoes_12 (by decide) ?_
      obtain ⟨e1, rfl⟩ := mret_inv hf
      subst e1
      exact v_sub (ls' := _) [] rfl Jh4
def f_X0_sent (a0 : Nat) (i1 : Int32) (i2 : Int32) : hM Int32 :=
  mb (f_X0_isMove i1) fun x1 => mb (mi (x1 = 0) (mret (-1 : Int32)) (mb (f_X0_isSet i2) fun x5 => mi (x5 = 0) (mret (-1 : Int32)) (mb (gR a0 0 3) fun x7 => mb (gR x7 2 0) fun x8 => mb (aR 6 x8 i1) fun x9 => mb (mat x9 3 (f_X11_over x9 i2)) fun x10 => mret x10))) fun x3 => mret x3
theorem nd_X0_sent : yX0_sent.cls ≠ "java/lang/invoke/MethodHandle" ∧ yX0_sent.cls ≠ "java/lang/invoke/VarHandle" ∧ (parseMethodDescriptor yX0_sent.desc).map (fun d => d.parameters.length) = some 2 := by decide +kernel
set_option maxHeartbeats 4000000 in
theorem ct_X0_sent (l : Launch) (a0 : Nat) (i1 : Int32) (i2 : Int32) : CT l yX0_sent cX0_sent 3 (some .int) 4 87 rvI [.ref a0, .int i1, .int i2] (f_X0_sent a0 i1 i2) := by
  refine CT_of (ls := [(0, .ref a0), (1, .int i1), (2, .int i2)]) (by decide) (Nat.le_of_ble_eq_true rfl) rfl ?_
  intro X h he z hX hf C E hnm hh
  have hl := hle.rf he
  subst hX
  unfold f_X0_sent at hf
  refine v_iload_n C 1 dX0_sent_0 rfl rfl ?_
  refine v_callS (stk := fun b => .int b :: []) C (ct_X0_isMove _ i1) nd_X0_isMove rfl (Nat.le_of_ble_eq_true rfl) (Nat.le_of_ble_eq_true rfl) [] (Nat.le_of_ble_eq_true rfl) (fun _ => rfl) rfl q812 q813 q96 q814 hf hl dX0_sent_1 (fun x1 h2 hf => ?_)
  obtain ⟨x3, h4, hAh4, hf, hlh4⟩ := mb_inv hf hl
  refine v_cut (h1 := h4) (pc1 := 31) (ls1 := []) (st1 := [.int x3]) ?_ (fun Jh4 => ?_)
  · clear hAh4 hlh4
    exact v_iret C E hf dX0_sent_31
  · clear hf
    have hf := hAh4
    have hl := hlh4
    refine v_if_eq C hf (tgt := 30) dX0_sent_4 (by decide) (fun c4 hf => ?_) (fun c4 hf => ?_)
    · refine v_iconst (x := (-1)) C dX0_sent_30 (by decide) ?_
      obtain ⟨e1, rfl⟩ := mret_inv hf
      subst e1
      exact v_sub (ls' := _) [] rfl Jh4
    · refine v_iload_n C 2 dX0_sent_7 rfl rfl ?_
      refine v_callS (stk := fun b => .int b :: []) C (ct_X0_isSet _ i2) nd_X0_isSet rfl (Nat.le_of_ble_eq_true rfl) (Nat.le_of_ble_eq_true rfl) [] (Nat.le_of_ble_eq_true rfl) (fun _ => rfl) rfl q745 q746 q96 q747 hf hl dX0_sent_8 (fun x5 h6 hf => ?_)
      refine v_if_eq C hf (tgt := 30) dX0_sent_11 (by decide) (fun c11 hf => ?_) (fun c11 hf => ?_)
      · refine v_iconst (x := (-1)) C dX0_sent_30 (by decide) ?_
        obtain ⟨e1, rfl⟩ := mret_inv hf
        subst e1
        exact v_sub (ls' := _) [] rfl Jh4
      · refine v_aload_n C 0 dX0_sent_14 rfl rfl ?_
        refine v_gR (Cn := RX0) (T := TX0) (N := 16) C hf in_X0 rfl (by decide) q695 rfl dX0_sent_15 (fun x7 hf => ?_)
        refine v_gRN (Cn := RX2) (T := TX2) (N := 3) C hf in_X2 rfl (by decide) q259 rfl dX0_sent_18 (fun x8 hf => ?_)
        refine v_iload_n C 1 dX0_sent_21 rfl rfl ?_
        refine v_aaload C hf (by decide) rfl dX0_sent_22 (fun x9 hf => ?_)
        refine v_iload_n C 2 dX0_sent_23 rfl rfl ?_
        refine v_callD (x := ({ cls := "EightBlocks$Move", name := "over", desc := "(I)I" } : Jvm.MethodName)) (stk := fun b => .int b :: []) C (ct_X11_over _ x9 i2) rfl nd_X11_over rfl (Nat.le_of_ble_eq_true rfl) (Nat.le_of_ble_eq_true rfl) [] (Nat.le_of_ble_eq_true rfl) (fun _ => rfl) rfl nw_14 nw_8 nw_9 q829 q831 q119 q833 hf hl dX0_sent_24 (fun x10 h11 hf => ?_)
        refine v_goto (tgt := 31) C dX0_sent_27 (by decide) ?_
        obtain ⟨e1, rfl⟩ := mret_inv hf
        subst e1
        exact v_sub (ls' := _) [] rfl Jh4
def f_X0_note (a0 : Nat) : hM Unit :=
  mb (gI a0 0 10) fun x1 => mb (mi (¬ x1 = (6 : Int32)) (mret ()) (mb (gR a0 0 9) fun x11 => mb (aR 8 x11 (0 : Int32)) fun x12 => mb (gR a0 0 9) fun x13 => mb (gR a0 0 9) fun x14 => mb (cpR 8 2 x13 (1 : Int32) x14 (0 : Int32) (5 : Int32)) fun _ => mb (gR a0 0 9) fun x16 => mb (sR 8 2 x16 (5 : Int32) x12) fun _ => mb (gI a0 0 10) fun x18 => mb (pF a0 0 10 (.int (x18 - (1 : Int32)))) fun _ => mret ())) fun _ => mb (gR a0 0 9) fun x3 => mb (gI a0 0 10) fun x4 => mb (aR 8 x3 x4) fun x5 => mb (gR a0 0 3) fun x6 => mb (mat x5 2 (f_X2_takeFrom x5 x6)) fun _ => mb (gI a0 0 10) fun x9 => mb (pF a0 0 10 (.int (x9 + (1 : Int32)))) fun _ => mret ()
theorem nd_X0_note : yX0_note.cls ≠ "java/lang/invoke/MethodHandle" ∧ yX0_note.cls ≠ "java/lang/invoke/VarHandle" ∧ (parseMethodDescriptor yX0_note.desc).map (fun d => d.parameters.length) = some 0 := by decide +kernel
set_option maxHeartbeats 4000000 in
theorem ct_X0_note (l : Launch) (a0 : Nat) : CT l yX0_note cX0_note 2 none 5 108 rv0 [.ref a0] (f_X0_note a0) := by
  refine CT_of (ls := [(0, .ref a0)]) (by decide) (Nat.le_of_ble_eq_true rfl) rfl ?_
  intro X h he z hX hf C E hnm hh
  have hl := hle.rf he
  subst hX
  unfold f_X0_note at hf
  refine v_aload_n C 0 dX0_note_0 rfl rfl ?_
  refine v_gI (Cn := RX0) (T := TX0) (N := 16) C hf in_X0 rfl (by decide) q702 rfl dX0_note_1 (fun x1 hf => ?_)
  refine v_bipush (x := 6) C dX0_note_4 (by decide) ?_
  obtain ⟨_u, h2, hAh2, hf, hlh2⟩ := mb_inv hf hl
  refine v_cut (h1 := h2) (pc1 := 47) (ls1 := [(0, .ref a0)]) (st1 := []) ?_ (fun Jh2 => ?_)
  · clear hAh2 hlh2
    refine v_aload_n C 0 dX0_note_47 rfl rfl ?_
    refine v_gR (Cn := RX0) (T := TX0) (N := 16) C hf in_X0 rfl (by decide) q701 rfl dX0_note_48 (fun x3 hf => ?_)
    refine v_aload_n C 0 dX0_note_51 rfl rfl ?_
    refine v_gI (Cn := RX0) (T := TX0) (N := 16) C hf in_X0 rfl (by decide) q702 rfl dX0_note_52 (fun x4 hf => ?_)
    refine v_aaload C hf (by decide) rfl dX0_note_55 (fun x5 hf => ?_)
    refine v_aload_n C 0 dX0_note_56 rfl rfl ?_
    refine v_gR (Cn := RX0) (T := TX0) (N := 16) C hf in_X0 rfl (by decide) q695 rfl dX0_note_57 (fun x6 hf => ?_)
    refine v_callV (stk := fun _ => []) C (ct_X2_takeFrom _ x5 x6) rfl ⟨rfl, nd_X2_takeFrom⟩ rfl (Nat.le_of_ble_eq_true rfl) (Nat.le_of_ble_eq_true rfl) [] (Nat.le_of_ble_eq_true rfl) (fun _ => rfl) rfl q1361 q1362 q1363 q102 q1364 hf hl dX0_note_60 (fun x7 h8 hf => ?_)
    refine v_aload_n C 0 dX0_note_63 rfl rfl ?_
    refine v_dup C dX0_note_64 rfl ?_
    refine v_gI (Cn := RX0) (T := TX0) (N := 16) C hf in_X0 rfl (by decide) q702 rfl dX0_note_65 (fun x9 hf => ?_)
    refine v_iconst (x := 1) C dX0_note_68 (by decide) ?_
    refine v_iadd C dX0_note_69 ?_
    refine v_putv (Cn := RX0) (T := TX0) (N := 16) (ty0 := tyX0) C hf in_X0 tyX0_ok nmX0 rfl (by decide) q702 rfl rfl rfl rfl dX0_note_70 (fun h10 hf => ?_)
    exact v_vret C E hf dX0_note_73
  · clear hf
    have hf := hAh2
    have hl := hlh2
    refine v_icmp_ne C hf (tgt := 47) dX0_note_6 (by decide) (fun c6 hf => ?_) (fun c6 hf => ?_)
    · obtain ⟨e1, rfl⟩ := mret_inv hf
      exact v_sub (ls' := _) [0] rfl Jh2
    · refine v_aload_n C 0 dX0_note_9 rfl rfl ?_
      refine v_gR (Cn := RX0) (T := TX0) (N := 16) C hf in_X0 rfl (by decide) q701 rfl dX0_note_10 (fun x11 hf => ?_)
      refine v_iconst (x := 0) C dX0_note_13 (by decide) ?_
      refine v_aaload C hf (by decide) rfl dX0_note_14 (fun x12 hf => ?_)
      refine v_astore_n (ls' := [(1, _), (0, _)]) C dX0_note_15 rfl (by decide) rfl ?_
      refine v_aload_n C 1 dX0_note_16 rfl rfl ?_
      refine v_gR (Cn := RX0) (T := TX0) (N := 16) C hf in_X0 rfl (by decide) q701 rfl dX0_note_17 (fun x13 hf => ?_)
      refine v_iconst (x := 1) C dX0_note_20 (by decide) ?_
      refine v_aload_n C 1 dX0_note_21 rfl rfl ?_
      refine v_gR (Cn := RX0) (T := TX0) (N := 16) C hf in_X0 rfl (by decide) q701 rfl dX0_note_22 (fun x14 hf => ?_)
      refine v_iconst (x := 0) C dX0_note_25 (by decide) ?_
      refine v_iconst (x := 5) C dX0_note_26 (by decide) ?_
      refine v_cpR C hf (by decide) rfl rfl (Nat.le_of_ble_eq_true rfl) (Nat.le_of_ble_eq_true rfl) q1360 q917 q916 q128 dX0_note_27 (fun h15 hf => ?_)
      refine v_aload_n C 1 dX0_note_30 rfl rfl ?_
      refine v_gR (Cn := RX0) (T := TX0) (N := 16) C hf in_X0 rfl (by decide) q701 rfl dX0_note_31 (fun x16 hf => ?_)
      refine v_iconst (x := 5) C dX0_note_34 (by decide) ?_
      refine v_aload_n C 0 dX0_note_35 rfl rfl ?_
      refine v_aastore C hf (by decide) rfl rfl dX0_note_36 (fun h17 hf => ?_)
      refine v_aload_n C 1 dX0_note_37 rfl rfl ?_
      refine v_dup C dX0_note_38 rfl ?_
      refine v_gI (Cn := RX0) (T := TX0) (N := 16) C hf in_X0 rfl (by decide) q702 rfl dX0_note_39 (fun x18 hf => ?_)
      refine v_iconst (x := 1) C dX0_note_42 (by decide) ?_
      refine v_isub C dX0_note_43 ?_
      refine v_putv (Cn := RX0) (T := TX0) (N := 16) (ty0 := tyX0) C hf in_X0 tyX0_ok nmX0 rfl (by decide) q702 rfl rfl rfl rfl dX0_note_44 (fun h19 hf => ?_)
      obtain ⟨e1, rfl⟩ := mret_inv hf
      exact v_sub (ls' := _) [1] rfl Jh2
def l_X0_keepAll_4 (a0 : Nat) (i1 : Int32) : Nat → Int32 → Int32 → hM (Int32)
  | 0, _, _ => mfail
  | n + 1, i2, i3 => mi ((4 : Int32) ≤ i3) (mret i2) (mb (mi (i2 = 0) (mret (0 : Int32)) (mb (f_X0_has i1 i3) fun x3 => mi (x3 = 0) (mret (1 : Int32)) (mb (mat a0 0 (f_X0_keeps a0 i3)) fun x5 => mi (x5 = 0) (mret (0 : Int32)) (mret (1 : Int32))))) fun x1 => l_X0_keepAll_4 a0 i1 n x1 (i3 + (1 : Int32)))
def f_X0_keepAll (a0 : Nat) (i1 : Int32) : hM Int32 :=
  mb (l_X0_keepAll_4 a0 i1 FU (1 : Int32) (0 : Int32)) fun x7 => mrt .boolean x7
theorem nd_X0_keepAll : yX0_keepAll.cls ≠ "java/lang/invoke/MethodHandle" ∧ yX0_keepAll.cls ≠ "java/lang/invoke/VarHandle" ∧ (parseMethodDescriptor yX0_keepAll.desc).map (fun d => d.parameters.length) = some 1 := by decide +kernel
set_option maxHeartbeats 4000000 in
theorem ct_X0_keepAll (l : Launch) (a0 : Nat) (i1 : Int32) : CT l yX0_keepAll cX0_keepAll 4 (some .boolean) 5 110 rvI [.ref a0, .int i1] (f_X0_keepAll a0 i1) := by
  refine CT_of (ls := [(0, .ref a0), (1, .int i1)]) (by decide) (Nat.le_of_ble_eq_true rfl) rfl ?_
  intro X h he z hX hf C E hnm hh
  have hl := hle.rf he
  subst hX
  have L4 : ∀ (a0 : Nat) (i1 : Int32) (n : Nat) (i2 : Int32) (i3 : Int32) (h h1 : Hp) (o : Int32), (l_X0_keepAll_4 a0 i1 n i2 i3).1 h = some (o, h1) → hle h1 he → V X h1 41 [(2, .int o)] [] → V X h 4 [(0, .ref a0), (1, .int i1), (2, .int i2), (3, .int i3)] [] := by
    intro a0 i1 n
    induction n with
    | zero => intro i2 i3 h h1 o hf; exact mfail_inv hf
    | succ n ih =>
      intro i2 i3 h h1 o hf hl J
      rw [l_X0_keepAll_4] at hf
      refine v_iload_n C 3 dX0_keepAll_4 rfl rfl ?_
      refine v_iconst (x := 4) C dX0_keepAll_5 (by decide) ?_
      refine v_icmp_ge C hf (tgt := 41) dX0_keepAll_6 (by decide) (fun c6 hf => ?_) (fun c6 hf => ?_)
      · obtain ⟨e1, rfl⟩ := mret_inv hf
        subst e1
        exact v_sub (ls' := _) [2] rfl J
      · refine v_iload_n C 2 dX0_keepAll_9 rfl rfl ?_
        obtain ⟨x1, h2, hAh2, hf, hlh2⟩ := mb_inv hf hl
        refine v_cut (h1 := h2) (pc1 := 34) (ls1 := [(0, .ref a0), (1, .int i1), (3, .int i3)]) (st1 := [.int x1]) ?_ (fun Jh2 => ?_)
        · clear hAh2 hlh2
          refine v_istore_n (ls' := [(2, _), (0, _), (1, _), (3, _)]) C dX0_keepAll_34 rfl (by decide) rfl ?_
          refine v_iinc (ls' := [(3, _), (2, _), (0, _), (1, _)]) (y := i3 + (1 : Int32)) C 3 dX0_keepAll_35 rfl rfl (by decide) rfl ?_
          refine v_goto (tgt := 4) C dX0_keepAll_38 (by decide) ?_
          refine v_sub (ls' := _) [2, 3, 1, 0] rfl (ih x1 (i3 + (1 : Int32)) _ _ _ hf hl J)
        · clear hf
          have hf := hAh2
          have hl := hlh2
          refine v_if_eq C hf (tgt := 33) dX0_keepAll_10 (by decide) (fun c10 hf => ?_) (fun c10 hf => ?_)
          · refine v_iconst (x := 0) C dX0_keepAll_33 (by decide) ?_
            obtain ⟨e1, rfl⟩ := mret_inv hf
            subst e1
            exact v_sub (ls' := _) [0, 1, 3] rfl Jh2
          · refine v_iload_n C 1 dX0_keepAll_13 rfl rfl ?_
            refine v_iload_n C 3 dX0_keepAll_14 rfl rfl ?_
            refine v_callS (stk := fun b => .int b :: []) C (ct_X0_has _ i1 i3) nd_X0_has rfl (Nat.le_of_ble_eq_true rfl) (Nat.le_of_ble_eq_true rfl) [] (Nat.le_of_ble_eq_true rfl) (fun _ => rfl) rfl q1259 q164 q96 q165 hf hl dX0_keepAll_15 (fun x3 h4 hf => ?_)
            refine v_if_eq C hf (tgt := 29) dX0_keepAll_18 (by decide) (fun c18 hf => ?_) (fun c18 hf => ?_)
            · refine v_iconst (x := 1) C dX0_keepAll_29 (by decide) ?_
              refine v_goto (tgt := 34) C dX0_keepAll_30 (by decide) ?_
              obtain ⟨e1, rfl⟩ := mret_inv hf
              subst e1
              exact v_sub (ls' := _) [0, 1, 3] rfl Jh2
            · refine v_aload_n C 0 dX0_keepAll_21 rfl rfl ?_
              refine v_iload_n C 3 dX0_keepAll_22 rfl rfl ?_
              refine v_callV (stk := fun b => .int b :: []) C (ct_X0_keeps _ a0 i3) rfl ⟨rfl, nd_X0_keeps⟩ rfl (Nat.le_of_ble_eq_true rfl) (Nat.le_of_ble_eq_true rfl) [] (Nat.le_of_ble_eq_true rfl) (fun _ => rfl) rfl q825 q827 qs9 q96 q828 hf hl dX0_keepAll_23 (fun x5 h6 hf => ?_)
              refine v_if_eq C hf (tgt := 33) dX0_keepAll_26 (by decide) (fun c26 hf => ?_) (fun c26 hf => ?_)
              · refine v_iconst (x := 0) C dX0_keepAll_33 (by decide) ?_
                obtain ⟨e1, rfl⟩ := mret_inv hf
                subst e1
                exact v_sub (ls' := _) [0, 1, 3] rfl Jh2
              · refine v_iconst (x := 1) C dX0_keepAll_29 (by decide) ?_
                refine v_goto (tgt := 34) C dX0_keepAll_30 (by decide) ?_
                obtain ⟨e1, rfl⟩ := mret_inv hf
                subst e1
                exact v_sub (ls' := _) [0, 1, 3] rfl Jh2
  unfold f_X0_keepAll at hf
  refine v_iconst (x := 1) C dX0_keepAll_0 (by decide) ?_
  refine v_istore_n (ls' := [(2, _), (0, _), (1, _)]) C dX0_keepAll_1 rfl (by decide) rfl ?_
  refine v_iconst (x := 0) C dX0_keepAll_2 (by decide) ?_
  refine v_istore_n (ls' := [(3, _), (2, _), (0, _), (1, _)]) C dX0_keepAll_3 rfl (by decide) rfl ?_
  obtain ⟨x7, h8, eh8, hf, hlh8⟩ := mb_inv hf hl
  refine v_sub (ls' := _) [2, 3, 1, 0] rfl (L4 a0 i1 FU (1 : Int32) (0 : Int32) _ _ _ eh8 hlh8 ?_)
  refine v_iload_n C 0 dX0_keepAll_41 rfl rfl ?_
  exact v_zret C E hf dX0_keepAll_42
def l_X0_reached_17 (a0 : Nat) (i1 : Int32) (i4 : Int32) : Nat → Int32 → Int32 → hM (Int32)
  | 0, _, _ => mfail
  | n + 1, i3, i5 => mi ((4 : Int32) ≤ i5) (mret i3) (mb (f_X0_has i1 i5) fun x1 => mb (mi (x1 = 0) (mret (0 : Int32)) (mb (gR a0 0 3) fun x5 => mb (gR x5 2 0) fun x6 => mb (aR 6 x6 i5) fun x7 => mb (mat x7 3 (f_X11_over x7 i3)) fun x8 => mret x8)) fun x3 => l_X0_reached_17 a0 i1 i4 n (i3 ||| x3) (i5 + (1 : Int32)))
def l_X0_reached_5 (a0 : Nat) (i1 : Int32) : Nat → Int32 → Int32 → hM (Int32)
  | 0, _, _ => mfail
  | n + 1, i3, i4 => mi (i4 = i3) (mret i3) (mb (l_X0_reached_17 a0 i1 i3 FU i3 (0 : Int32)) fun x10 => l_X0_reached_5 a0 i1 n x10 i3)
def f_X0_reached (a0 : Nat) (i1 : Int32) (i2 : Int32) : hM Int32 :=
  mb (l_X0_reached_5 a0 i1 FU i2 (-1 : Int32)) fun x12 => mret x12
theorem nd_X0_reached : yX0_reached.cls ≠ "java/lang/invoke/MethodHandle" ∧ yX0_reached.cls ≠ "java/lang/invoke/VarHandle" ∧ (parseMethodDescriptor yX0_reached.desc).map (fun d => d.parameters.length) = some 2 := by decide +kernel
set_option maxHeartbeats 4000000 in
theorem ct_X0_reached (l : Launch) (a0 : Nat) (i1 : Int32) (i2 : Int32) : CT l yX0_reached cX0_reached 6 (some .int) 4 87 rvI [.ref a0, .int i1, .int i2] (f_X0_reached a0 i1 i2) := by
  refine CT_of (ls := [(0, .ref a0), (1, .int i1), (2, .int i2)]) (by decide) (Nat.le_of_ble_eq_true rfl) rfl ?_
  intro X h he z hX hf C E hnm hh
  have hl := hle.rf he
  subst hX
  have L17 : ∀ (a0 : Nat) (i1 : Int32) (i4 : Int32) (n : Nat) (i3 : Int32) (i5 : Int32) (h h1 : Hp) (o : Int32), (l_X0_reached_17 a0 i1 i4 n i3 i5).1 h = some (o, h1) → hle h1 he → V X h1 59 [(0, .ref a0), (1, .int i1), (3, .int o), (4, .int i4)] [] → V X h 17 [(0, .ref a0), (1, .int i1), (3, .int i3), (4, .int i4), (5, .int i5)] [] := by
    intro a0 i1 i4 n
    induction n with
    | zero => intro i3 i5 h h1 o hf; exact mfail_inv hf
    | succ n ih =>
      intro i3 i5 h h1 o hf hl J
      rw [l_X0_reached_17] at hf
      refine v_iload C 4 dX0_reached_17 rfl ?_
      refine v_iconst (x := 4) C dX0_reached_19 (by decide) ?_
      refine v_icmp_ge C hf (tgt := 59) dX0_reached_20 (by decide) (fun c20 hf => ?_) (fun c20 hf => ?_)
      · obtain ⟨e1, rfl⟩ := mret_inv hf
        subst e1
        exact v_sub (ls' := _) [0, 1, 2, 3] rfl J
      · refine v_iload_n C 2 dX0_reached_23 rfl rfl ?_
        refine v_iload_n C 1 dX0_reached_24 rfl rfl ?_
        refine v_iload C 4 dX0_reached_25 rfl ?_
        refine v_callS (stk := fun b => .int b :: [.int i3]) C (ct_X0_has _ i1 i5) nd_X0_has rfl (Nat.le_of_ble_eq_true rfl) (Nat.le_of_ble_eq_true rfl) [.int i3] (Nat.le_of_ble_eq_true rfl) (fun _ => rfl) rfl q1259 q164 q96 q165 hf hl dX0_reached_27 (fun x1 h2 hf => ?_)
        obtain ⟨x3, h4, hAh4, hf, hlh4⟩ := mb_inv hf hl
        refine v_cut (h1 := h4) (pc1 := 51) (ls1 := [(0, .ref a0), (1, .int i1), (4, .int i4), (5, .int i5)]) (st1 := [.int x3, .int i3]) ?_ (fun Jh4 => ?_)
        · clear hAh4 hlh4
          refine v_ior C dX0_reached_51 ?_
          refine v_istore_n (ls' := [(3, _), (0, _), (1, _), (4, _), (5, _)]) C dX0_reached_52 rfl (by decide) rfl ?_
          refine v_iinc (ls' := [(5, _), (3, _), (0, _), (1, _), (4, _)]) (y := i5 + (1 : Int32)) C 4 dX0_reached_53 rfl rfl (by decide) rfl ?_
          refine v_goto (tgt := 17) C dX0_reached_56 (by decide) ?_
          refine v_sub (ls' := _) [2, 3, 1, 4, 0] rfl (ih (i3 ||| x3) (i5 + (1 : Int32)) _ _ _ hf hl J)
        · clear hf
          have hf := hAh4
          have hl := hlh4
          refine v_if_eq C hf (tgt := 50) dX0_reached_30 (by decide) (fun c30 hf => ?_) (fun c30 hf => ?_)
          · refine v_iconst (x := 0) C dX0_reached_50 (by decide) ?_
            obtain ⟨e1, rfl⟩ := mret_inv hf
            subst e1
            exact v_sub (ls' := _) [0, 1, 3, 4] rfl Jh4
          · refine v_aload_n C 0 dX0_reached_33 rfl rfl ?_
            refine v_gR (Cn := RX0) (T := TX0) (N := 16) C hf in_X0 rfl (by decide) q695 rfl dX0_reached_34 (fun x5 hf => ?_)
            refine v_gRN (Cn := RX2) (T := TX2) (N := 3) C hf in_X2 rfl (by decide) q259 rfl dX0_reached_37 (fun x6 hf => ?_)
            refine v_iload C 4 dX0_reached_40 rfl ?_
            refine v_aaload C hf (by decide) rfl dX0_reached_42 (fun x7 hf => ?_)
            refine v_iload_n C 2 dX0_reached_43 rfl rfl ?_
            refine v_callD (x := ({ cls := "EightBlocks$Move", name := "over", desc := "(I)I" } : Jvm.MethodName)) (stk := fun b => .int b :: [.int i3]) C (ct_X11_over _ x7 i3) rfl nd_X11_over rfl (Nat.le_of_ble_eq_true rfl) (Nat.le_of_ble_eq_true rfl) [.int i3] (Nat.le_of_ble_eq_true rfl) (fun _ => rfl) rfl nw_14 nw_8 nw_9 q829 q831 q119 q833 hf hl dX0_reached_44 (fun x8 h9 hf => ?_)
            refine v_goto (tgt := 51) C dX0_reached_47 (by decide) ?_
            obtain ⟨e1, rfl⟩ := mret_inv hf
            subst e1
            exact v_sub (ls' := _) [0, 1, 3, 4] rfl Jh4
  have L5 : ∀ (a0 : Nat) (i1 : Int32) (n : Nat) (i3 : Int32) (i4 : Int32) (h h1 : Hp) (o : Int32), (l_X0_reached_5 a0 i1 n i3 i4).1 h = some (o, h1) → hle h1 he → V X h1 62 [(3, .int o)] [] → V X h 5 [(0, .ref a0), (1, .int i1), (3, .int i3), (4, .int i4)] [] := by
    intro a0 i1 n
    induction n with
    | zero => intro i3 i4 h h1 o hf; exact mfail_inv hf
    | succ n ih =>
      intro i3 i4 h h1 o hf hl J
      rw [l_X0_reached_5] at hf
      refine v_iload C 3 dX0_reached_5 rfl ?_
      refine v_iload_n C 2 dX0_reached_7 rfl rfl ?_
      refine v_icmp_eq C hf (tgt := 62) dX0_reached_8 (by decide) (fun c8 hf => ?_) (fun c8 hf => ?_)
      · obtain ⟨e1, rfl⟩ := mret_inv hf
        subst e1
        exact v_sub (ls' := _) [2] rfl J
      · refine v_iload_n C 2 dX0_reached_11 rfl rfl ?_
        refine v_istore (ls' := [(4, _), (0, _), (1, _), (3, _)]) C dX0_reached_12 (by decide) rfl ?_
        refine v_iconst (x := 0) C dX0_reached_14 (by decide) ?_
        refine v_istore (ls' := [(5, _), (4, _), (0, _), (1, _), (3, _)]) C dX0_reached_15 (by decide) rfl ?_
        obtain ⟨x10, h11, eh11, hf, hlh11⟩ := mb_inv hf hl
        refine v_sub (ls' := _) [2, 3, 4, 1, 0] rfl (L17 a0 i1 i3 FU i3 (0 : Int32) _ _ _ eh11 hlh11 ?_)
        refine v_goto (tgt := 5) C dX0_reached_59 (by decide) ?_
        refine v_sub (ls' := _) [0, 1, 2, 3] rfl (ih x10 i3 _ _ _ hf hl J)
  unfold f_X0_reached at hf
  refine v_iload_n C 2 dX0_reached_0 rfl rfl ?_
  refine v_istore_n (ls' := [(3, _), (0, _), (1, _), (2, _)]) C dX0_reached_1 rfl (by decide) rfl ?_
  refine v_iconst (x := (-1)) C dX0_reached_2 (by decide) ?_
  refine v_istore (ls' := [(4, _), (3, _), (0, _), (1, _), (2, _)]) C dX0_reached_3 (by decide) rfl ?_
  obtain ⟨x12, h13, eh13, hf, hlh13⟩ := mb_inv hf hl
  refine v_sub (ls' := _) [2, 3, 1, 0] rfl (L5 a0 i1 FU i2 (-1 : Int32) _ _ _ eh13 hlh13 ?_)
  refine v_iload_n C 0 dX0_reached_62 rfl rfl ?_
  exact v_iret C E hf dX0_reached_63
def f_X0_choose (a0 : Nat) (i1 : Int32) : hM Int32 :=
  mb (f_X0_isSet i1) fun x1 => mi (¬ x1 = 0) (mb (gR a0 0 0) fun x3 => mb (mat x3 1 (f_X1_isWord x3 i1 (12 : Int32))) fun x4 => mi (x4 = 0) (mret (-2 : Int32)) (mb (gR a0 0 3) fun x6 => mb (gI x6 2 1) fun x7 => mi (¬ i1 = x7) (mb (gR a0 0 3) fun x8 => mb (gI x8 2 1) fun x9 => mb (mat a0 0 (f_X0_note a0)) fun _ => mb (gR a0 0 3) fun x12 => mb (pF x12 2 1 (.int i1)) fun _ => mret x9) (mret (-2 : Int32)))) (mret (-1 : Int32))
theorem nd_X0_choose : yX0_choose.cls ≠ "java/lang/invoke/MethodHandle" ∧ yX0_choose.cls ≠ "java/lang/invoke/VarHandle" ∧ (parseMethodDescriptor yX0_choose.desc).map (fun d => d.parameters.length) = some 1 := by decide +kernel
set_option maxHeartbeats 4000000 in
theorem ct_X0_choose (l : Launch) (a0 : Nat) (i1 : Int32) : CT l yX0_choose cX0_choose 3 (some .int) 6 129 rvI [.ref a0, .int i1] (f_X0_choose a0 i1) := by
  refine CT_of (ls := [(0, .ref a0), (1, .int i1)]) (by decide) (Nat.le_of_ble_eq_true rfl) rfl ?_
  intro X h he z hX hf C E hnm hh
  have hl := hle.rf he
  subst hX
  unfold f_X0_choose at hf
  refine v_iload_n C 1 dX0_choose_0 rfl rfl ?_
  refine v_callS (stk := fun b => .int b :: []) C (ct_X0_isSet _ i1) nd_X0_isSet rfl (Nat.le_of_ble_eq_true rfl) (Nat.le_of_ble_eq_true rfl) [] (Nat.le_of_ble_eq_true rfl) (fun _ => rfl) rfl q745 q746 q96 q747 hf hl dX0_choose_1 (fun x1 h2 hf => ?_)
  refine v_if_ne C hf (tgt := 9) dX0_choose_4 (by decide) (fun c4 hf => ?_) (fun c4 hf => ?_)
  · refine v_aload_n C 0 dX0_choose_9 rfl rfl ?_
    refine v_gR (Cn := RX0) (T := TX0) (N := 16) C hf in_X0 rfl (by decide) q692 rfl dX0_choose_10 (fun x3 hf => ?_)
    refine v_iload_n C 1 dX0_choose_13 rfl rfl ?_
    refine v_bipush (x := 12) C dX0_choose_14 (by decide) ?_
    refine v_callV (stk := fun b => .int b :: []) C (ct_X1_isWord _ x3 i1 (12 : Int32)) rfl ⟨rfl, nd_X1_isWord⟩ rfl (Nat.le_of_ble_eq_true rfl) (Nat.le_of_ble_eq_true rfl) [] (Nat.le_of_ble_eq_true rfl) (fun _ => rfl) rfl q1588 q1589 q1590 q97 q1591 hf hl dX0_choose_16 (fun x4 h5 hf => ?_)
    refine v_if_eq C hf (tgt := 33) dX0_choose_19 (by decide) (fun c19 hf => ?_) (fun c19 hf => ?_)
    · refine v_bipush (x := (-2)) C dX0_choose_33 (by decide) ?_
      exact v_iret C E hf dX0_choose_35
    · refine v_iload_n C 1 dX0_choose_22 rfl rfl ?_
      refine v_aload_n C 0 dX0_choose_23 rfl rfl ?_
      refine v_gR (Cn := RX0) (T := TX0) (N := 16) C hf in_X0 rfl (by decide) q695 rfl dX0_choose_24 (fun x6 hf => ?_)
      refine v_gIN (Cn := RX2) (T := TX2) (N := 3) C hf in_X2 rfl (by decide) q261 rfl dX0_choose_27 (fun x7 hf => ?_)
      refine v_icmp_ne C hf (tgt := 36) dX0_choose_30 (by decide) (fun c30 hf => ?_) (fun c30 hf => ?_)
      · refine v_aload_n C 0 dX0_choose_36 rfl rfl ?_
        refine v_gR (Cn := RX0) (T := TX0) (N := 16) C hf in_X0 rfl (by decide) q695 rfl dX0_choose_37 (fun x8 hf => ?_)
        refine v_gIN (Cn := RX2) (T := TX2) (N := 3) C hf in_X2 rfl (by decide) q261 rfl dX0_choose_40 (fun x9 hf => ?_)
        refine v_istore_n (ls' := [(2, _), (0, _), (1, _)]) C dX0_choose_43 rfl (by decide) rfl ?_
        refine v_aload_n C 1 dX0_choose_44 rfl rfl ?_
        refine v_callV (stk := fun _ => []) C (ct_X0_note _ a0) rfl ⟨rfl, nd_X0_note⟩ rfl (Nat.le_of_ble_eq_true rfl) (Nat.le_of_ble_eq_true rfl) [] (Nat.le_of_ble_eq_true rfl) (fun _ => rfl) rfl q1356 q1358 qs21 q96 q1359 hf hl dX0_choose_45 (fun x10 h11 hf => ?_)
        refine v_aload_n C 1 dX0_choose_48 rfl rfl ?_
        refine v_gR (Cn := RX0) (T := TX0) (N := 16) C hf in_X0 rfl (by decide) q695 rfl dX0_choose_49 (fun x12 hf => ?_)
        refine v_iload_n C 2 dX0_choose_52 rfl rfl ?_
        refine v_putvN (Cn := RX2) (T := TX2) (N := 3) (ty0 := tyX2) C hf in_X2 tyX2_ok nmX2 rfl (by decide) q261 rfl rfl rfl rfl dX0_choose_53 (fun h13 hf => ?_)
        refine v_iload_n C 0 dX0_choose_56 rfl rfl ?_
        exact v_iret C E hf dX0_choose_57
      · refine v_bipush (x := (-2)) C dX0_choose_33 (by decide) ?_
        exact v_iret C E hf dX0_choose_35
  · refine v_iconst (x := (-1)) C dX0_choose_7 (by decide) ?_
    exact v_iret C E hf dX0_choose_8
def l_X0_drift_16 (a0 : Nat) (i1 : Int32) : Nat → Int32 → hM (Unit)
  | 0, _ => mfail
  | n + 1, i2 => mi (i1 ≤ i2) (mret ()) (mb (mat a0 0 (f_X0_note a0)) fun _ => mb (gR a0 0 3) fun x5 => mb (gR a0 0 3) fun x6 => mb (gI x6 2 2) fun x7 => mb (pF x5 2 2 (.int ((((x7.toInt64 * (1103515245 : Int64)) + (12345 : Int64)) &&& (2147483647 : Int64)).toInt32))) fun _ => mb (gR a0 0 3) fun x9 => mb (gI x9 2 2) fun x10 => mb (mdiv x10 (65536 : Int32)) fun x11 => mb (mdiv x11 (8 : Int32)) fun x12 => mb (mrem x11 (8 : Int32)) fun x13 => mb (mi (¬ x13 = 0) (mb (gR a0 0 3) fun x15 => mb (gR x15 2 0) fun x16 => mb (mrem x11 (4 : Int32)) fun x17 => mb (aR 6 x16 x17) fun x18 => mb (newO 3 2 [.null, .null]) fun x19 => mb (f_X3_init x19) fun _ => mb (gR a0 0 3) fun x23 => mb (gR x23 2 0) fun x24 => mb (mrem x12 (5 : Int32)) fun x25 => mb (aR 6 x24 x25) fun x26 => mb (mat x19 3 (f_X3_take x19 x26)) fun x27 => mb (mat x18 3 (f_X3_then x18 x27)) fun x29 => mret ()) (mb (gR a0 0 3) fun x31 => mb (gR a0 0 0) fun x32 => mb (gR x32 1 4) fun x33 => mb (mrem x12 (2576 : Int32)) fun x34 => mb (aI 1 x33 x34) fun x35 => mb (pF x31 2 1 (.int x35)) fun _ => mret ())) fun _ => l_X0_drift_16 a0 i1 n (i2 + (1 : Int32)))
def f_X0_drift (a0 : Nat) (i1 : Int32) : hM Int32 :=
  mb (f_X0_isIn i1.toInt64 (1 : Int64) (40 : Int64)) fun x1 => mi (¬ x1 = 0) (mb (l_X0_drift_16 a0 i1 FU (0 : Int32)) fun x37 => mb (gR a0 0 3) fun x39 => mb (gI x39 2 1) fun x40 => mret x40) (mret (-1 : Int32))
theorem nd_X0_drift : yX0_drift.cls ≠ "java/lang/invoke/MethodHandle" ∧ yX0_drift.cls ≠ "java/lang/invoke/VarHandle" ∧ (parseMethodDescriptor yX0_drift.desc).map (fun d => d.parameters.length) = some 1 := by decide +kernel
set_option maxHeartbeats 4000000 in
theorem ct_X0_drift (l : Launch) (a0 : Nat) (i1 : Int32) : CT l yX0_drift cX0_drift 5 (some .int) 6 129 rvI [.ref a0, .int i1] (f_X0_drift a0 i1) := by
  refine CT_of (ls := [(0, .ref a0), (1, .int i1)]) (by decide) (Nat.le_of_ble_eq_true rfl) rfl ?_
  intro X h he z hX hf C E hnm hh
  have hl := hle.rf he
  subst hX
  have L16 : ∀ (a0 : Nat) (i1 : Int32) (n : Nat) (i2 : Int32) (h h1 : Hp) (o : Unit), (l_X0_drift_16 a0 i1 n i2).1 h = some (o, h1) → hle h1 he → V X h1 145 [(0, .ref a0)] [] → V X h 16 [(0, .ref a0), (1, .int i1), (2, .int i2)] [] := by
    intro a0 i1 n
    induction n with
    | zero => intro i2 h h1 o hf; exact mfail_inv hf
    | succ n ih =>
      intro i2 h h1 o hf hl J
      rw [l_X0_drift_16] at hf
      refine v_iload_n C 2 dX0_drift_16 rfl rfl ?_
      refine v_iload_n C 1 dX0_drift_17 rfl rfl ?_
      refine v_icmp_ge C hf (tgt := 145) dX0_drift_18 (by decide) (fun c18 hf => ?_) (fun c18 hf => ?_)
      · obtain ⟨e1, rfl⟩ := mret_inv hf
        subst e1
        exact v_sub (ls' := _) [0] rfl J
      · refine v_aload_n C 0 dX0_drift_21 rfl rfl ?_
        refine v_callV (stk := fun _ => []) C (ct_X0_note _ a0) rfl ⟨rfl, nd_X0_note⟩ rfl (Nat.le_of_ble_eq_true rfl) (Nat.le_of_ble_eq_true rfl) [] (Nat.le_of_ble_eq_true rfl) (fun _ => rfl) rfl q1356 q1358 qs21 q96 q1359 hf hl dX0_drift_22 (fun x3 h4 hf => ?_)
        refine v_aload_n C 0 dX0_drift_25 rfl rfl ?_
        refine v_gR (Cn := RX0) (T := TX0) (N := 16) C hf in_X0 rfl (by decide) q695 rfl dX0_drift_26 (fun x5 hf => ?_)
        refine v_aload_n C 0 dX0_drift_29 rfl rfl ?_
        refine v_gR (Cn := RX0) (T := TX0) (N := 16) C hf in_X0 rfl (by decide) q695 rfl dX0_drift_30 (fun x6 hf => ?_)
        refine v_gIN (Cn := RX2) (T := TX2) (N := 3) C hf in_X2 rfl (by decide) q263 rfl dX0_drift_33 (fun x7 hf => ?_)
        refine v_i2l C dX0_drift_36 ?_
        refine v_ldc2 (x := 1103515245) C q1609 dX0_drift_37 ?_
        refine v_lmul C dX0_drift_40 ?_
        refine v_ldc2 (x := 12345) C q1610 dX0_drift_41 ?_
        refine v_ladd C dX0_drift_44 ?_
        refine v_ldc2 (x := 2147483647) C q1611 dX0_drift_45 ?_
        refine v_land C dX0_drift_48 ?_
        refine v_l2i C dX0_drift_49 ?_
        refine v_putvN (Cn := RX2) (T := TX2) (N := 3) (ty0 := tyX2) C hf in_X2 tyX2_ok nmX2 rfl (by decide) q263 rfl rfl rfl rfl dX0_drift_50 (fun h8 hf => ?_)
        refine v_aload_n C 0 dX0_drift_53 rfl rfl ?_
        refine v_gR (Cn := RX0) (T := TX0) (N := 16) C hf in_X0 rfl (by decide) q695 rfl dX0_drift_54 (fun x9 hf => ?_)
        refine v_gIN (Cn := RX2) (T := TX2) (N := 3) C hf in_X2 rfl (by decide) q263 rfl dX0_drift_57 (fun x10 hf => ?_)
        refine v_ldcw (x := 65536) C q1612 dX0_drift_60 ?_
        refine v_idiv C hf dX0_drift_63 (fun x11 hf => ?_)
        refine v_istore_n (ls' := [(3, _), (0, _), (1, _), (2, _)]) C dX0_drift_64 rfl (by decide) rfl ?_
        refine v_iload_n C 0 dX0_drift_65 rfl rfl ?_
        refine v_bipush (x := 8) C dX0_drift_66 (by decide) ?_
        refine v_idiv C hf dX0_drift_68 (fun x12 hf => ?_)
        refine v_istore (ls' := [(4, _), (3, _), (0, _), (1, _), (2, _)]) C dX0_drift_69 (by decide) rfl ?_
        refine v_iload_n C 1 dX0_drift_71 rfl rfl ?_
        refine v_bipush (x := 8) C dX0_drift_72 (by decide) ?_
        refine v_irem C hf dX0_drift_74 (fun x13 hf => ?_)
        obtain ⟨_u, h14, hAh14, hf, hlh14⟩ := mb_inv hf hl
        refine v_cut (h1 := h14) (pc1 := 139) (ls1 := [(0, .ref a0), (1, .int i1), (2, .int i2)]) (st1 := []) ?_ (fun Jh14 => ?_)
        · clear hAh14 hlh14
          refine v_iinc (ls' := [(2, _), (0, _), (1, _)]) (y := i2 + (1 : Int32)) C 2 dX0_drift_139 rfl rfl (by decide) rfl ?_
          refine v_goto (tgt := 16) C dX0_drift_142 (by decide) ?_
          refine v_sub (ls' := _) [1, 2, 0] rfl (ih (i2 + (1 : Int32)) _ _ _ hf hl J)
        · clear hf
          have hf := hAh14
          have hl := hlh14
          refine v_if_ne C hf (tgt := 102) dX0_drift_75 (by decide) (fun c75 hf => ?_) (fun c75 hf => ?_)
          · refine v_aload_n C 2 dX0_drift_102 rfl rfl ?_
            refine v_gR (Cn := RX0) (T := TX0) (N := 16) C hf in_X0 rfl (by decide) q695 rfl dX0_drift_103 (fun x15 hf => ?_)
            refine v_gRN (Cn := RX2) (T := TX2) (N := 3) C hf in_X2 rfl (by decide) q259 rfl dX0_drift_106 (fun x16 hf => ?_)
            refine v_iload_n C 1 dX0_drift_109 rfl rfl ?_
            refine v_iconst (x := 4) C dX0_drift_110 (by decide) ?_
            refine v_irem C hf dX0_drift_111 (fun x17 hf => ?_)
            refine v_aaload C hf (by decide) rfl dX0_drift_112 (fun x18 hf => ?_)
            refine v_new (Cn := RX3) (T := TX3) (N := 2) (ty0 := tyX3) C hf hl in_X3 tyX3_ok rfl q1232 q243 q103 dvX3 dX0_drift_113 (fun x19 h20 hf => ?_)
            refine v_dup C dX0_drift_116 rfl ?_
            refine v_callIN (stk := fun _ => [.ref x19, .ref x18]) C (ct_X3_init _ x19) nd_X3_init rfl (Nat.le_of_ble_eq_true rfl) (Nat.le_of_ble_eq_true rfl) [.ref x19, .ref x18] (Nat.le_of_ble_eq_true rfl) (fun _ => rfl) rfl rfl q1233 q245 q103 q246 hf hl dX0_drift_117 (fun x21 h22 hf => ?_)
            refine v_aload_n C 2 dX0_drift_120 rfl rfl ?_
            refine v_gR (Cn := RX0) (T := TX0) (N := 16) C hf in_X0 rfl (by decide) q695 rfl dX0_drift_121 (fun x23 hf => ?_)
            refine v_gRN (Cn := RX2) (T := TX2) (N := 3) C hf in_X2 rfl (by decide) q259 rfl dX0_drift_124 (fun x24 hf => ?_)
            refine v_iload C 0 dX0_drift_127 rfl ?_
            refine v_iconst (x := 5) C dX0_drift_129 (by decide) ?_
            refine v_irem C hf dX0_drift_130 (fun x25 hf => ?_)
            refine v_aaload C hf (by decide) rfl dX0_drift_131 (fun x26 hf => ?_)
            refine v_callV (stk := fun b => .ref b :: [.ref x18]) C (ct_X3_take _ x19 x26) rfl ⟨rfl, nd_X3_take⟩ rfl (Nat.le_of_ble_eq_true rfl) (Nat.le_of_ble_eq_true rfl) [.ref x18] (Nat.le_of_ble_eq_true rfl) (fun _ => rfl) rfl q635 q636 q637 q103 q638 hf hl dX0_drift_132 (fun x27 h28 hf => ?_)
            refine v_callV (stk := fun b => .ref b :: []) C (ct_X3_then _ x18 x27) rfl ⟨rfl, nd_X3_then⟩ rfl (Nat.le_of_ble_eq_true rfl) (Nat.le_of_ble_eq_true rfl) [] (Nat.le_of_ble_eq_true rfl) (fun _ => rfl) rfl q1275 q1276 q1277 q103 q1278 hf hl dX0_drift_135 (fun x29 h30 hf => ?_)
            refine v_pop C dX0_drift_138 rfl ?_
            obtain ⟨e1, rfl⟩ := mret_inv hf
            exact v_sub (ls' := _) [2, 3, 4] rfl Jh14
          · refine v_aload_n C 2 dX0_drift_78 rfl rfl ?_
            refine v_gR (Cn := RX0) (T := TX0) (N := 16) C hf in_X0 rfl (by decide) q695 rfl dX0_drift_79 (fun x31 hf => ?_)
            refine v_aload_n C 2 dX0_drift_82 rfl rfl ?_
            refine v_gR (Cn := RX0) (T := TX0) (N := 16) C hf in_X0 rfl (by decide) q692 rfl dX0_drift_83 (fun x32 hf => ?_)
            refine v_gRN (Cn := RX1) (T := TX1) (N := 10) C hf in_X1 rfl (by decide) q205 rfl dX0_drift_86 (fun x33 hf => ?_)
            refine v_iload C 0 dX0_drift_89 rfl ?_
            refine v_sipush (x := 2576) C dX0_drift_91 (by decide) ?_
            refine v_irem C hf dX0_drift_94 (fun x34 hf => ?_)
            refine v_iaload C hf dX0_drift_95 (fun x35 hf => ?_)
            refine v_putvN (Cn := RX2) (T := TX2) (N := 3) (ty0 := tyX2) C hf in_X2 tyX2_ok nmX2 rfl (by decide) q261 rfl rfl rfl rfl dX0_drift_96 (fun h36 hf => ?_)
            refine v_goto (tgt := 139) C dX0_drift_99 (by decide) ?_
            obtain ⟨e1, rfl⟩ := mret_inv hf
            exact v_sub (ls' := _) [2, 3, 4] rfl Jh14
  unfold f_X0_drift at hf
  refine v_iload_n C 1 dX0_drift_0 rfl rfl ?_
  refine v_i2l C dX0_drift_1 ?_
  refine v_lconst (x := 1) C dX0_drift_2 (by decide) ?_
  refine v_ldc2 (x := 40) C q1608 dX0_drift_3 ?_
  refine v_callS (stk := fun b => .int b :: []) C (ct_X0_isIn _ i1.toInt64 (1 : Int64) (40 : Int64)) nd_X0_isIn rfl (Nat.le_of_ble_eq_true rfl) (Nat.le_of_ble_eq_true rfl) [] (Nat.le_of_ble_eq_true rfl) (fun _ => rfl) rfl q749 q750 q96 q751 hf hl dX0_drift_6 (fun x1 h2 hf => ?_)
  refine v_if_ne C hf (tgt := 14) dX0_drift_9 (by decide) (fun c9 hf => ?_) (fun c9 hf => ?_)
  · refine v_iconst (x := 0) C dX0_drift_14 (by decide) ?_
    refine v_istore_n (ls' := [(2, _), (0, _), (1, _)]) C dX0_drift_15 rfl (by decide) rfl ?_
    obtain ⟨x37, h38, eh38, hf, hlh38⟩ := mb_inv hf hl
    refine v_sub (ls' := _) [1, 2, 0] rfl (L16 a0 i1 FU (0 : Int32) _ _ _ eh38 hlh38 ?_)
    refine v_aload_n C 0 dX0_drift_145 rfl rfl ?_
    refine v_gR (Cn := RX0) (T := TX0) (N := 16) C hf in_X0 rfl (by decide) q695 rfl dX0_drift_146 (fun x39 hf => ?_)
    refine v_gIN (Cn := RX2) (T := TX2) (N := 3) C hf in_X2 rfl (by decide) q261 rfl dX0_drift_149 (fun x40 hf => ?_)
    exact v_iret C E hf dX0_drift_152
  · refine v_iconst (x := (-1)) C dX0_drift_12 (by decide) ?_
    exact v_iret C E hf dX0_drift_13
