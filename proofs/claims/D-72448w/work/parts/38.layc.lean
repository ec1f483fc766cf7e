set_option maxRecDepth 100000
section VST
variable {X : hX} {own : String} {cc : ByteArray} {nL : Nat} {ret : Option FieldType} {he : Hp} {F L : Nat} {h hr : Hp} {pc : Nat} {ls : List (Nat × Value)} {st : List Value} {α : Type} {rv : α → Option Value} {z : α ⊕ Nat}
theorem v_bastZ (C : Cx X own cc nL ret he F L) (HT : HTX X) (E : QEE X rv z he) {a n : Nat} {f : Nat → Int32} {i : Int32} {x : Int32} (hh : h.1 a = some (.inl (0, n, .inl f))) (hn : n < 2 ^ 31) (hout : i < 0 ∨ n ≤ i.toNatClampNeg) (d : decode cc pc = .ok (.bastore, 1)) (hF : 7 < F) (hL : (st.map fun v => v.category).sum + 10240 ≤ L)
    (hf : (mb (mgr 3 222) fun _ => mret (Sum.inr 2)).1 h = some (z, he)) : V X h pc ls (.int x :: .int i :: va_rf (some a) :: st) := by
  intro H locs la q1 q2 q3 q4 q5 q6
  refine vx_bastZ C.1 C.2.1 C.K (q3.one hh) 0 0 rfl rfl (fun hi => hi hout) d (fun tx htx => ?_)
  subst htx
  exact v_noteE (nb := 212) C HT E (e := 2) rfl (by decide) (by decide) (by decide) (by decide) exW_aio exO_aio (index_text_modelled i n) (index_text_bytes i hn) (by decide) hF hL (by decide) hf q1 q2 q3 q4 q5 q6
theorem v_bastN (C : Cx X own cc nL ret he F L) (HT : HTX X) (E : QEE X rv z he) {i : Int32} {x : Int32} (d : decode cc pc = .ok (.bastore, 1)) (hF : 7 < F) (hL : (st.map fun v => v.category).sum + 10240 ≤ L)
    (hf : (mb (mgr 1 8) fun _ => mret (Sum.inr 0)).1 h = some (z, he)) : V X h pc ls (.int x :: .int i :: .null :: st) := by
  intro H locs la q1 q2 q3 q4 q5 q6
  exact vx_bastoreN C.1 C.2.1 d (v_noteNE C HT E hF hL hf q1 q2 q3 q4 q5 q6)
theorem v_sastZ (C : Cx X own cc nL ret he F L) (HT : HTX X) (E : QEE X rv z he) {a n : Nat} {f : Nat → Int32} {i : Int32} {x : Int32} (hh : h.1 a = some (.inl (4, n, .inl f))) (hn : n < 2 ^ 31) (hout : i < 0 ∨ n ≤ i.toNatClampNeg) (d : decode cc pc = .ok (.sastore, 1)) (hF : 7 < F) (hL : (st.map fun v => v.category).sum + 10240 ≤ L)
    (hf : (mb (mgr 3 222) fun _ => mret (Sum.inr 2)).1 h = some (z, he)) : V X h pc ls (.int x :: .int i :: va_rf (some a) :: st) := by
  intro H locs la q1 q2 q3 q4 q5 q6
  refine vx_sastZ C.1 C.2.1 C.K (q3.one hh) 0 4 rfl rfl (fun hi => hi hout) d (fun tx htx => ?_)
  subst htx
  exact v_noteE (nb := 212) C HT E (e := 2) rfl (by decide) (by decide) (by decide) (by decide) exW_aio exO_aio (index_text_modelled i n) (index_text_bytes i hn) (by decide) hF hL (by decide) hf q1 q2 q3 q4 q5 q6
theorem v_sastN (C : Cx X own cc nL ret he F L) (HT : HTX X) (E : QEE X rv z he) {i : Int32} {x : Int32} (d : decode cc pc = .ok (.sastore, 1)) (hF : 7 < F) (hL : (st.map fun v => v.category).sum + 10240 ≤ L)
    (hf : (mb (mgr 1 8) fun _ => mret (Sum.inr 0)).1 h = some (z, he)) : V X h pc ls (.int x :: .int i :: .null :: st) := by
  intro H locs la q1 q2 q3 q4 q5 q6
  exact vx_sastoreN C.1 C.2.1 d (v_noteNE C HT E hF hL hf q1 q2 q3 q4 q5 q6)
theorem v_iastZ (C : Cx X own cc nL ret he F L) (HT : HTX X) (E : QEE X rv z he) {a n : Nat} {f : Nat → Int32} {i : Int32} {x : Int32} (hh : h.1 a = some (.inl (1, n, .inl f))) (hn : n < 2 ^ 31) (hout : i < 0 ∨ n ≤ i.toNatClampNeg) (d : decode cc pc = .ok (.iastore, 1)) (hF : 7 < F) (hL : (st.map fun v => v.category).sum + 10240 ≤ L)
    (hf : (mb (mgr 3 222) fun _ => mret (Sum.inr 2)).1 h = some (z, he)) : V X h pc ls (.int x :: .int i :: va_rf (some a) :: st) := by
  intro H locs la q1 q2 q3 q4 q5 q6
  refine vx_iastZ C.1 C.2.1 C.K (q3.one hh) 0 1 rfl rfl (fun hi => hi hout) d (fun tx htx => ?_)
  subst htx
  exact v_noteE (nb := 212) C HT E (e := 2) rfl (by decide) (by decide) (by decide) (by decide) exW_aio exO_aio (index_text_modelled i n) (index_text_bytes i hn) (by decide) hF hL (by decide) hf q1 q2 q3 q4 q5 q6
theorem v_iastN (C : Cx X own cc nL ret he F L) (HT : HTX X) (E : QEE X rv z he) {i : Int32} {x : Int32} (d : decode cc pc = .ok (.iastore, 1)) (hF : 7 < F) (hL : (st.map fun v => v.category).sum + 10240 ≤ L)
    (hf : (mb (mgr 1 8) fun _ => mret (Sum.inr 0)).1 h = some (z, he)) : V X h pc ls (.int x :: .int i :: .null :: st) := by
  intro H locs la q1 q2 q3 q4 q5 q6
  exact vx_iastoreN C.1 C.2.1 d (v_noteNE C HT E hF hL hf q1 q2 q3 q4 q5 q6)
theorem v_lastZ (C : Cx X own cc nL ret he F L) (HT : HTX X) (E : QEE X rv z he) {a n : Nat} {f : Nat → Int64} {i : Int32} {x : Int64} (hh : h.1 a = some (.inl (5, n, .inr (.inl f)))) (hn : n < 2 ^ 31) (hout : i < 0 ∨ n ≤ i.toNatClampNeg) (d : decode cc pc = .ok (.lastore, 1)) (hF : 7 < F) (hL : (st.map fun v => v.category).sum + 10240 ≤ L)
    (hf : (mb (mgr 3 222) fun _ => mret (Sum.inr 2)).1 h = some (z, he)) : V X h pc ls (.long x :: .int i :: va_rf (some a) :: st) := by
  intro H locs la q1 q2 q3 q4 q5 q6
  refine vx_lastZ C.1 C.2.1 C.K (q3.one hh) 0 5 rfl rfl (fun hi => hi hout) d (fun tx htx => ?_)
  subst htx
  exact v_noteE (nb := 212) C HT E (e := 2) rfl (by decide) (by decide) (by decide) (by decide) exW_aio exO_aio (index_text_modelled i n) (index_text_bytes i hn) (by decide) hF hL (by decide) hf q1 q2 q3 q4 q5 q6
theorem v_lastN (C : Cx X own cc nL ret he F L) (HT : HTX X) (E : QEE X rv z he) {i : Int32} {x : Int64} (d : decode cc pc = .ok (.lastore, 1)) (hF : 7 < F) (hL : (st.map fun v => v.category).sum + 10240 ≤ L)
    (hf : (mb (mgr 1 8) fun _ => mret (Sum.inr 0)).1 h = some (z, he)) : V X h pc ls (.long x :: .int i :: .null :: st) := by
  intro H locs la q1 q2 q3 q4 q5 q6
  exact vx_lastoreN C.1 C.2.1 d (v_noteNE C HT E hF hL hf q1 q2 q3 q4 q5 q6)
end VST
set_option maxHeartbeats 4000000 in
theorem ct_layE (l : Launch) (a0 : Nat) (i1 i2 : Int32) (l3 : Int64) : CTE l yX10_lay cX10_lay 5 none 8 10300 rv0 [.ref a0, .int i1, .int i2, .long l3] (f_lay a0 i1 i2 l3) := by
  refine CTE_of (ls := [(0, .ref a0), (1, .int i1), (2, .int i2), (3, .long l3)]) (by decide) (Nat.le_of_ble_eq_true rfl) rfl ?_
  intro X h he z hX hf C HT E hnm hh
  have hl := hle.rf he
  subst hX
  unfold f_lay at hf
  refine v_iload_n C 1 dX10_lay_0 rfl rfl ?_
  by_cases e0 : i1 = 0
  · have hf := mi_pos e0 hf
    refine v_tswI C (k := 0) e0 dX10_lay_1 (by decide) (by decide) rfl (tgt := 28) (by decide) ?_
    unfold fLay at hf
    refine v_aload_n C 0 dX10_lay_28 rfl rfl ?_
    refine v_gQ (Cn := RX10) (T := TX10) (N := 1) C hf in_X10 rfl (by decide) q508 rfl dX10_lay_29 (fun q hf => ?_)
    cases q with
    | none =>
      refine v_castNull C dX10_lay_32 ?_
      refine v_iload_n C 2 dX10_lay_35 rfl rfl ?_
      refine v_lload_n C 3 dX10_lay_36 rfl rfl ?_
      refine v_l2i C dX10_lay_37 ?_
      refine v_i2b C dX10_lay_38 ?_
      exact v_bastN C HT E dX10_lay_39 (Nat.le_of_ble_eq_true rfl) (Nat.le_of_ble_eq_true rfl) hf
    | some r =>
      dsimp only at hf
      obtain ⟨k, h1, e1, hf2, -⟩ := mb_inv hf hl
      obtain ⟨rfl, hk, x, hx⟩ := makd_inv e1
      by_cases hkk : k = 0
      · have hf := mi_pos hkk hf2
        subst hkk
        obtain ⟨n, h2, e2, hf3, -⟩ := mb_inv hf hl
        obtain ⟨rfl, hn, f, hfx⟩ := mbI_inv e2
        refine v_castYes (kd := 0) C hx hk q1652 dX10_lay_32 ?_
        by_cases hb : i2 < 0 ∨ n ≤ i2.toNatClampNeg
        · have hf := mi_pos hb hf3
          refine v_iload_n C 2 dX10_lay_35 rfl rfl ?_
          refine v_lload_n C 3 dX10_lay_36 rfl rfl ?_
          refine v_l2i C dX10_lay_37 ?_
          refine v_i2b C dX10_lay_38 ?_
          exact v_bastZ C HT E hfx hn hb dX10_lay_39 (Nat.le_of_ble_eq_true rfl) (Nat.le_of_ble_eq_true rfl) hf
        · have hf := mi_neg hb hf3
          refine v_iload_n C 2 dX10_lay_35 rfl rfl ?_
          refine v_lload_n C 3 dX10_lay_36 rfl rfl ?_
          refine v_l2i C dX10_lay_37 ?_
          refine v_i2b C dX10_lay_38 ?_
          refine v_bastore C hf dX10_lay_39 (fun h3 hf => ?_)
          refine v_goto (tgt := 82) C dX10_lay_40 (by decide) ?_
          exact v_vretE C E hf dX10_lay_82
      · have hf := mi_neg hkk hf2
        exact v_castNo (kd := 0) C HT E hx hk (by simp [kd4]) hkk q1652 dX10_lay_32 (Nat.le_of_ble_eq_true rfl) (Nat.le_of_ble_eq_true rfl) hf
  have hf := mi_neg e0 hf
  by_cases e1 : i1 = 1
  · have hf := mi_pos e1 hf
    refine v_tswI C (k := 1) e1 dX10_lay_1 (by decide) (by decide) rfl (tgt := 43) (by decide) ?_
    unfold fLay at hf
    refine v_aload_n C 0 dX10_lay_43 rfl rfl ?_
    refine v_gQ (Cn := RX10) (T := TX10) (N := 1) C hf in_X10 rfl (by decide) q508 rfl dX10_lay_44 (fun q hf => ?_)
    cases q with
    | none =>
      refine v_castNull C dX10_lay_47 ?_
      refine v_iload_n C 2 dX10_lay_50 rfl rfl ?_
      refine v_lload_n C 3 dX10_lay_51 rfl rfl ?_
      refine v_l2i C dX10_lay_52 ?_
      refine v_i2s C dX10_lay_53 ?_
      exact v_sastN C HT E dX10_lay_54 (Nat.le_of_ble_eq_true rfl) (Nat.le_of_ble_eq_true rfl) hf
    | some r =>
      dsimp only at hf
      obtain ⟨k, h1, e1, hf2, -⟩ := mb_inv hf hl
      obtain ⟨rfl, hk, x, hx⟩ := makd_inv e1
      by_cases hkk : k = 4
      · have hf := mi_pos hkk hf2
        subst hkk
        obtain ⟨n, h2, e2, hf3, -⟩ := mb_inv hf hl
        obtain ⟨rfl, hn, f, hfx⟩ := mbI_inv e2
        refine v_castYes (kd := 4) C hx hk q1653 dX10_lay_47 ?_
        by_cases hb : i2 < 0 ∨ n ≤ i2.toNatClampNeg
        · have hf := mi_pos hb hf3
          refine v_iload_n C 2 dX10_lay_50 rfl rfl ?_
          refine v_lload_n C 3 dX10_lay_51 rfl rfl ?_
          refine v_l2i C dX10_lay_52 ?_
          refine v_i2s C dX10_lay_53 ?_
          exact v_sastZ C HT E hfx hn hb dX10_lay_54 (Nat.le_of_ble_eq_true rfl) (Nat.le_of_ble_eq_true rfl) hf
        · have hf := mi_neg hb hf3
          refine v_iload_n C 2 dX10_lay_50 rfl rfl ?_
          refine v_lload_n C 3 dX10_lay_51 rfl rfl ?_
          refine v_l2i C dX10_lay_52 ?_
          refine v_i2s C dX10_lay_53 ?_
          refine v_sastore C hf dX10_lay_54 (fun h3 hf => ?_)
          refine v_goto (tgt := 82) C dX10_lay_55 (by decide) ?_
          exact v_vretE C E hf dX10_lay_82
      · have hf := mi_neg hkk hf2
        exact v_castNo (kd := 4) C HT E hx hk (by simp [kd4]) hkk q1653 dX10_lay_47 (Nat.le_of_ble_eq_true rfl) (Nat.le_of_ble_eq_true rfl) hf
  have hf := mi_neg e1 hf
  by_cases e2 : i1 = 2
  · have hf := mi_pos e2 hf
    refine v_tswI C (k := 2) e2 dX10_lay_1 (by decide) (by decide) rfl (tgt := 58) (by decide) ?_
    unfold fLay at hf
    refine v_aload_n C 0 dX10_lay_58 rfl rfl ?_
    refine v_gQ (Cn := RX10) (T := TX10) (N := 1) C hf in_X10 rfl (by decide) q508 rfl dX10_lay_59 (fun q hf => ?_)
    cases q with
    | none =>
      refine v_castNull C dX10_lay_62 ?_
      refine v_iload_n C 2 dX10_lay_65 rfl rfl ?_
      refine v_lload_n C 3 dX10_lay_66 rfl rfl ?_
      refine v_l2i C dX10_lay_67 ?_
      exact v_iastN C HT E dX10_lay_68 (Nat.le_of_ble_eq_true rfl) (Nat.le_of_ble_eq_true rfl) hf
    | some r =>
      dsimp only at hf
      obtain ⟨k, h1, e1, hf2, -⟩ := mb_inv hf hl
      obtain ⟨rfl, hk, x, hx⟩ := makd_inv e1
      by_cases hkk : k = 1
      · have hf := mi_pos hkk hf2
        subst hkk
        obtain ⟨n, h2, e2, hf3, -⟩ := mb_inv hf hl
        obtain ⟨rfl, hn, f, hfx⟩ := mbI_inv e2
        refine v_castYes (kd := 1) C hx hk q1654 dX10_lay_62 ?_
        by_cases hb : i2 < 0 ∨ n ≤ i2.toNatClampNeg
        · have hf := mi_pos hb hf3
          refine v_iload_n C 2 dX10_lay_65 rfl rfl ?_
          refine v_lload_n C 3 dX10_lay_66 rfl rfl ?_
          refine v_l2i C dX10_lay_67 ?_
          exact v_iastZ C HT E hfx hn hb dX10_lay_68 (Nat.le_of_ble_eq_true rfl) (Nat.le_of_ble_eq_true rfl) hf
        · have hf := mi_neg hb hf3
          refine v_iload_n C 2 dX10_lay_65 rfl rfl ?_
          refine v_lload_n C 3 dX10_lay_66 rfl rfl ?_
          refine v_l2i C dX10_lay_67 ?_
          refine v_iastore C hf dX10_lay_68 (fun h3 hf => ?_)
          refine v_goto (tgt := 82) C dX10_lay_69 (by decide) ?_
          exact v_vretE C E hf dX10_lay_82
      · have hf := mi_neg hkk hf2
        exact v_castNo (kd := 1) C HT E hx hk (by simp [kd4]) hkk q1654 dX10_lay_62 (Nat.le_of_ble_eq_true rfl) (Nat.le_of_ble_eq_true rfl) hf
  have hf := mi_neg e2 hf
  refine v_tswO C (n := 3) (lo := 0) (x := i1) (fun j hj => ?_) dX10_lay_1 rfl rfl (tgt := 72) (by decide) ?_
  · rcases (show j = 0 ∨ j = 1 ∨ j = 2 by omega) with rfl | rfl | rfl
    · exact e0
    · exact e1
    · exact e2
  unfold fLay at hf
  refine v_aload_n C 0 dX10_lay_72 rfl rfl ?_
  refine v_gQ (Cn := RX10) (T := TX10) (N := 1) C hf in_X10 rfl (by decide) q508 rfl dX10_lay_73 (fun q hf => ?_)
  cases q with
  | none =>
    refine v_castNull C dX10_lay_76 ?_
    refine v_iload_n C 2 dX10_lay_79 rfl rfl ?_
    refine v_lload_n C 3 dX10_lay_80 rfl rfl ?_
    exact v_lastN C HT E dX10_lay_81 (Nat.le_of_ble_eq_true rfl) (Nat.le_of_ble_eq_true rfl) hf
  | some r =>
    dsimp only at hf
    obtain ⟨k, h1, e1, hf2, -⟩ := mb_inv hf hl
    obtain ⟨rfl, hk, x, hx⟩ := makd_inv e1
    by_cases hkk : k = 5
    · have hf := mi_pos hkk hf2
      subst hkk
      obtain ⟨n, h2, e2, hf3, -⟩ := mb_inv hf hl
      obtain ⟨rfl, hn, f, hfx⟩ := mbL_inv e2
      refine v_castYes (kd := 5) C hx hk q1659 dX10_lay_76 ?_
      by_cases hb : i2 < 0 ∨ n ≤ i2.toNatClampNeg
      · have hf := mi_pos hb hf3
        refine v_iload_n C 2 dX10_lay_79 rfl rfl ?_
        refine v_lload_n C 3 dX10_lay_80 rfl rfl ?_
        exact v_lastZ C HT E hfx hn hb dX10_lay_81 (Nat.le_of_ble_eq_true rfl) (Nat.le_of_ble_eq_true rfl) hf
      · have hf := mi_neg hb hf3
        refine v_iload_n C 2 dX10_lay_79 rfl rfl ?_
        refine v_lload_n C 3 dX10_lay_80 rfl rfl ?_
        refine v_lastore C hf dX10_lay_81 (fun h3 hf => ?_)
        exact v_vretE C E hf dX10_lay_82
    · have hf := mi_neg hkk hf2
      exact v_castNo (kd := 5) C HT E hx hk (by simp [kd4]) hkk q1659 dX10_lay_76 (Nat.le_of_ble_eq_true rfl) (Nat.le_of_ble_eq_true rfl) hf
