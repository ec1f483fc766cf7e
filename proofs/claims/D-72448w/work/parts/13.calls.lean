/-! ===== calls, answers, the contract out of a walk ===== -/
set_option maxRecDepth 100000
theorem Wd_at {X : hX} {own : String} {cc : ByteArray} {nL : Nat} {ret : Option FieldType} {he h : Hp} {F L : Nat} (C : Cx X own cc nL ret he F L) {H : Heap} (q1 : H.size = h.2.1) (q2 : hle X.2.2.2.2.2.2.2.2.2.2.2.2 h) (q3 : wP X.2.2.2.2.2.2.2.2.2.2.1 h.1 H) (q4 : ∀ q, q < X.2.2.2.2.2.2.2.2.2.2.2.2.2.2.2.1 → H[q]? = X.2.2.2.2.1.heap[q]?) {U : State} (hU : U.heap = H) (hW : X.2.2.2.2.1.WarmedH U.vm) : Wd X.2.2.2.2.2.2.2.2.2.2.1 h U := by
  obtain ⟨w1, w2, w3, w4, w5, w6, w7⟩ := C.2.2.2.2.2.2.2.1
  have hlo := q2.2.2.1
  refine ⟨State.WarmedH.trans w1 hW, fun q hq => ?_, by rw [hU]; exact q1, by rw [hlo]; exact w4, by rw [hlo]; exact Nat.le_trans w5 q2.1, by rw [hlo]; exact w6, by rw [hU]; exact q3⟩
  rw [hlo] at hq
  rw [hU, q4 q hq]
  exact w2 q hq
section VC
variable {X : hX} {own : String} {cc : ByteArray} {nL : Nat} {ret : Option FieldType} {he : Hp} {F L : Nat} {h hr : Hp} {pc : Nat} {ls ls' : List (Nat × Value)} {st : List Value} {α β : Type} {v : α}
/-- behind a call -/
theorem v_back (C : Cx X own cc nL ret he F L) (len : Nat) {x : hM β} {k : β → hM α} {rv : β → Option Value} {rest st0 : List Value} {stk : β → List Value} {ar : Array Value} (hstk : ∀ b, (rv b).toList ++ rest = stk b) (hf : (mb x k).1 h = some (v, hr)) (hl : hle hr he)
    (run : ∀ (b : β) (h1 : Hp) (H : Heap) (locs : List Loc) (la : Array Slot), x.1 h = some (b, h1) → hle h h1 → hle h1 he → H.size = h.2.1 → hle X.2.2.2.2.2.2.2.2.2.2.2.2 h → wP X.2.2.2.2.2.2.2.2.2.2.1 h.1 H → (∀ q, q < X.2.2.2.2.2.2.2.2.2.2.2.2.2.2.2.1 → H[q]? = X.2.2.2.2.1.heap[q]?) → la.size = nL →
      ∀ T : State, T.heap = H → Stand X.1 X.2.1 X.2.2.1 X.2.2.2.1 X.2.2.2.2.1 X.2.2.2.2.2.1 X.2.2.2.2.2.2.1 X.2.2.2.2.2.2.2.1 X.2.2.2.2.2.2.2.2.1 X.2.2.2.2.2.2.2.2.2.1 T locs (h.2.1 - X.2.2.2.2.2.2.2.2.2.2.2.2.2.1) (h.2.2.1 - X.2.2.2.2.2.2.2.2.2.2.2.2.2.2.1) → ∃ (v : Option Value) (st₀ t T' : State) (Lc : List Loc), st₀.heap = H ∧ Stand X.1 X.2.1 X.2.2.1 X.2.2.2.1 X.2.2.2.2.1 X.2.2.2.2.2.1 X.2.2.2.2.2.2.1 X.2.2.2.2.2.2.2.1 X.2.2.2.2.2.2.2.2.1 X.2.2.2.2.2.2.2.2.2.1 T' (locs ++ Lc) (h.2.1 - X.2.2.2.2.2.2.2.2.2.2.2.2.2.1 + (h1.2.1 - h.2.1)) (h.2.2.1 - X.2.2.2.2.2.2.2.2.2.2.2.2.2.2.1 + (h1.2.2.1 - h.2.2.1)) ∧ (∀ q ∈ Lc, h.2.2.2.1 ≤ q.base) ∧ T'.heap = t.heap ∧ T'.vm = t.vm ∧ Qd X.2.2.2.2.2.2.2.2.2.2.1 (rv b) h h1 ar st₀ (.returned v) t ∧
        Goes X.1 X.2.2.1 X.2.2.2.2.2.2.2.1 T (F0 X.2.2.2.2.2.1 pc la st0) T' (F0 X.2.2.2.2.2.1 (pc + len) la (v.toList ++ rest)))
    (kk : ∀ (b : β) (h1 : Hp), (k b).1 h1 = some (v, hr) → V X h1 (pc + len) ls (stk b)) : V X h pc ls st0 := by
  obtain ⟨b, h1, e1, e2, l1⟩ := mb_inv hf hl
  have l0 := x.2 _ _ _ e1
  intro H locs la q1 q2 q3 q4 q5 q6 T hT XX
  obtain ⟨v', st₀, t, T', Lc, g0, X', hL, g1, g2, ⟨r1, r2, r3, r4⟩, st1⟩ := run b h1 H locs la e1 l0 l1 q1 q2 q3 q4 (by rw [q6.1, C.2.2.1]) T hT XX
  cases r1
  have a1 := q2.1; have a2 := l0.1; have a3 := q2.2.1; have a4 := l0.2.1
  have c1 : h.2.1 - X.2.2.2.2.2.2.2.2.2.2.2.2.2.1 + (h1.2.1 - h.2.1) = h1.2.1 - X.2.2.2.2.2.2.2.2.2.2.2.2.2.1 := by omega
  have c2 : h.2.2.1 - X.2.2.2.2.2.2.2.2.2.2.2.2.2.2.1 + (h1.2.2.1 - h.2.2.1) = h1.2.2.1 - X.2.2.2.2.2.2.2.2.2.2.2.2.2.2.1 := by omega
  rw [c1, c2] at X'
  have hlo := q2.2.2.1
  obtain ⟨t2, s1, s2⟩ := kk b h1 e2 T'.heap (locs ++ Lc) la (by rw [g1]; exact r2) (q2.tr l0) (by rw [g1]; exact r3) (fun q hq => by rw [g1, r4 q (by rw [hlo]; exact hq), g0]; exact q4 q hq) (fun y hy => by
    rcases List.mem_append.mp hy with z | z
    · exact q5 y z
    · have := hL y z; rw [hlo] at this; exact this) q6 T' rfl X'
  rw [← hstk b] at s1
  exact ⟨t2, st1 t2 s1, s2⟩

theorem v_callS (C : Cx X own cc nL ret he F L) {y : MethodName} {bytes : ByteArray} {maxL F2 L2 index n : Nat} {ret2 : Option FieldType} {rv : β → Option Value} {vs : List Value} {x : hM β} {k : β → hM α} {stk : β → List Value} (ct : CT X.2.1 y bytes maxL ret2 F2 L2 rv vs x) (hd : y.cls ≠ "java/lang/invoke/MethodHandle" ∧ y.cls ≠ "java/lang/invoke/VarHandle" ∧ (parseMethodDescriptor y.desc).map (fun d => d.parameters.length) = some n) (hn : vs.length = n) (hF : F2 + 1 ≤ F) (hL : 8 + (maxL + 11) + L2 ≤ L) (rest : List Value) (hcat : (rest.map fun v => v.category).sum ≤ 8) (hstk : ∀ b, (rv b).toList ++ rest = stk b) (hst : st = vs.reverse ++ rest) (w1 : Jvm.Cond.methodLink own index y ∈ lw_all) (w2 : Jvm.Cond.static y ∈ lw_all) (w3 : Jvm.Cond.initialized y.cls ∈ lw_all) (w4 : Jvm.Cond.code y bytes maxL ret2 ∈ lw_all) (hf : (mb x k).1 h = some (v, hr)) (hl : hle hr he) (d : decode cc pc = .ok (.invokestatic index, 3)) (kk : ∀ (b : β) (h1 : Hp), (k b).1 h1 = some (v, hr) → V X h1 (pc + 3) ls (stk b)) : V X h pc ls st := by
  subst hst
  exact v_back C 3 (ar := vs.toArray) hstk hf hl (fun b h1 H locs la e1 l0 l1 q1 q2 q3 q4 hz => va_runS ⟨C.1, C.2.1, C.2.2.1, C.2.2.2.2.2.1, C.2.2.2.2.2.2.2.2.1⟩ (ct _ C.2.2.2.2.2.2.1 h h1 b e1) (va_cwS n C.2.2.2.2.2.2.2.2.1 (lw_S w1 w2 w3 w4) rfl rfl rfl hd (by rw [C.2.2.2.2.2.2.2.2.2]; exact ⟨hF, hL⟩)) ⟨FrameBlind_Wd, fun U hU hW => ⟨rfl, Wd_at C q1 q2 q3 q4 hU hW⟩⟩ rfl hn hz rfl (lv_room hcat) d (by rw [C.2.2.2.2.2.2.2.2.2]; have a1 := q2.1; have a2 := l0.1; have a3 := q2.2.1; have a4 := l0.2.1; have a5 := l1.1; have a6 := l1.2.1; exact ⟨by show _ ≤ he.2.1 - _; omega, by show _ ≤ he.2.2.1 - _; omega⟩)) kk
theorem v_callSN (C : Cx X own cc nL ret he F L) {y : MethodName} {bytes : ByteArray} {maxL F2 L2 index n : Nat} {ret2 : Option FieldType} {rv : β → Option Value} {vs : List Value} {x : hM β} {k : β → hM α} {stk : β → List Value} (ct : CT X.2.1 y bytes maxL ret2 F2 L2 rv vs x) (hd : y.cls ≠ "java/lang/invoke/MethodHandle" ∧ y.cls ≠ "java/lang/invoke/VarHandle" ∧ (parseMethodDescriptor y.desc).map (fun d => d.parameters.length) = some n) (hn : vs.length = n) (hF : F2 + 1 ≤ F) (hL : 8 + (maxL + 11) + L2 ≤ L) (rest : List Value) (hcat : (rest.map fun v => v.category).sum ≤ 8) (hstk : ∀ b, (rv b).toList ++ rest = stk b) (hst : st = vs.reverse ++ rest) {host : String} (w1 : Jvm.Cond.methodLinkNest own index y host ∈ lw_tbl) (w2 : Jvm.Cond.static y ∈ lw_all) (w3 : Jvm.Cond.initialized y.cls ∈ lw_all) (w4 : Jvm.Cond.code y bytes maxL ret2 ∈ lw_all) (hf : (mb x k).1 h = some (v, hr)) (hl : hle hr he) (d : decode cc pc = .ok (.invokestatic index, 3)) (kk : ∀ (b : β) (h1 : Hp), (k b).1 h1 = some (v, hr) → V X h1 (pc + 3) ls (stk b)) : V X h pc ls st := by
  subst hst
  exact v_back C 3 (ar := vs.toArray) hstk hf hl (fun b h1 H locs la e1 l0 l1 q1 q2 q3 q4 hz => va_runSN ⟨C.1, C.2.1, C.2.2.1, C.2.2.2.2.2.1, C.2.2.2.2.2.2.2.2.1⟩ (ct _ C.2.2.2.2.2.2.1 h h1 b e1) ⟨va_cnB n C.2.2.2.2.2.2.2.2.1 (lw_meth w4) rfl rfl rfl (va_Nw.warmM C.2.2.2.2.2.2.2.1.1 (va_Nw.of rfl (C.2.2.2.2.2.2.1.2.1 _ w1))) (C.2.2.2.2.2.2.2.2.1 _ w3) hd (by rw [C.2.2.2.2.2.2.2.2.2]; exact ⟨hF, hL⟩), C.2.2.2.2.2.2.2.2.1 _ w2, trivial⟩ ⟨FrameBlind_Wd, fun U hU hW => ⟨rfl, Wd_at C q1 q2 q3 q4 hU hW⟩⟩ rfl hn hz rfl (lv_room hcat) d (by rw [C.2.2.2.2.2.2.2.2.2]; have a1 := q2.1; have a2 := l0.1; have a3 := q2.2.1; have a4 := l0.2.1; have a5 := l1.1; have a6 := l1.2.1; exact ⟨by show _ ≤ he.2.1 - _; omega, by show _ ≤ he.2.2.1 - _; omega⟩)) kk
theorem v_callV (C : Cx X own cc nL ret he F L) {y : MethodName} {bytes : ByteArray} {maxL F2 L2 index n : Nat} {ret2 : Option FieldType} {rv : β → Option Value} {vs : List Value} {x : hM β} {k : β → hM α} {stk : β → List Value} {ci a : Nat} {r : vw_C} (ct : CT X.2.1 y bytes maxL ret2 F2 L2 rv (.ref a :: vs) x) (hc : clG[ci]? = some r) (hd : y.cls = r.1 ∧ y.cls ≠ "java/lang/invoke/MethodHandle" ∧ y.cls ≠ "java/lang/invoke/VarHandle" ∧ (parseMethodDescriptor y.desc).map (fun d => d.parameters.length) = some n) (hn : vs.length = n) (hF : F2 + 1 ≤ F) (hL : 8 + (maxL + 11) + L2 ≤ L) (rest : List Value) (hcat : (rest.map fun v => v.category).sum ≤ 8) (hstk : ∀ b, (rv b).toList ++ rest = stk b) (hst : st = vs.reverse ++ .ref a :: rest) (w1 : Jvm.Cond.methodLink own index y ∈ lw_all) (w2 : Jvm.Cond.instanceMethod y ∈ lw_all) (w3 : Jvm.Cond.selects r.1 y y ∈ lw_all) (w4 : Jvm.Cond.initialized r.1 ∈ lw_all) (w5 : Jvm.Cond.code y bytes maxL ret2 ∈ lw_all) (hf : (mb (mat a ci x) k).1 h = some (v, hr)) (hl : hle hr he) (d : decode cc pc = .ok (.invokevirtual index, 3)) (kk : ∀ (b : β) (h1 : Hp), (k b).1 h1 = some (v, hr) → V X h1 (pc + 3) ls (stk b)) : V X h pc ls st := by
  subst hst
  obtain ⟨⟨fs, ha⟩, hf⟩ := mat_inv hf
  exact v_back C 3 (ar := (Value.ref a :: vs).toArray) hstk hf hl (fun b h1 H locs la e1 l0 l1 q1 q2 q3 q4 hz => va_runV ⟨C.1, C.2.1, C.2.2.1, C.2.2.2.2.2.1, C.2.2.2.2.2.2.2.2.1⟩ (ct _ C.2.2.2.2.2.2.1 h h1 b e1) (cwV n C.2.2.2.2.2.2.2.2.1 (lw_V w1 w2 w3 w4 w5) rfl rfl rfl hd (by rw [C.2.2.2.2.2.2.2.2.2]; exact ⟨hF, hL⟩)) ⟨FrameBlind_Wd, va_recv (D := (X.2.2.2.2.2.2.2.2.2.2.1.2.2.1, X.2.2.2.2.2.2.2.2.2.2.1.2.2.2.1)) C.K (q3.one ha) hc (q0 := 0) rfl, fun U hU hW => ⟨rfl, Wd_at C q1 q2 q3 q4 hU hW⟩⟩ rfl hn hz rfl (lv_room hcat) d (by rw [C.2.2.2.2.2.2.2.2.2]; have a1 := q2.1; have a2 := l0.1; have a3 := q2.2.1; have a4 := l0.2.1; have a5 := l1.1; have a6 := l1.2.1; exact ⟨by show _ ≤ he.2.1 - _; omega, by show _ ≤ he.2.2.1 - _; omega⟩)) kk
theorem v_callVN (C : Cx X own cc nL ret he F L) {y : MethodName} {bytes : ByteArray} {maxL F2 L2 index n : Nat} {ret2 : Option FieldType} {rv : β → Option Value} {vs : List Value} {x : hM β} {k : β → hM α} {stk : β → List Value} {ci a : Nat} {r : vw_C} (ct : CT X.2.1 y bytes maxL ret2 F2 L2 rv (.ref a :: vs) x) (hc : clG[ci]? = some r) (hd : y.cls = r.1 ∧ y.cls ≠ "java/lang/invoke/MethodHandle" ∧ y.cls ≠ "java/lang/invoke/VarHandle" ∧ (parseMethodDescriptor y.desc).map (fun d => d.parameters.length) = some n) (hn : vs.length = n) (hF : F2 + 1 ≤ F) (hL : 8 + (maxL + 11) + L2 ≤ L) (rest : List Value) (hcat : (rest.map fun v => v.category).sum ≤ 8) (hstk : ∀ b, (rv b).toList ++ rest = stk b) (hst : st = vs.reverse ++ .ref a :: rest) {host : String} (w1 : Jvm.Cond.methodLinkNest own index y host ∈ lw_tbl) (w2 : Jvm.Cond.instanceMethod y ∈ lw_all) (w3 : Jvm.Cond.selects r.1 y y ∈ lw_all) (w4 : Jvm.Cond.initialized r.1 ∈ lw_all) (w5 : Jvm.Cond.code y bytes maxL ret2 ∈ lw_all) (hf : (mb (mat a ci x) k).1 h = some (v, hr)) (hl : hle hr he) (d : decode cc pc = .ok (.invokevirtual index, 3)) (kk : ∀ (b : β) (h1 : Hp), (k b).1 h1 = some (v, hr) → V X h1 (pc + 3) ls (stk b)) : V X h pc ls st := by
  subst hst
  obtain ⟨⟨fs, ha⟩, hf⟩ := mat_inv hf
  exact v_back C 3 (ar := (Value.ref a :: vs).toArray) hstk hf hl (fun b h1 H locs la e1 l0 l1 q1 q2 q3 q4 hz => va_runVN ⟨C.1, C.2.1, C.2.2.1, C.2.2.2.2.2.1, C.2.2.2.2.2.2.2.2.1⟩ (ct _ C.2.2.2.2.2.2.1 h h1 b e1) ⟨va_cnB n C.2.2.2.2.2.2.2.2.1 (lw_meth w5) rfl rfl rfl (va_Nw.warmM C.2.2.2.2.2.2.2.1.1 (va_Nw.of rfl (C.2.2.2.2.2.2.1.2.1 _ w1))) (by rw [hd.1]; exact C.2.2.2.2.2.2.2.2.1 _ w4) hd.2 (by rw [C.2.2.2.2.2.2.2.2.2]; exact ⟨hF, hL⟩), C.2.2.2.2.2.2.2.2.1 _ w2, C.2.2.2.2.2.2.2.2.1 _ w3⟩ ⟨FrameBlind_Wd, va_recv (D := (X.2.2.2.2.2.2.2.2.2.2.1.2.2.1, X.2.2.2.2.2.2.2.2.2.2.1.2.2.2.1)) C.K (q3.one ha) hc (q0 := 0) rfl, fun U hU hW => ⟨rfl, Wd_at C q1 q2 q3 q4 hU hW⟩⟩ rfl hn hz rfl (lv_room hcat) d (by rw [C.2.2.2.2.2.2.2.2.2]; have a1 := q2.1; have a2 := l0.1; have a3 := q2.2.1; have a4 := l0.2.1; have a5 := l1.1; have a6 := l1.2.1; exact ⟨by show _ ≤ he.2.1 - _; omega, by show _ ≤ he.2.2.1 - _; omega⟩)) kk
theorem v_callI (C : Cx X own cc nL ret he F L) {y : MethodName} {bytes : ByteArray} {maxL F2 L2 index n : Nat} {rv : β → Option Value} {vs : List Value} {x : hM β} {k : β → hM α} {stk : β → List Value} {a : Nat} (ct : CT X.2.1 y bytes maxL none F2 L2 rv (.ref a :: vs) x) (hd : y.cls ≠ "java/lang/invoke/MethodHandle" ∧ y.cls ≠ "java/lang/invoke/VarHandle" ∧ (parseMethodDescriptor y.desc).map (fun d => d.parameters.length) = some n) (hn : vs.length = n) (hF : F2 + 1 ≤ F) (hL : 8 + (maxL + 11) + L2 ≤ L) (rest : List Value) (hcat : (rest.map fun v => v.category).sum ≤ 8) (hstk : ∀ b, (rv b).toList ++ rest = stk b) (hst : st = vs.reverse ++ .ref a :: rest) (hi : y.name = "<init>") (w1 : Jvm.Cond.methodLink own index y ∈ lw_all) (w2 : Jvm.Cond.instanceMethod y ∈ lw_all) (w3 : Jvm.Cond.initialized y.cls ∈ lw_all) (w4 : Jvm.Cond.code y bytes maxL none ∈ lw_all) (hf : (mb x k).1 h = some (v, hr)) (hl : hle hr he) (d : decode cc pc = .ok (.invokespecial index, 3)) (kk : ∀ (b : β) (h1 : Hp), (k b).1 h1 = some (v, hr) → V X h1 (pc + 3) ls (stk b)) : V X h pc ls st := by
  subst hst
  exact v_back C 3 (ar := (Value.ref a :: vs).toArray) hstk hf hl (fun b h1 H locs la e1 l0 l1 q1 q2 q3 q4 hz => va_runI ⟨C.1, C.2.1, C.2.2.1, C.2.2.2.2.2.1, C.2.2.2.2.2.2.2.2.1⟩ (ct _ C.2.2.2.2.2.2.1 h h1 b e1) (cwI n C.2.2.2.2.2.2.2.2.1 (lw_meth w4) rfl rfl rfl (C.2.2.2.2.2.2.2.2.1 _ w3) (C.2.2.2.2.2.2.2.2.1 _ w1) (C.2.2.2.2.2.2.2.2.1 _ w2) hi hd (by rw [C.2.2.2.2.2.2.2.2.2]; exact ⟨hF, hL⟩)) ⟨FrameBlind_Wd, fun U hU hW => ⟨rfl, Wd_at C q1 q2 q3 q4 hU hW⟩⟩ rfl hn hz rfl (lv_room hcat) d (by rw [C.2.2.2.2.2.2.2.2.2]; have a1 := q2.1; have a2 := l0.1; have a3 := q2.2.1; have a4 := l0.2.1; have a5 := l1.1; have a6 := l1.2.1; exact ⟨by show _ ≤ he.2.1 - _; omega, by show _ ≤ he.2.2.1 - _; omega⟩)) kk
theorem v_callIN (C : Cx X own cc nL ret he F L) {y : MethodName} {bytes : ByteArray} {maxL F2 L2 index n : Nat} {rv : β → Option Value} {vs : List Value} {x : hM β} {k : β → hM α} {stk : β → List Value} {a : Nat} {host : String} (ct : CT X.2.1 y bytes maxL none F2 L2 rv (.ref a :: vs) x) (hd : y.cls ≠ "java/lang/invoke/MethodHandle" ∧ y.cls ≠ "java/lang/invoke/VarHandle" ∧ (parseMethodDescriptor y.desc).map (fun d => d.parameters.length) = some n) (hn : vs.length = n) (hF : F2 + 1 ≤ F) (hL : 8 + (maxL + 11) + L2 ≤ L) (rest : List Value) (hcat : (rest.map fun v => v.category).sum ≤ 8) (hstk : ∀ b, (rv b).toList ++ rest = stk b) (hst : st = vs.reverse ++ .ref a :: rest) (hi : y.name = "<init>") (w1 : Jvm.Cond.methodLinkNest own index y host ∈ lw_tbl) (w2 : Jvm.Cond.instanceMethod y ∈ lw_all) (w3 : Jvm.Cond.initialized y.cls ∈ lw_all) (w4 : Jvm.Cond.code y bytes maxL none ∈ lw_all) (hf : (mb x k).1 h = some (v, hr)) (hl : hle hr he) (d : decode cc pc = .ok (.invokespecial index, 3)) (kk : ∀ (b : β) (h1 : Hp), (k b).1 h1 = some (v, hr) → V X h1 (pc + 3) ls (stk b)) : V X h pc ls st := by
  subst hst
  exact v_back C 3 (ar := (Value.ref a :: vs).toArray) hstk hf hl (fun b h1 H locs la e1 l0 l1 q1 q2 q3 q4 hz => va_runIN ⟨C.1, C.2.1, C.2.2.1, C.2.2.2.2.2.1, C.2.2.2.2.2.2.2.2.1⟩ (ct _ C.2.2.2.2.2.2.1 h h1 b e1) ⟨va_cnB n C.2.2.2.2.2.2.2.2.1 (lw_meth w4) rfl rfl rfl (va_Nw.warmM C.2.2.2.2.2.2.2.1.1 (va_Nw.of rfl (C.2.2.2.2.2.2.1.2.1 _ w1))) (C.2.2.2.2.2.2.2.2.1 _ w3) hd (by rw [C.2.2.2.2.2.2.2.2.2]; exact ⟨hF, hL⟩), hi, C.2.2.2.2.2.2.2.2.1 _ w2⟩ ⟨FrameBlind_Wd, fun U hU hW => ⟨rfl, Wd_at C q1 q2 q3 q4 hU hW⟩⟩ rfl hn hz rfl (lv_room hcat) d (by rw [C.2.2.2.2.2.2.2.2.2]; have a1 := q2.1; have a2 := l0.1; have a3 := q2.2.1; have a4 := l0.2.1; have a5 := l1.1; have a6 := l1.2.1; exact ⟨by show _ ≤ he.2.1 - _; omega, by show _ ≤ he.2.2.1 - _; omega⟩)) kk
/-- Object's own constructor -/
theorem v_objInit (C : Cx X own cc nL ret he F L) {index a : Nat} (w1 : Jvm.Cond.methodLink own index objectInit ∈ lw_all) (w2 : Jvm.Cond.instanceMethod objectInit ∈ lw_all) (w3 : Jvm.Cond.code objectInit ⟨#[0xb1]⟩ 1 none ∈ lw_all) (hF : 1 ≤ F) (hL : (st.map fun v => v.category).sum + 12 ≤ L) (d : decode cc pc = .ok (.invokespecial index, 3)) (k : V X h (pc + 3) ls st) : V X h pc ls (.ref a :: st) := fun H locs la q1 q2 q3 q4 q5 q6 =>
  W.objInit C.1 C.2.1 C.2.2.2.2.2.1 (C.2.2.2.2.2.2.2.2.1 _ w1) (C.2.2.2.2.2.2.2.2.1 _ w2) (C.2.2.2.2.2.2.2.2.1 _ w3) rfl q6.1 rfl d (by rw [C.2.2.2.2.2.2.2.2.2]; exact hF) (by rw [C.2.2.2.2.2.2.2.2.2]; show 2 * 0 + _ + 12 ≤ L; omega) (k H locs la q1 q2 q3 q4 q5 q6)
end VC
/-- the end of a method -/
abbrev QE (X : hX) (r : Option Value) (he : Hp) : Prop := X.2.2.2.2.2.2.2.2.2.2.2.1 = MQ X.2.2.2.2.2.2.2.1 (Qd X.2.2.2.2.2.2.2.2.2.2.1 r X.2.2.2.2.2.2.2.2.2.2.2.2 he) X.2.2.2.2.2.2.1 X.2.2.2.2.1 (he.2.1 - X.2.2.2.2.2.2.2.2.2.2.2.2.2.1) (he.2.2.1 - X.2.2.2.2.2.2.2.2.2.2.2.2.2.2.1) (fun q => X.2.2.2.2.2.2.2.2.2.2.2.2.2.2.2.1 ≤ q)
section VE
variable {X : hX} {own : String} {cc : ByteArray} {nL : Nat} {he : Hp} {F L : Nat} {h : Hp} {pc : Nat} {ls : List (Nat × Value)}
theorem v_iret {z : Int32} (C : Cx X own cc nL (some .int) he F L) (E : QE X (some (.int z)) he) {x : Int32} (hf : (mret x).1 h = some (z, he)) (d : decode cc pc = .ok (.ireturn, 1)) : V X h pc ls [.int x] := by
  obtain ⟨rfl, rfl⟩ := mret_inv hf
  intro H locs la q1 q2 q3 q4 q5 q6
  rw [E]
  exact W.iret C.1 C.2.1 C.2.2.2.1 (fun t ht hW => ⟨rfl, by rw [ht]; exact q1, by rw [ht]; exact q3, fun q hq => by rw [ht]; exact q4 q hq⟩) q5 d C.2.2.2.2.1
theorem v_zret {z : Int32} {ty : FieldType} (C : Cx X own cc nL (some ty) he F L) (E : QE X (some (.int z)) he) {x : Int32} (hf : (mrt ty x).1 h = some (z, he)) (d : decode cc pc = .ok (.ireturn, 1)) : V X h pc ls [.int x] := by
  by_cases hc : narrow ty (.int x) = .int x
  · obtain ⟨rfl, rfl⟩ := mret_inv (mi_pos hc hf)
    intro H locs la q1 q2 q3 q4 q5 q6
    rw [E]
    exact W.zret C.1 C.2.1 C.2.2.2.1 hc (fun t ht hW => ⟨rfl, by rw [ht]; exact q1, by rw [ht]; exact q3, fun q hq => by rw [ht]; exact q4 q hq⟩) q5 d C.2.2.2.2.1
  · exact mfail_inv (mi_neg hc hf)
theorem v_lret {z : Int64} (C : Cx X own cc nL (some .long) he F L) (E : QE X (some (.long z)) he) {x : Int64} (hf : (mret x).1 h = some (z, he)) (d : decode cc pc = .ok (.lreturn, 1)) : V X h pc ls [.long x] := by
  obtain ⟨rfl, rfl⟩ := mret_inv hf
  intro H locs la q1 q2 q3 q4 q5 q6
  rw [E]
  exact W.lret C.1 C.2.1 C.2.2.2.1 (fun t ht hW => ⟨rfl, by rw [ht]; exact q1, by rw [ht]; exact q3, fun q hq => by rw [ht]; exact q4 q hq⟩) q5 d C.2.2.2.2.1
theorem v_vret {z : Unit} (C : Cx X own cc nL none he F L) (E : QE X none he) {x : Unit} (hf : (mret x).1 h = some (z, he)) (d : decode cc pc = .ok (.return_, 1)) : V X h pc ls [] := by
  obtain ⟨rfl, rfl⟩ := mret_inv hf
  intro H locs la q1 q2 q3 q4 q5 q6
  rw [E]
  exact W.vret C.1 C.2.1 C.2.2.2.1 (fun t ht hW => ⟨rfl, by rw [ht]; exact q1, by rw [ht]; exact q3, fun q hq => by rw [ht]; exact q4 q hq⟩) q5 d C.2.2.2.2.1
theorem v_aret {z : Nat} {rt : FieldType} (C : Cx X own cc nL (some rt) he F L) (E : QE X (some (.ref z)) he) {x : Nat} (hf : (mret x).1 h = some (z, he)) (hrt : (∃ n, rt = .object n) ∨ ∃ t, rt = .array t) (d : decode cc pc = .ok (.areturn, 1)) : V X h pc ls [.ref x] := by
  obtain ⟨rfl, rfl⟩ := mret_inv hf
  intro H locs la q1 q2 q3 q4 q5 q6
  rw [E]
  exact W.aret C.1 C.2.1 C.2.2.2.1 hrt (Or.inr ⟨_, rfl⟩) (fun t ht hW => ⟨rfl, by rw [ht]; exact q1, by rw [ht]; exact q3, fun q hq => by rw [ht]; exact q4 q hq⟩) q5 d C.2.2.2.2.1
theorem v_aretQ {z : Option Nat} {rt : FieldType} (C : Cx X own cc nL (some rt) he F L) (E : QE X (some (va_rf z)) he) {x : Option Nat} (hf : (mret x).1 h = some (z, he)) (hrt : (∃ n, rt = .object n) ∨ ∃ t, rt = .array t) (d : decode cc pc = .ok (.areturn, 1)) : V X h pc ls [va_rf x] := by
  obtain ⟨rfl, rfl⟩ := mret_inv hf
  intro H locs la q1 q2 q3 q4 q5 q6
  rw [E]
  exact W.aret C.1 C.2.1 C.2.2.2.1 hrt (by cases z <;> simp [va_rf]) (fun t ht hW => ⟨rfl, by rw [ht]; exact q1, by rw [ht]; exact q3, fun q hq => by rw [ht]; exact q4 q hq⟩) q5 d C.2.2.2.2.1
end VE
/-- a contract, out of the walk of the method's body -/
theorem CT_of {l : Launch} {y : MethodName} {cc : ByteArray} {nL : Nat} {ret : Option FieldType} {F L : Nat} {α : Type} {rv : α → Option Value} {vs : List Value} {x : hM α} {ls : List (Nat × Value)} (hy : plainFor y = true) (hlen : (lg_sl vs).length ≤ nL) (hls : lv_args 0 vs = ls)
    (body : ∀ (X : hX) (h he : Hp) (v : α), X.2.1 = l → x.1 h = some (v, he) → Cx X y.cls cc nL ret he F L → QE X (rv v) he → X.2.2.2.2.2.2.2.2.1.name = y.name → X.2.2.2.2.2.2.2.2.2.2.2.2 = h → V X h 0 ls []) : CT l y cc nL ret F L rv vs x := by
  intro G hG h he v hx
  refine va_MetF (cc := cc) (maxL := nL) (ret := ret) hy rfl ?_
  intro p e s m args below meth c s₁ B hml hv
  obtain ⟨rfl, hWd⟩ := hv
  have hts := atoms_spec (ws := ws_ y cc nL ret) B.pre
  have hts : ∀ w ∈ lw_all, w.before _ s = true := fun w h => hts w (List.mem_cons_of_mem _ h)
  have hown : s.vm.findClass y.cls = some m.cls := findClass_of_methodNamed B.named
  have hin : meth.name = y.name := (name_of_methodNamed B.named B.method).1
  have hl := lv_entry vs (n := nL) hlen
  rw [lg_entry_eq]
  rw [hls] at hl
  have hle0 := x.2 _ _ _ hx
  have K := body (p, l, e, ({ frames := F, cells := he.2.1 - h.2.1, slots := he.2.2.1 - h.2.2.1, locals := L } : Room), s, m, vs.toArray, below, meth, c, G, MQ below (Qd G (rv v) h he) vs.toArray s (he.2.1 - h.2.1) (he.2.2.1 - h.2.2.1) (fun q => h.2.2.2.1 ≤ q), h) h he v rfl hx
    ⟨B.exec, B.bytes, hml, B.returns, B.notSynchronized, hown, hG, hWd, hts, rfl⟩ rfl hin rfl
  have K2 := K s.heap [] _ hWd.2.2.1 (hle.rf h) hWd.2.2.2.2.2.2 (fun _ _ => rfl) (fun x hx => by cases hx) (by show lv_has _ c.maxLocals ls; rw [hml]; exact hl)
  refine W.cs ?_ ?_ K2
  · show 0 = h.2.1 - h.2.1; omega
  · show 0 = h.2.2.1 - h.2.2.1; omega

