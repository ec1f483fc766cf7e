/-! ===== calls through interfaces; of inherited, of abstract methods; of interfaces' defaults ===== -/
set_option maxRecDepth 100000
abbrev nwG : List Cond := flatC (Jvm.Cond.and given_1 narrow_1)
theorem nw_at {l : Launch} {G : hG} (h : okG l G) {w : Cond} (hw : w ∈ nwG) : w.before G.2.1 G.1 = true := flat_of_before _ h.2.2.1 w hw
theorem lid_at {Z s : State} (hW : Z.WarmedH s.vm) {a0 args : Array Value} {C : String} {x y : MethodName} (h : (Cond.landsInDefault C x y).before a0 Z = true) : (Cond.landsInDefault C x y).before args s = true := by
  have h1 : (Cond.landsInDefault C x y).before a0 (Z.setVm s.vm) = true := (Cond.landsInDefault_setVm hW.alike (State.methodFound?_setVm hW.alike _ _ _)).trans h
  exact h1
theorem nd_len {d : String} {n : Nat} (h : (parseMethodDescriptor d).map (fun d => d.parameters.length) = some n) : ∀ sig, parseMethodDescriptor d = some sig → n = sig.parameters.length := by
  intro sig e
  rw [e] at h
  exact (Option.some.inj h).symm
section VF
variable {X : hX} {own : String} {cc : ByteArray} {nL : Nat} {ret : Option FieldType} {he : Hp} {F L : Nat} {h hr : Hp} {pc : Nat} {ls ls' : List (Nat × Value)} {st : List Value} {α β : Type} {v : α}

theorem v_callF (C : Cx X own cc nL ret he F L) {x y : MethodName} {bytes : ByteArray} {maxL F2 L2 index n : Nat} {ret2 : Option FieldType} {rv : β → Option Value} {vs : List Value} {xx : hM β} {k : β → hM α} {stk : β → List Value} {ci a : Nat} {r : vw_C} (ct : CT X.2.1 y bytes maxL ret2 F2 L2 rv (.ref a :: vs) xx) (hc : clG[ci]? = some r) (hnd : x.cls ≠ "java/lang/invoke/MethodHandle" ∧ x.cls ≠ "java/lang/invoke/VarHandle" ∧ (parseMethodDescriptor x.desc).map (fun d => d.parameters.length) = some n) (hn : vs.length = n) (hF : F2 + 1 ≤ F) (hL : 8 + (maxL + 11) + L2 ≤ L) (rest : List Value) (hcat : (rest.map fun v => v.category).sum ≤ 8) (hstk : ∀ b, (rv b).toList ++ rest = stk b) (hst : st = vs.reverse ++ .ref a :: rest) {cnt : Nat} (w1 : Jvm.Cond.methodLink own index x ∈ lw_all) (w2 : Jvm.Cond.selects r.1 x y ∈ lw_all) (w3 : Jvm.Cond.instanceMethod y ∈ lw_all) (w4 : Jvm.Cond.initialized y.cls ∈ lw_all) (w5 : Jvm.Cond.code y bytes maxL ret2 ∈ lw_all) (w6 : Jvm.Cond.declares x ∈ lw_tbl) (w7 : Jvm.Cond.interfaceMethod x.cls x.cls x.name x.desc ∈ lw_tbl) (w8 : Jvm.Cond.publicMethod y ∈ lw_tbl) (w9 : Jvm.Cond.unhidden r.1 x.name x.desc ∈ lw_tbl) (w10 : Jvm.Cond.castable r.1 x.cls ∈ lw_tbl) (hf : (mb (mat a ci xx) k).1 h = some (v, hr)) (hl : hle hr he) (d : decode cc pc = .ok (.invokeinterface index cnt, 5)) (kk : ∀ (b : β) (h1 : Hp), (k b).1 h1 = some (v, hr) → V X h1 (pc + 5) ls (stk b)) : V X h pc ls st := by
  subst hst
  obtain ⟨⟨fs, ha⟩, hf⟩ := mat_inv hf
  have hFw : va_Fw r.1 x y X.2.2.2.2.1 := va_Fw.moved ⟨hnd.1, hnd.2.1⟩ C.2.2.2.2.2.2.2.1.1.alike (va_Fw.of (C.2.2.2.2.2.2.1.2.1 _ w6) (C.2.2.2.2.2.2.1.2.1 _ w7) (C.2.2.2.2.2.2.1.2.1 _ w8) (C.2.2.2.2.2.2.1.2.1 _ w9) (C.2.2.2.2.2.2.1.2.1 _ w10))
  have hGI : GoodIn lw_all (va_wsF own index r.1 x y (ws_ y bytes maxL ret2)) := by
    refine lw_app ?_ (lw_meth w5)
    intro w hw
    simp only [List.mem_cons, List.not_mem_nil, or_false] at hw
    rcases hw with e | e | e | e
    · rw [e]; exact w1
    · rw [e]; exact w2
    · rw [e]; exact w3
    · rw [e]; exact w4
  exact v_back C 5 (ar := (Value.ref a :: vs).toArray) hstk hf hl (fun b h1 H locs la e1 l0 l1 q1 q2 q3 q4 hz => va_runF (C.K.1 ci r hc).2 ⟨C.1, C.2.1, C.2.2.1, C.2.2.2.2.2.1, C.2.2.2.2.2.2.2.2.1⟩ (ct _ C.2.2.2.2.2.2.1 h h1 b e1) (va_cwF n C.2.2.2.2.2.2.2.2.1 hGI rfl rfl rfl hFw hnd (by rw [C.2.2.2.2.2.2.2.2.2]; exact ⟨hF, hL⟩)) ⟨FrameBlind_Wd, va_recv (D := (X.2.2.2.2.2.2.2.2.2.2.1.2.2.1, X.2.2.2.2.2.2.2.2.2.2.1.2.2.2.1)) C.K (q3.one ha) hc (q0 := 0) rfl, fun U hU hW => ⟨rfl, Wd_at C q1 q2 q3 q4 hU hW⟩⟩ rfl hn hz rfl (lv_room hcat) d (by rw [C.2.2.2.2.2.2.2.2.2]; have a1 := q2.1; have a2 := l0.1; have a3 := q2.2.1; have a4 := l0.2.1; have a5 := l1.1; have a6 := l1.2.1; exact ⟨by show _ ≤ he.2.1 - _; omega, by show _ ≤ he.2.2.1 - _; omega⟩)) kk
theorem v_callU (C : Cx X own cc nL ret he F L) {x y : MethodName} {bytes : ByteArray} {maxL F2 L2 index n : Nat} {ret2 : Option FieldType} {rv : β → Option Value} {vs : List Value} {xx : hM β} {k : β → hM α} {stk : β → List Value} {ci a : Nat} {r : vw_C} {owner : String} (ct : CT X.2.1 y bytes maxL ret2 F2 L2 rv (.ref a :: vs) xx) (hc : clG[ci]? = some r) (hnd : owner ≠ "java/lang/invoke/MethodHandle" ∧ owner ≠ "java/lang/invoke/VarHandle" ∧ (parseMethodDescriptor x.desc).map (fun d => d.parameters.length) = some n) (hn : vs.length = n) (hF : F2 + 1 ≤ F) (hL : 8 + (maxL + 11) + L2 ≤ L) (rest : List Value) (hcat : (rest.map fun v => v.category).sum ≤ 8) (hstk : ∀ b, (rv b).toList ++ rest = stk b) (hst : st = vs.reverse ++ .ref a :: rest) (w1 : Jvm.Cond.methodLink own index x ∈ lw_all) (w2 : Jvm.Cond.sameMethod x.cls owner x.name x.desc ∈ lw_all) (w3 : (Jvm.Cond.selects r.1 x y).before X.2.2.2.2.2.2.1 X.2.2.2.2.1 = true) (w4 : Jvm.Cond.instanceMethod y ∈ lw_all) (w5 : Jvm.Cond.initialized y.cls ∈ lw_all) (w6 : Jvm.Cond.code y bytes maxL ret2 ∈ lw_all) (hdc : va_Decl X.2.2.2.2.1 ⟨owner, x.name, x.desc⟩) (hf : (mb (mat a ci xx) k).1 h = some (v, hr)) (hl : hle hr he) (d : decode cc pc = .ok (.invokevirtual index, 3)) (kk : ∀ (b : β) (h1 : Hp), (k b).1 h1 = some (v, hr) → V X h1 (pc + 3) ls (stk b)) : V X h pc ls st := by
  subst hst
  obtain ⟨⟨fs, ha⟩, hf⟩ := mat_inv hf
  exact v_back C 3 (ar := (Value.ref a :: vs).toArray) hstk hf hl (fun b h1 H locs la e1 l0 l1 q1 q2 q3 q4 hz => va_runU (owner := owner) ⟨C.1, C.2.1, C.2.2.1, C.2.2.2.2.2.1, C.2.2.2.2.2.2.2.2.1⟩ (ct _ C.2.2.2.2.2.2.1 h h1 b e1) (cw := ⟨⟨rfl, rfl, by rw [C.2.2.2.2.2.2.2.2.2]; exact hF, by rw [C.2.2.2.2.2.2.2.2.2]; exact hL, pay_in C.2.2.2.2.2.2.2.2.1 (lw_meth w6), List.mem_cons_self⟩, C.2.2.2.2.2.2.2.2.1 _ w6, C.2.2.2.2.2.2.2.2.1 _ w5, ⟨hnd.1, hnd.2.1⟩, nd_len hnd.2.2, C.2.2.2.2.2.2.2.2.1 _ w1, C.2.2.2.2.2.2.2.2.1 _ w2, hdc, w3, C.2.2.2.2.2.2.2.2.1 _ w4⟩) ⟨FrameBlind_Wd, va_recv (D := (X.2.2.2.2.2.2.2.2.2.2.1.2.2.1, X.2.2.2.2.2.2.2.2.2.2.1.2.2.2.1)) C.K (q3.one ha) hc (q0 := 0) rfl, fun U hU hW => ⟨rfl, Wd_at C q1 q2 q3 q4 hU hW⟩⟩ rfl hn hz rfl (lv_room hcat) d (by rw [C.2.2.2.2.2.2.2.2.2]; have a1 := q2.1; have a2 := l0.1; have a3 := q2.2.1; have a4 := l0.2.1; have a5 := l1.1; have a6 := l1.2.1; exact ⟨by show _ ≤ he.2.1 - _; omega, by show _ ≤ he.2.2.1 - _; omega⟩)) kk
/-- which method runs: by the tables' word; a private method, of a class that is none but a superclass -/
theorem se_w (C : Cx X own cc nL ret he F L) {Cn : String} {x y : MethodName} (w : Jvm.Cond.selects Cn x y ∈ lw_all) : (Jvm.Cond.selects Cn x y).before X.2.2.2.2.2.2.1 X.2.2.2.2.1 = true := C.2.2.2.2.2.2.2.2.1 _ w
theorem sel_priv {Cn : String} {y : MethodName} {s : State} {args : Array Value} {n : Nat} (hy : y.cls ≠ "java/lang/invoke/MethodHandle" ∧ y.cls ≠ "java/lang/invoke/VarHandle") (hins : (Cond.instantiable Cn n).before args s = true) (hsame : (Cond.sameMethod y.cls y.cls y.name y.desc).before args s = true) (hpriv : (Cond.privateMethod y).before args s = true) (hinst : (Cond.instanceMethod y).before args s = true) : (Cond.selects Cn y y).before args s = true := by
  obtain ⟨c, k, hc, hk, -, hniab, -, -⟩ := Cond.instantiable_spec hins
  obtain ⟨mk, methM, hnamed, hmethM, -, -⟩ := Cond.instanceMethod_spec hinst
  have hfound : s.methodFound? y.cls y.name y.desc = some mk := State.methodFound?_of_named hnamed hy
  obtain ⟨c2, ck, rr, hc2, hck, hni, -, -⟩ := Cond.sameMethod_found hsame
  have hcls : mk.cls = c2 := Option.some.inj ((findClass_of_methodNamed hnamed).symm.trans hc2)
  have hsel : selectMethod {} s.vm c mk = .method mk := selectMethod_private hmethM (Cond.privateMethod_at hpriv mk methM hnamed hmethM)
  simp only [Cond.before, Cond.holds, Cond.value, hc, hfound, hnamed, hsel, hcls, hck]
  simp; exact hni
theorem se_p (C : Cx X own cc nL ret he F L) {Cn : String} {y : MethodName} {n : Nat} (hy : y.cls ≠ "java/lang/invoke/MethodHandle" ∧ y.cls ≠ "java/lang/invoke/VarHandle") (w1 : Jvm.Cond.instantiable Cn n ∈ lw_all) (w2 : Jvm.Cond.sameMethod y.cls y.cls y.name y.desc ∈ lw_all) (w3 : Jvm.Cond.privateMethod y ∈ lw_tbl) (w4 : Jvm.Cond.instanceMethod y ∈ lw_all) : (Jvm.Cond.selects Cn y y).before X.2.2.2.2.2.2.1 X.2.2.2.2.1 = true := by
  have hs := C.2.2.2.2.2.2.1.2.1 _ (lw_all_tbl w2)
  have h0 := sel_priv (Cn := Cn) hy (C.2.2.2.2.2.2.1.2.1 _ (lw_all_tbl w1)) hs (C.2.2.2.2.2.2.1.2.1 _ w3) (C.2.2.2.2.2.2.1.2.1 _ (lw_all_tbl w4))
  have h1 := (Cond.selects_setVmUp C.2.2.2.2.2.2.2.1.1.alike hy hs).trans h0
  exact va_tabs (u := X.2.2.2.2.2.2.2.2.2.2.1.1.setVm X.2.2.2.2.1.vm) rfl rfl h1
/-- an abstract method's name is declared -/
theorem dc_abs (C : Cx X own cc nL ret he F L) {x : MethodName} (w : Jvm.Cond.declares x ∈ lw_tbl) : va_Decl X.2.2.2.2.1 x := va_Decl.abs (va_Nw.warmD C.2.2.2.2.2.2.2.1.1 (va_Nw.of rfl (C.2.2.2.2.2.2.1.2.1 _ w)))
theorem dc_code (C : Cx X own cc nL ret he F L) {x : MethodName} {b : ByteArray} {m0 : Nat} {r0 : Option FieldType} (w : Jvm.Cond.instanceMethod x ∈ lw_all) (w2 : Jvm.Cond.code x b m0 r0 ∈ lw_all) : va_Decl X.2.2.2.2.1 x := va_Decl.of (C.2.2.2.2.2.2.2.2.1 _ w) (C.2.2.2.2.2.2.2.2.1 _ w2)
theorem v_callD (C : Cx X own cc nL ret he F L) {x y : MethodName} {bytes : ByteArray} {maxL F2 L2 index n : Nat} {ret2 : Option FieldType} {rv : β → Option Value} {vs : List Value} {xx : hM β} {k : β → hM α} {stk : β → List Value} {ci a : Nat} {r : vw_C} (ct : CT X.2.1 y bytes maxL ret2 F2 L2 rv (.ref a :: vs) xx) (hc : clG[ci]? = some r) (hnd : y.cls ≠ "java/lang/invoke/MethodHandle" ∧ y.cls ≠ "java/lang/invoke/VarHandle" ∧ (parseMethodDescriptor x.desc).map (fun d => d.parameters.length) = some n) (hn : vs.length = n) (hF : F2 + 1 ≤ F) (hL : 8 + (maxL + 11) + L2 ≤ L) (rest : List Value) (hcat : (rest.map fun v => v.category).sum ≤ 8) (hstk : ∀ b, (rv b).toList ++ rest = stk b) (hst : st = vs.reverse ++ .ref a :: rest) (w1 : Jvm.Cond.methodLink own index x ∈ nwG) (w2 : Jvm.Cond.sameMethod x.cls y.cls x.name x.desc ∈ nwG) (w3 : Jvm.Cond.landsInDefault r.1 x y ∈ nwG) (w4 : Jvm.Cond.declares ⟨y.cls, x.name, x.desc⟩ ∈ lw_tbl) (w7 : Jvm.Cond.instanceMethod y ∈ lw_all) (w5 : Jvm.Cond.initialized y.cls ∈ lw_all) (w6 : Jvm.Cond.code y bytes maxL ret2 ∈ lw_all) (hf : (mb (mat a ci xx) k).1 h = some (v, hr)) (hl : hle hr he) (d : decode cc pc = .ok (.invokevirtual index, 3)) (kk : ∀ (b : β) (h1 : Hp), (k b).1 h1 = some (v, hr) → V X h1 (pc + 3) ls (stk b)) : V X h pc ls st := by
  subst hst
  obtain ⟨⟨fs, ha⟩, hf⟩ := mat_inv hf
  have hts := C.2.2.2.2.2.2.2.2.1
  have hW0 := C.2.2.2.2.2.2.2.1.1
  refine v_back C 3 (ar := (Value.ref a :: vs).toArray) hstk hf hl (fun b h1 H locs la e1 l0 l1 q1 q2 q3 q4 hz => ?_) kk
  have hK : Back X.2.1 X.2.2.2.1 X.1 X.2.2.1 X.2.2.2.2.2.2.2.1 X.2.2.2.2.1 X.2.2.2.2.2.2.1 y 3 8 (PreOf X.2.2.2.1 _ _ _) (PostOf _ _ _ _) := back_of (bytes := bytes) (maxL := maxL) (ret := ret2) (ct _ C.2.2.2.2.2.2.1 h h1 b e1) FrameBlind_Wd rfl rfl (by rw [C.2.2.2.2.2.2.2.2.2]; exact hF) (by rw [C.2.2.2.2.2.2.2.2.2]; exact hL) (pay_in hts (lw_meth w6)) List.mem_cons_self (fun a' U hW => word_at hW (Or.inl rfl) (hts _ w5))
  obtain ⟨cellB, hcB, hoB, hclB⟩ := va_recv (D := (X.2.2.2.2.2.2.2.2.2.2.1.2.2.1, X.2.2.2.2.2.2.2.2.2.2.1.2.2.2.1)) C.K (q3.one ha) hc (q0 := 0) rfl
  obtain ⟨hfc, kB, hkB, -⟩ := (C.K.1 ci r hc).2
  have hmc : h.2.1 - X.2.2.2.2.2.2.2.2.2.2.2.2.2.1 + (h1.2.1 - h.2.1) ≤ X.2.2.2.1.cells ∧ h.2.2.1 - X.2.2.2.2.2.2.2.2.2.2.2.2.2.2.1 + (h1.2.2.1 - h.2.2.1) ≤ X.2.2.2.1.slots := by
    rw [C.2.2.2.2.2.2.2.2.2]; have a1 := q2.1; have a2 := l0.1; have a3 := q2.2.1; have a4 := l0.2.1; have a5 := l1.1; have a6 := l1.2.1
    exact ⟨by show _ ≤ he.2.1 - _; omega, by show _ ≤ he.2.2.1 - _; omega⟩
  intro T hT XX
  obtain ⟨v', vm₁, ⟨U', l2, c2, s2⟩, hW₁, X', ⟨g', mk, t, Lc, e1', e2', hq, h1', hL', h2', h3'⟩, sts⟩ := XX.virtualBackUpD C.1 C.2.2.2.2.2.1 (word_at (a' := X.2.2.2.2.2.2.1) hW0 (Or.inl rfl) (nw_at C.2.2.2.2.2.2.1 w1)) (word_at (a' := X.2.2.2.2.2.2.1) hW0 (Or.inl rfl) (nw_at C.2.2.2.2.2.2.1 w2)) (va_Nw.use rfl (va_Nw.warmD hW0 (va_Nw.of rfl (C.2.2.2.2.2.2.1.2.1 _ w4)))) ⟨hnd.1, hnd.2.1⟩ (lid_at hW0 (nw_at C.2.2.2.2.2.2.1 w3)) (hts _ w7) hK hclB ⟨cellB, by rw [hT]; exact hcB, rfl, hoB⟩ (g := F0 X.2.2.2.2.2.1 pc la (vs.reverse ++ .ref a :: rest)) rfl (hz.trans C.2.2.1.symm) (Steps.refl _) (argsL := vs) (rest := rest) (fun sig e => hn.trans (nd_len hnd.2.2 sig e)) rfl (lv_room hcat) (by rw [C.2.1]; exact d) (fun vm₁ hW₁ => ⟨hmc.1, hmc.2, rfl, Wd_at C q1 q2 q3 q4 hT hW₁⟩)
  dsimp only [Pt.U, Pt.locs, Pt.cells, Pt.slots] at X' e1' e2' h1' h2' h3' sts
  subst h1'; subst h2'; subst h3'
  exact ⟨v', (T.setVm vm₁).calling g' mk (Value.ref a :: vs).toArray, t, U', Lc, hT, X', hL', e1', e2', hq, fun tg z => sts.trans z⟩

theorem v_callFD (C : Cx X own cc nL ret he F L) {x y : MethodName} {bytes : ByteArray} {maxL F2 L2 index n : Nat} {ret2 : Option FieldType} {rv : β → Option Value} {vs : List Value} {xx : hM β} {k : β → hM α} {stk : β → List Value} {ci a : Nat} {r : vw_C} (ct : CT X.2.1 y bytes maxL ret2 F2 L2 rv (.ref a :: vs) xx) (hc : clG[ci]? = some r) (hnd : x.cls ≠ "java/lang/invoke/MethodHandle" ∧ x.cls ≠ "java/lang/invoke/VarHandle" ∧ (parseMethodDescriptor x.desc).map (fun d => d.parameters.length) = some n) (hn : vs.length = n) (hF : F2 + 1 ≤ F) (hL : 8 + (maxL + 11) + L2 ≤ L) (rest : List Value) (hcat : (rest.map fun v => v.category).sum ≤ 8) (hstk : ∀ b, (rv b).toList ++ rest = stk b) (hst : st = vs.reverse ++ .ref a :: rest) {cnt : Nat} (w1 : Jvm.Cond.methodLink own index x ∈ lw_all) (w3 : Jvm.Cond.landsInDefault r.1 x y ∈ nwG) (w4 : Jvm.Cond.declares x ∈ lw_tbl) (w8 : Jvm.Cond.interfaceMethod x.cls x.cls x.name x.desc ∈ lw_tbl) (w9 : Jvm.Cond.publicMethod y ∈ lw_tbl) (w10 : Jvm.Cond.castable r.1 x.cls ∈ lw_tbl) (w7 : Jvm.Cond.instanceMethod y ∈ lw_all) (w5 : Jvm.Cond.initialized y.cls ∈ lw_all) (w6 : Jvm.Cond.code y bytes maxL ret2 ∈ lw_all) (hf : (mb (mat a ci xx) k).1 h = some (v, hr)) (hl : hle hr he) (d : decode cc pc = .ok (.invokeinterface index cnt, 5)) (kk : ∀ (b : β) (h1 : Hp), (k b).1 h1 = some (v, hr) → V X h1 (pc + 5) ls (stk b)) : V X h pc ls st := by
  subst hst
  obtain ⟨⟨fs, ha⟩, hf⟩ := mat_inv hf
  have hts := C.2.2.2.2.2.2.2.2.1
  have hW0 := C.2.2.2.2.2.2.2.1.1
  refine v_back C 5 (ar := (Value.ref a :: vs).toArray) hstk hf hl (fun b h1 H locs la e1 l0 l1 q1 q2 q3 q4 hz => ?_) kk
  have hK : Back X.2.1 X.2.2.2.1 X.1 X.2.2.1 X.2.2.2.2.2.2.2.1 X.2.2.2.2.1 X.2.2.2.2.2.2.1 y 5 8 (PreOf X.2.2.2.1 _ _ _) (PostOf _ _ _ _) := back_of (bytes := bytes) (maxL := maxL) (ret := ret2) (ct _ C.2.2.2.2.2.2.1 h h1 b e1) FrameBlind_Wd rfl rfl (by rw [C.2.2.2.2.2.2.2.2.2]; exact hF) (by rw [C.2.2.2.2.2.2.2.2.2]; exact hL) (pay_in hts (lw_meth w6)) List.mem_cons_self (fun a' U hW => word_at hW (Or.inl rfl) (hts _ w5))
  obtain ⟨cellB, hcB, hoB, hclB⟩ := va_recv (D := (X.2.2.2.2.2.2.2.2.2.2.1.2.2.1, X.2.2.2.2.2.2.2.2.2.2.1.2.2.2.1)) C.K (q3.one ha) hc (q0 := 0) rfl
  obtain ⟨hfc, kB, hkB, -⟩ := (C.K.1 ci r hc).2
  have hmc : h.2.1 - X.2.2.2.2.2.2.2.2.2.2.2.2.2.1 + (h1.2.1 - h.2.1) ≤ X.2.2.2.1.cells ∧ h.2.2.1 - X.2.2.2.2.2.2.2.2.2.2.2.2.2.2.1 + (h1.2.2.1 - h.2.2.1) ≤ X.2.2.2.1.slots := by
    rw [C.2.2.2.2.2.2.2.2.2]; have a1 := q2.1; have a2 := l0.1; have a3 := q2.2.1; have a4 := l0.2.1; have a5 := l1.1; have a6 := l1.2.1
    exact ⟨by show _ ≤ he.2.1 - _; omega, by show _ ≤ he.2.2.1 - _; omega⟩
  have hFw : (Cond.interfaceMethod x.cls x.cls x.name x.desc).before #[] X.2.2.2.2.1 = true ∧ (Cond.publicMethod y).before #[] X.2.2.2.2.1 = true := by
    obtain ⟨rr, me, hnn, -⟩ := Cond.declares_spec (C.2.2.2.2.2.2.1.2.1 _ w4)
    have tr : ∀ {c : Cond}, c.onTables = true → c.before #[] (X.2.2.2.2.2.2.2.2.2.2.1.1.setVm X.2.2.2.2.1.vm) = true → c.before #[] X.2.2.2.2.1 = true := by
      intro c hc h
      have e := Cond.onTables_vm (A := #[]) (A' := #[]) (U := X.2.2.2.2.2.2.2.2.2.2.1.1) (U' := X.2.2.2.2.1) X.2.2.2.2.1.vm c hc
      have hU : X.2.2.2.2.1.setVm X.2.2.2.2.1.vm = X.2.2.2.2.1 := rfl
      rw [hU] at e
      rw [← e]
      exact h
    exact ⟨tr rfl (by rw [Cond.interfaceMethod_setVm hW0.alike (r := rr) hnn ⟨hnd.1, hnd.2.1⟩]; exact va_any rfl (C.2.2.2.2.2.2.1.2.1 _ w8)), tr rfl (by rw [Cond.publicMethod_setVm hW0.alike]; exact va_any rfl (C.2.2.2.2.2.2.1.2.1 _ w9))⟩
  intro T hT XX
  obtain ⟨v', vm₁, ⟨U', l2, c2, s2⟩, hW₁, X', ⟨g', mk, t, Lc, e1', e2', hq, h1', hL', h2', h3'⟩, sts⟩ := XX.interfaceBackD C.1 C.2.2.2.2.2.1 (hts _ w1) (va_Nw.use rfl (va_Nw.warmD hW0 (va_Nw.of rfl (C.2.2.2.2.2.2.1.2.1 _ w4)))) (va_any rfl hFw.1) (lid_at hW0 (nw_at C.2.2.2.2.2.2.1 w3)) (hts _ w7) (va_any rfl hFw.2) (va_Nw.use rfl (va_Nw.warmC hW0 (va_Nw.of rfl (C.2.2.2.2.2.2.1.2.1 _ w10)))) ⟨hnd.1, hnd.2.1⟩ hK hclB (by have h9 := Option.some.inj (hfc.symm.trans hclB); rw [← h9]; exact hkB) ⟨cellB, by rw [hT]; exact hcB, rfl, hoB⟩ (g := F0 X.2.2.2.2.2.1 pc la (vs.reverse ++ .ref a :: rest)) rfl (hz.trans C.2.2.1.symm) (Steps.refl _) (argsL := vs) (rest := rest) (fun sig e => hn.trans (nd_len hnd.2.2 sig e)) rfl (lv_room hcat) (by rw [C.2.1]; exact d) (fun vm₁ hW₁ => ⟨hmc.1, hmc.2, rfl, Wd_at C q1 q2 q3 q4 hT hW₁⟩)
  dsimp only [Pt.U, Pt.locs, Pt.cells, Pt.slots] at X' e1' e2' h1' h2' h3' sts
  subst h1'; subst h2'; subst h3'
  exact ⟨v', (T.setVm vm₁).calling g' mk (Value.ref a :: vs).toArray, t, U', Lc, hT, X', hL', e1', e2', hq, fun tg z => sts.trans z⟩

end VF
/-- a call's meaning by the receiver's class -/
theorem dsp_inv {α β : Type} {a : Nat} {g : Nat → hM α} {k : α → hM β} {h h' : Hp} {b : β} (hf : (mb (mb (gC a) g) k).1 h = some (b, h')) : ∃ c, (mb (g c) k).1 h = some (b, h') := by
  obtain ⟨x, h1, e1, e2, -⟩ := mb_inv hf (hle.rf h')
  obtain ⟨c, h2, e3, e4, -⟩ := mb_inv e1 (hle.rf h1)
  obtain ⟨-, rfl⟩ := mrd_inv e3
  exact ⟨c, (mb_ev e4).trans e2⟩
theorem mb_mi {α β : Type} {c : Prop} [Decidable c] {x y : hM α} {k : α → hM β} {h : Hp} {r : Option (β × Hp)} (hf : (mb (mi c x y) k).1 h = r) : (c ∧ (mb x k).1 h = r) ∨ (¬ c ∧ (mb y k).1 h = r) := by
  by_cases hc : c
  · refine Or.inl ⟨hc, ?_⟩
    rw [← hf]
    show mbf x k h = mbf (mi c x y) k h
    unfold mbf
    rw [mi_t x y h hc]
  · refine Or.inr ⟨hc, ?_⟩
    rw [← hf]
    show mbf y k h = mbf (mi c x y) k h
    unfold mbf
    rw [mi_f x y h hc]
theorem mb_fail {α β : Type} {k : α → hM β} {h h' : Hp} {b : β} {P : Prop} (hf : (mb (mfail : hM α) k).1 h = some (b, h')) : P := by
  obtain ⟨x, h1, e1, e2, -⟩ := mb_inv hf (hle.rf h')
  exact mfail_inv e1

