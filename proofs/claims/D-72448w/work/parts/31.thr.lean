set_option maxRecDepth 100000
/-! ===== methods that throw the system's own fault: x answers .inl what it returns, .inr the fault that it throws ===== -/
def mth {α : Type} (q : Nat) : hM (α ⊕ Nat) := mat q 5 (mret (.inr q))
/-- a callee that may throw, caught here -/
def mbh {β δ : Type} (x : hM (β ⊕ Nat)) (k : β → hM δ) (kh : Nat → hM δ) : hM δ := mb x (fun o => match o with
  | .inl b => k b
  | .inr c => kh c)
theorem mbh_inv {β δ : Type} {x : hM (β ⊕ Nat)} {k : β → hM δ} {kh : Nat → hM δ} {h hr he : Hp} {v : δ} (hf : (mbh x k kh).1 h = some (v, hr)) (hl : hle hr he) : ∃ o h1, x.1 h = some (o, h1) ∧ hle h1 he ∧ (∀ b, o = .inl b → (k b).1 h1 = some (v, hr)) ∧ (∀ c, o = .inr c → (kh c).1 h1 = some (v, hr)) := by
  obtain ⟨o, h1, e1, e2, l1⟩ := mb_inv hf hl
  refine ⟨o, h1, e1, l1, fun b e => ?_, fun c e => ?_⟩
  · subst e; exact e2
  · subst e; exact e2
theorem mbh_l {β δ : Type} {x : hM (β ⊕ Nat)} {k : β → hM δ} {j : Nat → hM δ} {h h1 : Hp} {b : β} (e : x.1 h = some (.inl b, h1)) : (mbh x k j).1 h = (k b).1 h1 := mb_ev e
theorem mbh_r {β δ : Type} {x : hM (β ⊕ Nat)} {k : β → hM δ} {j : Nat → hM δ} {h h1 : Hp} {c : Nat} (e : x.1 h = some (.inr c, h1)) : (mbh x k j).1 h = (j c).1 h1 := mb_ev e
/-- a callee that may throw: it throws on -/
def mbt {β δ : Type} (x : hM (β ⊕ Nat)) (k : β → hM δ) (j : Nat → δ) : hM δ := mb x (fun o => match o with
  | .inl b => k b
  | .inr c => mat c 5 (mret (j c)))
theorem mbt_inv {β δ : Type} {x : hM (β ⊕ Nat)} {k : β → hM δ} {j : Nat → δ} {h hr he : Hp} {v : δ} (hf : (mbt x k j).1 h = some (v, hr)) (hl : hle hr he) : ∃ o h1, x.1 h = some (o, h1) ∧ hle h1 he ∧ (∀ b, o = .inl b → (k b).1 h1 = some (v, hr)) ∧ (∀ c, o = .inr c → (∃ fs, h1.1 c = some (.inr (5, fs))) ∧ (mret (j c)).1 h1 = some (v, hr)) := by
  obtain ⟨o, h1, e1, e2, l1⟩ := mb_inv hf hl
  refine ⟨o, h1, e1, l1, fun b e => ?_, fun c e => ?_⟩
  · subst e; exact e2
  · subst e; exact matf_inv e2
theorem mbt_l {β δ : Type} {x : hM (β ⊕ Nat)} {k : β → hM δ} {j : Nat → δ} {h h1 : Hp} {b : β} (e : x.1 h = some (.inl b, h1)) : (mbt x k j).1 h = (k b).1 h1 := mb_ev e
theorem mbt_r {β δ : Type} {x : hM (β ⊕ Nat)} {k : β → hM δ} {j : Nat → δ} {h h1 : Hp} {c : Nat} {fs : List Value} (e : x.1 h = some (.inr c, h1)) (h5 : h1.1 c = some (.inr (5, fs))) : (mbt x k j).1 h = some (j c, h1) := (mb_ev e).trans (mat_ev _ h5)
def QcO {α : Type} (G : hG) (rv : α → Option Value) (o : α ⊕ Nat) (h he : Hp) : Array Value → State → Outcome → State → Prop := match o with
  | .inl v => Qd G (rv v) h he
  | .inr _ => fun _ _ _ _ => False
def XcO {α : Type} (G : hG) (o : α ⊕ Nat) (h he : Hp) : String → Addr → State → State → Prop := match o with
  | .inl _ => fun _ _ _ _ => False
  | .inr q0 => fun E q st t => E = RX5 ∧ q = q0 ∧ t.heap.size = he.2.1 ∧ wP G he.1 t.heap ∧ ∀ a, a < h.2.2.2.1 → t.heap[a]? = st.heap[a]?
/-- THE CONTRACT of a method that may throw the fault -/
def CTX (l : Launch) (y : MethodName) (cc : ByteArray) (nL : Nat) (ret : Option FieldType) (F L : Nat) {α : Type} (rv : α → Option Value) (vs : List Value) (x : hM (α ⊕ Nat)) : Prop :=
  ∀ (G : hG), okG l G → ∀ (h h' : Hp) (v : α ⊕ Nat), x.1 h = some (v, h') → vx_Met l y (ws_ y cc nL ret) ({ frames := F, cells := h'.2.1 - h.2.1, slots := h'.2.2.1 - h.2.2.1, locals := L }) (va_Pc vs (Wd G h)) (QcO G rv v h h') (XcO G v h h') (h'.2.1 - h.2.1) (h'.2.2.1 - h.2.2.1) (fun q => h.2.2.2.1 ≤ q)
theorem CTX_fail {l : Launch} {y : MethodName} {cc : ByteArray} {nL : Nat} {ret : Option FieldType} {F L : Nat} {α : Type} {rv : α → Option Value} {vs : List Value} : CTX l y cc nL ret F L rv vs mfail := fun _ _ _ _ _ e => mfail_inv e
abbrev QEX {α : Type} (X : hX) (rv : α → Option Value) (o : α ⊕ Nat) (he : Hp) : Prop := X.2.2.2.2.2.2.2.2.2.2.2.1 = vx_MQ X.2.2.2.2.2.2.2.1 (QcO X.2.2.2.2.2.2.2.2.2.2.1 rv o X.2.2.2.2.2.2.2.2.2.2.2.2 he) (XcO X.2.2.2.2.2.2.2.2.2.2.1 o X.2.2.2.2.2.2.2.2.2.2.2.2 he) X.2.2.2.2.2.2.1 X.2.2.2.2.1 (he.2.1 - X.2.2.2.2.2.2.2.2.2.2.2.2.2.1) (he.2.2.1 - X.2.2.2.2.2.2.2.2.2.2.2.2.2.2.1) (fun q => X.2.2.2.2.2.2.2.2.2.2.2.2.2.2.2.1 ≤ q)
/-- the method has no table -/
abbrev HTX (X : hX) : Prop := ∀ x ∈ X.2.2.2.2.2.2.2.2.2.1.exceptionTable.toList, False
section VT
variable {X : hX} {own : String} {cc : ByteArray} {nL : Nat} {he : Hp} {F L : Nat} {h : Hp} {pc : Nat} {ls : List (Nat × Value)} {st : List Value}
theorem v_iretX {z : Int32 ⊕ Nat} (C : Cx X own cc nL (some .int) he F L) (E : QEX X rvI z he) {x : Int32} (hf : (mret (Sum.inl x)).1 h = some (z, he)) (d : decode cc pc = .ok (.ireturn, 1)) : V X h pc ls [.int x] := by
  obtain ⟨rfl, rfl⟩ := mret_inv hf
  intro H locs la q1 q2 q3 q4 q5 q6
  rw [E]
  exact vx_ret (W.iret C.1 C.2.1 C.2.2.2.1 (fun t ht hW => ⟨rfl, by rw [ht]; exact q1, by rw [ht]; exact q3, fun q hq => by rw [ht]; exact q4 q hq⟩) q5 d C.2.2.2.2.1)
theorem v_vretX {z : Unit ⊕ Nat} (C : Cx X own cc nL none he F L) (E : QEX X rv0 z he) {x : Unit} (hf : (mret (Sum.inl x)).1 h = some (z, he)) (d : decode cc pc = .ok (.return_, 1)) : V X h pc ls [] := by
  obtain ⟨rfl, rfl⟩ := mret_inv hf
  intro H locs la q1 q2 q3 q4 q5 q6
  rw [E]
  exact vx_ret (W.vret C.1 C.2.1 C.2.2.2.1 (fun t ht hW => ⟨rfl, by rw [ht]; exact q1, by rw [ht]; exact q3, fun q hq => by rw [ht]; exact q4 q hq⟩) q5 d C.2.2.2.2.1)
theorem v_aretX {z : Nat ⊕ Nat} {rt : FieldType} (C : Cx X own cc nL (some rt) he F L) (E : QEX X rvR z he) {x : Nat} (hf : (mret (Sum.inl x)).1 h = some (z, he)) (hrt : (∃ n, rt = .object n) ∨ ∃ t, rt = .array t) (d : decode cc pc = .ok (.areturn, 1)) : V X h pc ls [.ref x] := by
  obtain ⟨rfl, rfl⟩ := mret_inv hf
  intro H locs la q1 q2 q3 q4 q5 q6
  rw [E]
  exact vx_ret (W.aret C.1 C.2.1 C.2.2.2.1 hrt (Or.inr ⟨_, rfl⟩) (fun t ht hW => ⟨rfl, by rw [ht]; exact q1, by rw [ht]; exact q3, fun q hq => by rw [ht]; exact q4 q hq⟩) q5 d C.2.2.2.2.1)
/-- a fault goes on to the caller -/
theorem vx_gone {ret : Option FieldType} {α : Type} {rv : α → Option Value} {q : Nat} {H : Heap} {locs : List Loc} {la : Array Slot} {st : List Value} {fs : List Value} (C : Cx X own cc nL ret he F L) (HT : HTX X) (E : QEX X rv (.inr q) he) (ha : he.1 q = some (.inr (5, fs))) (q1 : H.size = he.2.1) (q3 : wP X.2.2.2.2.2.2.2.2.2.2.1 he.1 H) (q4 : ∀ q, q < X.2.2.2.2.2.2.2.2.2.2.2.2.2.2.2.1 → H[q]? = X.2.2.2.2.1.heap[q]?) (q5 : ∀ x ∈ locs, X.2.2.2.2.2.2.2.2.2.2.2.2.2.2.2.1 ≤ x.base) :
    vx_W X.1 X.2.1 X.2.2.1 X.2.2.2.1 X.2.2.2.2.1 X.2.2.2.2.2.1 X.2.2.2.2.2.2.1 X.2.2.2.2.2.2.2.1 X.2.2.2.2.2.2.2.2.1 X.2.2.2.2.2.2.2.2.2.1 H locs (he.2.1 - X.2.2.2.2.2.2.2.2.2.2.2.2.2.1) (he.2.2.1 - X.2.2.2.2.2.2.2.2.2.2.2.2.2.2.1) X.2.2.2.2.2.2.2.2.2.2.2.1 (F0 X.2.2.2.2.2.1 pc la st) q := by
  obtain ⟨r9, h9, cell, g1, g2, g3, -⟩ := q3 q _ ha
  rw [E]
  refine vx_out (E := RX5) (ce := cell) (fun x hx => (HT x hx).elim) C.2.2.2.2.1 g1 g3 ?_ (fun t ht hW => ?_) q5 (Nat.le_refl _) (Nat.le_refl _)
  · exact (C.K.1 5 _ rfl).2.1.trans (congrArg some g2.symm)
  · exact ⟨rfl, rfl, by rw [ht]; exact q1, by rw [ht]; exact q3, fun a haa => by rw [ht]; exact q4 a haa⟩
theorem v_athrow {ret : Option FieldType} {α : Type} {rv : α → Option Value} {z : α ⊕ Nat} {q : Nat} (C : Cx X own cc nL ret he F L) (HT : HTX X) (E : QEX X rv z he) (hf : (mth q).1 h = some (z, he)) (d : decode cc pc = .ok (.athrow, 1)) : V X h pc ls (.ref q :: st) := by
  obtain ⟨⟨fs, ha⟩, hf⟩ := matf_inv hf
  obtain ⟨rfl, rfl⟩ := mret_inv hf
  intro H locs la q1 q2 q3 q4 q5 q6
  exact vx_athrow C.1 C.2.1 d (vx_gone C HT E ha q1 q3 q4 q5)
variable {hr : Hp} {ret : Option FieldType} {α β δ : Type} {v : δ}
/-- a call of a method that may throw: it throws on -/
theorem v_backX (C : Cx X own cc nL ret he F L) (HT : HTX X) {rvA : α → Option Value} {z : α ⊕ Nat} (E : QEX X rvA z he) {x : hM (β ⊕ Nat)} {k : β → hM δ} {j : Nat → δ} {rv : β → Option Value} {rest st0 : List Value} {stk : β → List Value} {ar : Array Value} (hstk : ∀ b, (rv b).toList ++ rest = stk b) (hf : (mbt x k j).1 h = some (v, hr)) (hl : hle hr he)
    (hup : ∀ q h1, (mret (j q)).1 h1 = some (v, hr) → (mret (Sum.inr q : α ⊕ Nat)).1 h1 = some (z, he))
    (run : ∀ (o : β ⊕ Nat) (h1 : Hp) (H : Heap) (locs : List Loc) (la : Array Slot), x.1 h = some (o, h1) → hle h h1 → hle h1 he → H.size = h.2.1 → hle X.2.2.2.2.2.2.2.2.2.2.2.2 h → wP X.2.2.2.2.2.2.2.2.2.2.1 h.1 H → (∀ q, q < X.2.2.2.2.2.2.2.2.2.2.2.2.2.2.2.1 → H[q]? = X.2.2.2.2.1.heap[q]?) → la.size = nL →
      vx_Run X.1 X.2.1 X.2.2.1 X.2.2.2.1 X.2.2.2.2.1 X.2.2.2.2.2.1 X.2.2.2.2.2.2.1 X.2.2.2.2.2.2.2.1 X.2.2.2.2.2.2.2.2.1 X.2.2.2.2.2.2.2.2.2.1 H locs (h.2.1 - X.2.2.2.2.2.2.2.2.2.2.2.2.2.1) (h.2.2.1 - X.2.2.2.2.2.2.2.2.2.2.2.2.2.2.1) (h1.2.1 - h.2.1) (h1.2.2.1 - h.2.2.1) (F0 X.2.2.2.2.2.1 pc la st0) rest (QcO X.2.2.2.2.2.2.2.2.2.2.1 rv o h h1 ar) (XcO X.2.2.2.2.2.2.2.2.2.2.1 o h h1) (fun q => h.2.2.2.1 ≤ q))
    (kk : ∀ (b : β) (h1 : Hp), (k b).1 h1 = some (v, hr) → V X h1 (pc + 3) ls (stk b)) : V X h pc ls st0 := by
  obtain ⟨o, h1, e1, l1, hin, hth⟩ := mbt_inv hf hl
  have l0 := x.2 _ _ _ e1
  intro H locs la q1 q2 q3 q4 q5 q6 T hT XX
  have a1 := q2.1; have a2 := l0.1; have a3 := q2.2.1; have a4 := l0.2.1
  have c1 : h.2.1 - X.2.2.2.2.2.2.2.2.2.2.2.2.2.1 + (h1.2.1 - h.2.1) = h1.2.1 - X.2.2.2.2.2.2.2.2.2.2.2.2.2.1 := by omega
  have c2 : h.2.2.1 - X.2.2.2.2.2.2.2.2.2.2.2.2.2.2.1 + (h1.2.2.1 - h.2.2.1) = h1.2.2.1 - X.2.2.2.2.2.2.2.2.2.2.2.2.2.2.1 := by omega
  have hlo := q2.2.2.1
  rcases run o h1 H locs la e1 l0 l1 q1 q2 q3 q4 (by rw [q6.1, C.2.2.1]) T hT XX with ⟨v', st₀, t, T', Lc, g0, X', hL, g1, g2, qa, st1⟩ | ⟨q, st₀, t, T', Lc, E0, ce, g0, X', hL, g1, g2, hxc, hce, hcv, hcl, st1⟩
  · cases o with
    | inr q => exact qa.elim
    | inl b =>
      obtain ⟨r1, r2, r3, r4⟩ := qa
      cases r1
      rw [c1, c2] at X'
      obtain ⟨t2, s1, s2⟩ := kk b h1 (hin b rfl) T'.heap (locs ++ Lc) la (by rw [g1]; exact r2) (q2.tr l0) (by rw [g1]; exact r3) (fun q hq => by rw [g1, r4 q (by rw [hlo]; exact hq), g0]; exact q4 q hq) (fun y hy => by
        rcases List.mem_append.mp hy with z | z
        · exact q5 y z
        · have := hL y z; rw [hlo] at this; exact this) q6 T' rfl X'
      rw [← hstk b] at s1
      exact ⟨t2, st1 t2 s1, s2⟩
  · cases o with
    | inl b => exact hxc.elim
    | inr q0 =>
      obtain ⟨rfl, rfl, r2, r3, r4⟩ := hxc
      obtain ⟨⟨fs, hfs⟩, hth⟩ := hth q rfl
      obtain ⟨rfl, rfl⟩ := mret_inv (hup q h1 hth)
      rw [c1, c2] at X'
      obtain ⟨t2, s1, s2⟩ := vx_gone (la := la) (st := rest) (pc := pc) (H := T'.heap) (locs := locs ++ Lc) C HT E hfs (by rw [g1]; exact r2) (by rw [g1]; exact r3) (fun q hq => by rw [g1, r4 q (by rw [hlo]; exact hq), g0]; exact q4 q hq) (fun y hy => by
        rcases List.mem_append.mp hy with z | z
        · exact q5 y z
        · have := hL y z; rw [hlo] at this; exact this) T' rfl X'
      exact ⟨t2, st1.trans s1, s2⟩
theorem matt_inv {a ci : Nat} {x : hM (β ⊕ Nat)} {k : β → hM δ} {j : Nat → δ} {h h' : Hp} {b : δ} (e : (mbt (mat a ci x) k j).1 h = some (b, h')) : (∃ fs, h.1 a = some (.inr (ci, fs))) ∧ (mbt x k j).1 h = some (b, h') := mat_inv e
theorem math_inv {a ci : Nat} {x : hM (β ⊕ Nat)} {k : β → hM δ} {j : Nat → hM δ} {h h' : Hp} {b : δ} (e : (mbh (mat a ci x) k j).1 h = some (b, h')) : (∃ fs, h.1 a = some (.inr (ci, fs))) ∧ (mbh x k j).1 h = some (b, h') := mat_inv e
theorem v_callVX (C : Cx X own cc nL ret he F L) (HT : HTX X) {rvA : α → Option Value} {z : α ⊕ Nat} (E : QEX X rvA z he) {y : MethodName} {bytes : ByteArray} {maxL F2 L2 index n : Nat} {ret2 : Option FieldType} {rv : β → Option Value} {vs : List Value} {x : hM (β ⊕ Nat)} {k : β → hM δ} {j : Nat → δ} {stk : β → List Value} {ci a : Nat} {r : vw_C} (ct : CTX X.2.1 y bytes maxL ret2 F2 L2 rv (.ref a :: vs) x) (hc : clG[ci]? = some r) (hd : y.cls = r.1 ∧ y.cls ≠ "java/lang/invoke/MethodHandle" ∧ y.cls ≠ "java/lang/invoke/VarHandle" ∧ (parseMethodDescriptor y.desc).map (fun d => d.parameters.length) = some n) (hn : vs.length = n) (hF : F2 + 1 ≤ F) (hL : 8 + (maxL + 11) + L2 ≤ L) (rest : List Value) (hcat : (rest.map fun v => v.category).sum ≤ 8) (hstk : ∀ b, (rv b).toList ++ rest = stk b) (hst : st = vs.reverse ++ .ref a :: rest) (w1 : Jvm.Cond.methodLink own index y ∈ lw_all) (w2 : Jvm.Cond.instanceMethod y ∈ lw_all) (w3 : Jvm.Cond.selects r.1 y y ∈ lw_all) (w4 : Jvm.Cond.initialized r.1 ∈ lw_all) (w5 : Jvm.Cond.code y bytes maxL ret2 ∈ lw_all) (hf : (mbt (mat a ci x) k j).1 h = some (v, hr)) (hl : hle hr he) (hup : ∀ q h1, (mret (j q)).1 h1 = some (v, hr) → (mret (Sum.inr q : α ⊕ Nat)).1 h1 = some (z, he)) (d : decode cc pc = .ok (.invokevirtual index, 3)) (kk : ∀ (b : β) (h1 : Hp), (k b).1 h1 = some (v, hr) → V X h1 (pc + 3) ls (stk b)) : V X h pc ls st := by
  subst hst
  obtain ⟨⟨fs, ha⟩, hf⟩ := matt_inv hf
  exact v_backX C HT E (ar := (Value.ref a :: vs).toArray) hstk hf hl hup (fun o h1 H locs la e1 l0 l1 q1 q2 q3 q4 hz => vx_runV ⟨C.1, C.2.1, C.2.2.1, C.2.2.2.2.2.1, C.2.2.2.2.2.2.2.2.1⟩ (ct _ C.2.2.2.2.2.2.1 h h1 o e1) (cwV n C.2.2.2.2.2.2.2.2.1 (lw_V w1 w2 w3 w4 w5) rfl rfl rfl hd (by rw [C.2.2.2.2.2.2.2.2.2]; exact ⟨hF, hL⟩)) ⟨FrameBlind_Wd, va_recv (D := (X.2.2.2.2.2.2.2.2.2.2.1.2.2.1, X.2.2.2.2.2.2.2.2.2.2.1.2.2.2.1)) C.K (q3.one ha) hc (q0 := 0) rfl, fun U hU hW => ⟨rfl, Wd_at C q1 q2 q3 q4 hU hW⟩⟩ rfl hn hz rfl (lv_room hcat) d (by rw [C.2.2.2.2.2.2.2.2.2]; have a1 := q2.1; have a2 := l0.1; have a3 := q2.2.1; have a4 := l0.2.1; have a5 := l1.1; have a6 := l1.2.1; exact ⟨by show _ ≤ he.2.1 - _; omega, by show _ ≤ he.2.2.1 - _; omega⟩)) kk
/-- a call of a method that may throw: what it throws is caught at the handler tgt -/
theorem v_callVC (C : Cx X own cc nL ret he F L) {y : MethodName} {bytes : ByteArray} {maxL F2 L2 index n : Nat} {ret2 : Option FieldType} {rv : β → Option Value} {vs : List Value} {x : hM (β ⊕ Nat)} {k : β → hM δ} {kh : Nat → hM δ} {stk : β → List Value} {ci a : Nat} {r : vw_C} (ct : CTX X.2.1 y bytes maxL ret2 F2 L2 rv (.ref a :: vs) x) (hc : clG[ci]? = some r) (hd : y.cls = r.1 ∧ y.cls ≠ "java/lang/invoke/MethodHandle" ∧ y.cls ≠ "java/lang/invoke/VarHandle" ∧ (parseMethodDescriptor y.desc).map (fun d => d.parameters.length) = some n) (hn : vs.length = n) (hF : F2 + 1 ≤ F) (hL : 8 + (maxL + 11) + L2 ≤ L) (rest : List Value) (hcat : (rest.map fun v => v.category).sum ≤ 8) (hstk : ∀ b, (rv b).toList ++ rest = stk b) (hst : st = vs.reverse ++ .ref a :: rest) (w1 : Jvm.Cond.methodLink own index y ∈ lw_all) (w2 : Jvm.Cond.instanceMethod y ∈ lw_all) (w3 : Jvm.Cond.selects r.1 y y ∈ lw_all) (w4 : Jvm.Cond.initialized r.1 ∈ lw_all) (w5 : Jvm.Cond.code y bytes maxL ret2 ∈ lw_all)
    (x0 : ExceptionTableEntry) (suf : List ExceptionTableEntry) (htab : X.2.2.2.2.2.2.2.2.2.1.exceptionTable.toList = x0 :: suf) (hcov : covers x0 pc = true) (hct : x0.catchType ≠ 0) (w6 : Jvm.Cond.classLink own x0.catchType RX5 ∈ lw_all) (w7 : Jvm.Cond.castable RX5 RX5 ∈ lw_tbl)
    (hf : (mbh (mat a ci x) k kh).1 h = some (v, hr)) (hl : hle hr he) (d : decode cc pc = .ok (.invokevirtual index, 3)) (kx : ∀ (q : Nat) (h1 : Hp), (kh q).1 h1 = some (v, hr) → V X h1 x0.handlerPc ls [.ref q]) (kk : ∀ (b : β) (h1 : Hp), (k b).1 h1 = some (v, hr) → V X h1 (pc + 3) ls (stk b)) : V X h pc ls st := by
  subst hst
  obtain ⟨⟨fs, ha⟩, hf⟩ := math_inv hf
  obtain ⟨o, h1, e1, l1, hin, hth⟩ := mbh_inv hf hl
  have l0 := x.2 _ _ _ e1
  intro H locs la q1 q2 q3 q4 q5 q6 T hT XX
  have a1 := q2.1; have a2 := l0.1; have a3 := q2.2.1; have a4 := l0.2.1; have a5 := l1.1; have a6 := l1.2.1
  have c1 : h.2.1 - X.2.2.2.2.2.2.2.2.2.2.2.2.2.1 + (h1.2.1 - h.2.1) = h1.2.1 - X.2.2.2.2.2.2.2.2.2.2.2.2.2.1 := by omega
  have c2 : h.2.2.1 - X.2.2.2.2.2.2.2.2.2.2.2.2.2.2.1 + (h1.2.2.1 - h.2.2.1) = h1.2.2.1 - X.2.2.2.2.2.2.2.2.2.2.2.2.2.2.1 := by omega
  have hlo := q2.2.2.1
  rcases vx_runV (rest := rest) (g := F0 X.2.2.2.2.2.1 pc la (vs.reverse ++ .ref a :: rest)) ⟨C.1, C.2.1, C.2.2.1, C.2.2.2.2.2.1, C.2.2.2.2.2.2.2.2.1⟩ (ct _ C.2.2.2.2.2.2.1 h h1 o e1) (cwV n C.2.2.2.2.2.2.2.2.1 (lw_V w1 w2 w3 w4 w5) rfl rfl rfl hd (by rw [C.2.2.2.2.2.2.2.2.2]; exact ⟨hF, hL⟩)) ⟨FrameBlind_Wd, va_recv (D := (X.2.2.2.2.2.2.2.2.2.2.1.2.2.1, X.2.2.2.2.2.2.2.2.2.2.1.2.2.2.1)) C.K (q3.one ha) hc (q0 := 0) rfl, fun U hU hW => ⟨rfl, Wd_at C q1 q2 q3 q4 hU hW⟩⟩ rfl hn (by show la.size = nL; rw [q6.1, C.2.2.1]) rfl (lv_room hcat) d (by rw [C.2.2.2.2.2.2.2.2.2]; exact ⟨by show _ ≤ he.2.1 - _; omega, by show _ ≤ he.2.2.1 - _; omega⟩) T hT XX with ⟨v', st₀, t, T', Lc, g0, X', hL, g1, g2, qa, st1⟩ | ⟨q, st₀, t, T', Lc, E0, ce, g0, X', hL, g1, g2, hxc, hce, hcv, hcl, st1⟩
  · cases o with
    | inr q => exact qa.elim
    | inl b =>
      obtain ⟨r1, r2, r3, r4⟩ := qa
      cases r1
      rw [c1, c2] at X'
      obtain ⟨t2, s1, s2⟩ := kk b h1 (hin b rfl) T'.heap (locs ++ Lc) la (by rw [g1]; exact r2) (q2.tr l0) (by rw [g1]; exact r3) (fun q hq => by rw [g1, r4 q (by rw [hlo]; exact hq), g0]; exact q4 q hq) (fun y hy => by
        rcases List.mem_append.mp hy with z | z
        · exact q5 y z
        · have := hL y z; rw [hlo] at this; exact this) q6 T' rfl X'
      rw [← hstk b] at s1
      exact ⟨t2, st1 t2 s1, s2⟩
  · cases o with
    | inl b => exact hxc.elim
    | inr q0 =>
      obtain ⟨rfl, rfl, r2, r3, r4⟩ := hxc
      rw [c1, c2] at X'
      have K1 := kx q h1 (hth q rfl) T'.heap (locs ++ Lc) la (by rw [g1]; exact r2) (q2.tr l0) (by rw [g1]; exact r3) (fun q hq => by rw [g1, r4 q (by rw [hlo]; exact hq), g0]; exact q4 q hq) (fun y hy => by
        rcases List.mem_append.mp hy with z | z
        · exact q5 y z
        · have := hL y z; rw [hlo] at this; exact this) q6
      obtain ⟨t2, s1, s2⟩ := vx_catch (rest := rest) (own := own) (name := RX5) (E := RX5) C.2.2.2.2.2.1 [] x0 suf htab (fun z hz => nomatch hz) hcov hct (C.2.2.2.2.2.2.2.2.1 _ w6) (va_Nw.use (A := X.2.2.2.2.2.2.1) rfl (va_Nw.warmC C.2.2.2.2.2.2.2.1.1 (va_Nw.of rfl (C.2.2.2.2.2.2.1.2.1 _ w7)))) (by rw [g1]; exact hce) hcv hcl K1 T' rfl X'
      exact ⟨t2, st1.trans s1, s2⟩
end VT
/-- a contract, out of the walk of the body of a method that may throw -/
theorem CTX_of {l : Launch} {y : MethodName} {cc : ByteArray} {nL : Nat} {ret : Option FieldType} {F L : Nat} {α : Type} {rv : α → Option Value} {vs : List Value} {x : hM (α ⊕ Nat)} {ls : List (Nat × Value)} (hy : plainName y.cls = true) (hlen : (lg_sl vs).length ≤ nL) (hls : lv_args 0 vs = ls)
    (body : ∀ (X : hX) (h he : Hp) (v : α ⊕ Nat), X.2.1 = l → x.1 h = some (v, he) → Cx X y.cls cc nL ret he F L → HTX X → QEX X rv v he → X.2.2.2.2.2.2.2.2.1.name = y.name → X.2.2.2.2.2.2.2.2.2.2.2.2 = h → V X h 0 ls []) : CTX l y cc nL ret F L rv vs x := by
  intro G hG h he v hx
  refine vx_ofW (cc := cc) (maxL := nL) (ret := ret) hy rfl ?_
  intro p e s m args below meth c s₁ B hml htab hv
  obtain ⟨rfl, hWd⟩ := hv
  have hts := atoms_spec (ws := ws_ y cc nL ret) B.pre
  have hts : ∀ w ∈ lw_all, w.before _ s = true := fun w h => hts w (List.mem_cons_of_mem _ h)
  have hown : s.vm.findClass y.cls = some m.cls := findClass_of_methodNamed B.named
  have hin : meth.name = y.name := (name_of_methodNamed B.named B.method).1
  have hl := lv_entry vs (n := nL) hlen
  rw [lg_entry_eq]
  rw [hls] at hl
  have hle0 := x.2 _ _ _ hx
  have K := body (p, l, e, ({ frames := F, cells := he.2.1 - h.2.1, slots := he.2.2.1 - h.2.2.1, locals := L } : Room), s, m, vs.toArray, below, meth, c, G, vx_MQ below (QcO G rv v h he) (XcO G v h he) vs.toArray s (he.2.1 - h.2.1) (he.2.2.1 - h.2.2.1) (fun q => h.2.2.2.1 ≤ q), h) h he v rfl hx
    ⟨B.exec, B.bytes, hml, B.returns, B.notSynchronized, hown, hG, hWd, hts, rfl⟩ htab rfl hin rfl
  have K2 := K s.heap [] _ hWd.2.2.1 (hle.rf h) hWd.2.2.2.2.2.2 (fun _ _ => rfl) (fun x hx => by cases hx) (by show lv_has _ c.maxLocals ls; rw [hml]; exact hl)
  refine W.cs ?_ ?_ K2
  · show 0 = h.2.1 - h.2.1; omega
  · show 0 = h.2.2.1 - h.2.2.1; omega
/-- THE CONTRACT of a method with handlers that throws nothing -/
def CTW (l : Launch) (y : MethodName) (cc : ByteArray) (nL : Nat) (ret : Option FieldType) (hh : List (Nat × Nat × Nat × Nat)) (F L : Nat) {α : Type} (rv : α → Option Value) (vs : List Value) (x : hM α) : Prop :=
  ∀ (G : hG), okG l G → ∀ (h h' : Hp) (v : α), x.1 h = some (v, h') → Met l y (wsW_ y cc nL ret hh) ({ frames := F, cells := h'.2.1 - h.2.1, slots := h'.2.2.1 - h.2.2.1, locals := L }) (va_Pc vs (Wd G h)) (Qd G (rv v) h h') (h'.2.1 - h.2.1) (h'.2.2.1 - h.2.2.1) (fun q => h.2.2.2.1 ≤ q)
theorem CTW_of {l : Launch} {y : MethodName} {cc : ByteArray} {nL : Nat} {ret : Option FieldType} {hh : List (Nat × Nat × Nat × Nat)} {F L : Nat} {α : Type} {rv : α → Option Value} {vs : List Value} {x : hM α} {ls : List (Nat × Value)} (hy : plainName y.cls = true) (hlen : (lg_sl vs).length ≤ nL) (hls : lv_args 0 vs = ls)
    (body : ∀ (X : hX) (h he : Hp) (v : α), X.2.1 = l → x.1 h = some (v, he) → Cx X y.cls cc nL ret he F L → X.2.2.2.2.2.2.2.2.2.1.exceptionTable.toList = tableOf hh → QE X (rv v) he → X.2.2.2.2.2.2.2.2.1.name = y.name → X.2.2.2.2.2.2.2.2.2.2.2.2 = h → V X h 0 ls []) : CTW l y cc nL ret hh F L rv vs x := by
  intro G hG h he v hx
  refine MetFree.of_bodyS (code := cc) (maxLocals := nL) (ret := ret) hy ?_ ?_
  · intro args s m h hn
    obtain ⟨m9, meth, c, hn9, h1, h2, h3, h4, -, h5, h6, -⟩ := Cond.codeWith_spec (atoms_spec (ws := wsW_ y cc nL ret hh) h _ List.mem_cons_self)
    cases hn.symm.trans hn9
    exact ⟨meth, c, h1, h2, h3, h4, h5, h6⟩
  · intro p e s m args below meth c s₁ B hml hv _
    have hh0 : s₁.heap = s.heap := by rw [B.state]; rfl
    obtain ⟨rfl, hWd⟩ := hv
    have hts0 := atoms_spec (ws := wsW_ y cc nL ret hh) B.pre
    have hts : ∀ w ∈ lw_all, w.before _ s = true := fun w h => hts0 w (List.mem_cons_of_mem _ h)
    have htab := vx_table (x := y) B (hts0 _ List.mem_cons_self)
    have hown : s.vm.findClass y.cls = some m.cls := findClass_of_methodNamed B.named
    have hin : meth.name = y.name := (name_of_methodNamed B.named B.method).1
    have hl := lv_entry vs (n := nL) hlen
    rw [hls] at hl
    have hle0 := x.2 _ _ _ hx
    have K := body (p, l, e, ({ frames := F, cells := he.2.1 - h.2.1, slots := he.2.2.1 - h.2.2.1, locals := L } : Room), s, m, vs.toArray, below, meth, c, G, MQ below (Qd G (rv v) h he) vs.toArray s (he.2.1 - h.2.1) (he.2.2.1 - h.2.2.1) (fun q => h.2.2.2.1 ≤ q), h) h he v rfl hx
      ⟨B.exec, B.bytes, hml, B.returns, B.notSynchronized, hown, hG, hWd, hts, rfl⟩ htab rfl hin rfl
    have K2 := K s.heap [] _ hWd.2.2.1 (hle.rf h) hWd.2.2.2.2.2.2 (fun _ _ => rfl) (fun x hx => by cases hx) (by show lv_has _ c.maxLocals ls; rw [hml]; exact hl)
    have K3 := W.cs (show (0 : Nat) = h.2.1 - h.2.1 by omega) (show (0 : Nat) = h.2.2.1 - h.2.2.1 by omega) K2
    have hX := Stand.of_body B
    rw [← lg_entry_eq] at K3
    obtain ⟨t, a1, o, b1, b2, b3⟩ := K3 s₁ hh0 hX
    exact ⟨t, o, a1, b1, b2, ⟨b3.1, b3.2⟩⟩
theorem mth_ret {β γ : Type} {q : Nat} {h h1 he : Hp} {o : β ⊕ (γ ⊕ Nat)} {z : γ ⊕ Nat} (hf : (mb (mth q) (fun c => mret (Sum.inr c)) : hM (β ⊕ (γ ⊕ Nat))).1 h = some (o, h1)) (hret : ∀ c, o = Sum.inr c → (mret c).1 h1 = some (z, he)) : (mth q : hM (γ ⊕ Nat)).1 h = some (z, he) := by
  obtain ⟨y, h2, e1, e2, -⟩ := mb_inv hf (hle.rf h1)
  obtain ⟨rfl, rfl⟩ := mret_inv e2
  obtain ⟨rfl, rfl⟩ := mret_inv (hret y rfl)
  exact e1
abbrev mbT {β δ : Type} (j : Nat → δ) (x : hM (β ⊕ Nat)) (k : β → hM δ) : hM δ := mbt x k j
