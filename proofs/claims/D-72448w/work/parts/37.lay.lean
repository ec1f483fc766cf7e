set_option maxRecDepth 100000
/-! ===== a method that lets out what the machine throws: .inr 0 null, .inr 1 a cast, .inr 2 an index ===== -/
def exN (e : Nat) : String := match e with
  | 0 => "java/lang/NullPointerException"
  | 1 => "java/lang/ClassCastException"
  | _ => "java/lang/ArrayIndexOutOfBoundsException"
def XcE {α : Type} (G : hG) (o : α ⊕ Nat) (h he : Hp) : String → Addr → State → State → Prop := match o with
  | .inl _ => fun _ _ _ _ => False
  | .inr e => fun E _ st t => E = exN e ∧ t.heap.size = he.2.1 ∧ wP G he.1 t.heap ∧ ∀ a, a < h.2.2.2.1 → t.heap[a]? = st.heap[a]?
/-- THE CONTRACT of a method that may throw of the machine -/
def CTE (l : Launch) (y : MethodName) (cc : ByteArray) (nL : Nat) (ret : Option FieldType) (F L : Nat) {α : Type} (rv : α → Option Value) (vs : List Value) (x : hM (α ⊕ Nat)) : Prop :=
  ∀ (G : hG), okG l G → ∀ (h h' : Hp) (v : α ⊕ Nat), x.1 h = some (v, h') → vx_Met l y (ws_ y cc nL ret) ({ frames := F, cells := h'.2.1 - h.2.1, slots := h'.2.2.1 - h.2.2.1, locals := L }) (va_Pc vs (Wd G h)) (QcO G rv v h h') (XcE G v h h') (h'.2.1 - h.2.1) (h'.2.2.1 - h.2.2.1) (fun q => h.2.2.2.1 ≤ q)
abbrev QEE {α : Type} (X : hX) (rv : α → Option Value) (o : α ⊕ Nat) (he : Hp) : Prop := X.2.2.2.2.2.2.2.2.2.2.2.1 = vx_MQ X.2.2.2.2.2.2.2.1 (QcO X.2.2.2.2.2.2.2.2.2.2.1 rv o X.2.2.2.2.2.2.2.2.2.2.2.2 he) (XcE X.2.2.2.2.2.2.2.2.2.2.1 o X.2.2.2.2.2.2.2.2.2.2.2.2 he) X.2.2.2.2.2.2.1 X.2.2.2.2.1 (he.2.1 - X.2.2.2.2.2.2.2.2.2.2.2.2.2.1) (he.2.2.1 - X.2.2.2.2.2.2.2.2.2.2.2.2.2.2.1) (fun q => X.2.2.2.2.2.2.2.2.2.2.2.2.2.2.2.1 ≤ q)
/-- the row of a sheet, of a kind of array of ours -/
def makd (r : Nat) : hM Nat := mrd fun h => match h.1 r with
  | some (.inl (k, _)) => if k = 0 ∨ k = 1 ∨ k = 4 ∨ k = 5 then some k else none
  | _ => none
def mbI (kd r : Nat) : hM Nat := mrd fun h => match h.1 r with
  | some (.inl (k, n, .inl _)) => if k = kd ∧ n ≤ 65536 then some n else none
  | _ => none
def mbL (kd r : Nat) : hM Nat := mrd fun h => match h.1 r with
  | some (.inl (k, n, .inr (.inl _))) => if k = kd ∧ n ≤ 65536 then some n else none
  | _ => none
def fLay (kd : Nat) (len : Nat → Nat → hM Nat) (a0 : Nat) (i : Int32) (st : Nat → hM Unit) : hM (Unit ⊕ Nat) := mb (gQ a0 10 0) fun q => match q with
  | none => mb (mgr 1 8) fun _ => mret (Sum.inr 0)
  | some r => mb (makd r) fun k => mi (k = kd) (mb (len kd r) fun n => mi (i < 0 ∨ n ≤ i.toNatClampNeg) (mb (mgr 3 222) fun _ => mret (Sum.inr 2)) (mb (st r) fun _ => mret (Sum.inl ()))) (mb (mgr 3 1010) fun _ => mret (Sum.inr 1))
def f_lay (a0 : Nat) (i1 i2 : Int32) (l3 : Int64) : hM (Unit ⊕ Nat) :=
  mi (i1 = 0) (fLay 0 mbI a0 i2 fun r => sI 0 r i2 l3.toInt32.toInt8.toInt32) (mi (i1 = 1) (fLay 4 mbI a0 i2 fun r => sI 4 r i2 l3.toInt32.toInt16.toInt32) (mi (i1 = 2) (fLay 1 mbI a0 i2 fun r => sI 1 r i2 l3.toInt32) (fLay 5 mbL a0 i2 fun r => sL 5 r i2 l3)))
theorem makd_inv {r k : Nat} {h h' : Hp} (e : (makd r).1 h = some (k, h')) : h' = h ∧ kd4 k ∧ ∃ x, h.1 r = some (.inl (k, x)) := by
  obtain ⟨e1, rfl⟩ := mrd_inv e
  refine ⟨rfl, ?_⟩
  split at e1
  · rename_i k2 x hh
    by_cases hc : k2 = 0 ∨ k2 = 1 ∨ k2 = 4 ∨ k2 = 5
    · rw [if_pos hc] at e1
      cases e1
      exact ⟨hc, x, hh⟩
    · rw [if_neg hc] at e1; cases e1
  · cases e1
theorem mbI_inv {kd r n : Nat} {h h' : Hp} (e : (mbI kd r).1 h = some (n, h')) : h' = h ∧ n < 2 ^ 31 ∧ ∃ f, h.1 r = some (.inl (kd, n, .inl f)) := by
  obtain ⟨e1, rfl⟩ := mrd_inv e
  refine ⟨rfl, ?_⟩
  split at e1
  · rename_i k2 n2 f hh
    by_cases hc : k2 = kd ∧ n2 ≤ 65536
    · rw [if_pos hc] at e1
      cases e1
      obtain ⟨rfl, hc⟩ := hc
      exact ⟨by omega, f, hh⟩
    · rw [if_neg hc] at e1; cases e1
  · cases e1
theorem mbL_inv {kd r n : Nat} {h h' : Hp} (e : (mbL kd r).1 h = some (n, h')) : h' = h ∧ n < 2 ^ 31 ∧ ∃ f, h.1 r = some (.inl (kd, n, .inr (.inl f))) := by
  obtain ⟨e1, rfl⟩ := mrd_inv e
  refine ⟨rfl, ?_⟩
  split at e1
  · rename_i k2 n2 f hh
    by_cases hc : k2 = kd ∧ n2 ≤ 65536
    · rw [if_pos hc] at e1
      cases e1
      obtain ⟨rfl, hc⟩ := hc
      exact ⟨by omega, f, hh⟩
    · rw [if_neg hc] at e1; cases e1
  · cases e1
section VLY
variable {X : hX} {own : String} {cc : ByteArray} {nL : Nat} {he : Hp} {F L : Nat} {h hr : Hp} {pc : Nat} {ls : List (Nat × Value)} {st : List Value}
theorem v_vretE {z : Unit ⊕ Nat} (C : Cx X own cc nL none he F L) (E : QEE X rv0 z he) {x : Unit} (hf : (mret (Sum.inl x)).1 h = some (z, he)) (d : decode cc pc = .ok (.return_, 1)) : V X h pc ls [] := by
  obtain ⟨rfl, rfl⟩ := mret_inv hf
  intro H locs la q1 q2 q3 q4 q5 q6
  rw [E]
  exact vx_ret (W.vret C.1 C.2.1 C.2.2.2.1 (fun t ht hW => ⟨rfl, by rw [ht]; exact q1, by rw [ht]; exact q3, fun q hq => by rw [ht]; exact q4 q hq⟩) q5 d C.2.2.2.2.1)
variable {ret : Option FieldType} {α : Type} {rv : α → Option Value} {z : α ⊕ Nat}
/-- the machine's note, uncaught -/
theorem v_noteE (C : Cx X own cc nL ret he F L) (HT : HTX X) (E : QEE X rv z he) {e : Nat} {cls text : String} {names : List String} {nb : Nat} {rest : List Value} (hN : exN e = cls) (hcls : Bundle.fit cls = true) (hnames : ∀ n ∈ names, Bundle.fit n = true) (hsoe : (cls == "java/lang/StackOverflowError") = false) (hoom : (cls == "java/lang/OutOfMemoryError") = false)
    (hat : exL (vx_atM cls names) = true) (hgood : ∀ w ∈ vx_atM cls names, vx_ot w = true)
    (htext : (text == notModelled) = false) (hnb : (stringBytes (stringToUtf16 text)).size ≤ nb) (hnb1 : nb ≤ 1000) (hF : names.length + 4 < F) (hL : (rest.map fun v => v.category).sum + 10240 ≤ L) (hshort : 13 * names.length + 55 ≤ 10240)
    (hf : (mb (mgr 3 (nb + 10)) fun _ => mret (Sum.inr e)).1 h = some (z, he)) {H : Heap} {locs : List Loc} {la : Array Slot}
    (q1 : H.size = h.2.1) (q2 : hle X.2.2.2.2.2.2.2.2.2.2.2.2 h) (q3 : wP X.2.2.2.2.2.2.2.2.2.2.1 h.1 H) (q4 : ∀ q, q < X.2.2.2.2.2.2.2.2.2.2.2.2.2.2.2.1 → H[q]? = X.2.2.2.2.1.heap[q]?) (q5 : ∀ x ∈ locs, X.2.2.2.2.2.2.2.2.2.2.2.2.2.2.2.1 ≤ x.base) (q6 : lv_has la X.2.2.2.2.2.2.2.2.2.1.maxLocals ls) :
    vx_Note X.1 X.2.1 X.2.2.1 X.2.2.2.1 X.2.2.2.2.1 X.2.2.2.2.2.1 X.2.2.2.2.2.2.1 X.2.2.2.2.2.2.2.1 X.2.2.2.2.2.2.2.2.1 X.2.2.2.2.2.2.2.2.2.1 H locs (h.2.1 - X.2.2.2.2.2.2.2.2.2.2.2.2.2.1) (h.2.2.1 - X.2.2.2.2.2.2.2.2.2.2.2.2.2.2.1) X.2.2.2.2.2.2.2.2.2.2.2.1 (F0 X.2.2.2.2.2.1 pc la rest) cls text := by
  obtain ⟨u, h1, e1, e2, -⟩ := mb_inv hf (hle.rf he)
  cases mgr_inv e1
  obtain ⟨rfl, rfl⟩ := mret_inv e2
  have hlt : X.2.1.stackTraces = false := by
    have := C.2.2.2.2.2.2.1.1
    simp [Launch.stackTraces, this, flags0]
  have a1 := q2.1; have a3 := q2.2.1
  have hlo := C.2.2.2.2.2.2.2.1.2.2.2.2.1
  rw [E]
  exact vx_vm C.1 hlt hcls hnames hsoe hoom (exL_at C hat) hgood (vxq_here C.2.2.2.2.2.2.2.1 (zU_at C.2.2.2.2.2.2.1)) (vxq_here C.2.2.2.2.2.2.2.1 (zN_at C.2.2.2.2.2.2.1)) (va_S_here C q1 q2 q4 q5) q6.1 htext hnb hnb1 (by rw [C.2.2.2.2.2.2.2.2.2]; exact hF) (by rw [C.2.2.2.2.2.2.2.2.2]; exact hL) hshort (by rw [C.2.2.2.2.2.2.2.2.2]; show _ ≤ h.2.1 + 3 - _; omega) (by rw [C.2.2.2.2.2.2.2.2.2]; show _ ≤ h.2.2.1 + (nb + 10) - _; omega) C.2.2.2.2.1
    (fun H1 q9 ce e1 e2 _ e3 e4 e5 => vx_out (fun x hx => (HT x hx).elim) C.2.2.2.2.1 e3 e4 e5 (fun t ht hW => ⟨hN.symm, by rw [ht, e1, q1]; rfl, by rw [ht]; exact wP.grow q3 e2, fun a ha => by rw [ht, e2 a (by rw [q1]; omega)]; exact q4 a ha⟩) q5 (by show _ ≤ h.2.1 + 3 - _; omega) (by show _ ≤ h.2.2.1 + (nb + 10) - _; omega))
theorem v_noteNE (C : Cx X own cc nL ret he F L) (HT : HTX X) (E : QEE X rv z he) {rest : List Value} (hF : 7 < F) (hL : (rest.map fun v => v.category).sum + 10240 ≤ L)
    (hf : (mb (mgr 1 8) fun _ => mret (Sum.inr 0)).1 h = some (z, he)) {H : Heap} {locs : List Loc} {la : Array Slot}
    (q1 : H.size = h.2.1) (q2 : hle X.2.2.2.2.2.2.2.2.2.2.2.2 h) (q3 : wP X.2.2.2.2.2.2.2.2.2.2.1 h.1 H) (q4 : ∀ q, q < X.2.2.2.2.2.2.2.2.2.2.2.2.2.2.2.1 → H[q]? = X.2.2.2.2.1.heap[q]?) (q5 : ∀ x ∈ locs, X.2.2.2.2.2.2.2.2.2.2.2.2.2.2.2.1 ≤ x.base) (q6 : lv_has la X.2.2.2.2.2.2.2.2.2.1.maxLocals ls) :
    vx_NoteN X.1 X.2.1 X.2.2.1 X.2.2.2.1 X.2.2.2.2.1 X.2.2.2.2.2.1 X.2.2.2.2.2.2.1 X.2.2.2.2.2.2.2.1 X.2.2.2.2.2.2.2.2.1 X.2.2.2.2.2.2.2.2.2.1 H locs (h.2.1 - X.2.2.2.2.2.2.2.2.2.2.2.2.2.1) (h.2.2.1 - X.2.2.2.2.2.2.2.2.2.2.2.2.2.2.1) X.2.2.2.2.2.2.2.2.2.2.2.1 (F0 X.2.2.2.2.2.1 pc la rest) := by
  obtain ⟨u, h1, e1, e2, -⟩ := mb_inv hf (hle.rf he)
  cases mgr_inv e1
  obtain ⟨rfl, rfl⟩ := mret_inv e2
  have hlt : X.2.1.stackTraces = false := by
    have := C.2.2.2.2.2.2.1.1
    simp [Launch.stackTraces, this, flags0]
  have a1 := q2.1; have a3 := q2.2.1
  have hlo := C.2.2.2.2.2.2.2.1.2.2.2.2.1
  rw [E]
  exact vx_npe C.1 hlt (exL_at C exW_npe) exO_npe (vxq_here C.2.2.2.2.2.2.2.1 (zU_at C.2.2.2.2.2.2.1)) (vxq_here C.2.2.2.2.2.2.2.1 (zN_at C.2.2.2.2.2.2.1)) (va_S_here C q1 q2 q4 q5) q6.1 (by rw [C.2.2.2.2.2.2.2.2.2]; exact hF) (by rw [C.2.2.2.2.2.2.2.2.2]; exact hL) (by rw [C.2.2.2.2.2.2.2.2.2]; show _ ≤ h.2.1 + 1 - _; omega) (by rw [C.2.2.2.2.2.2.2.2.2]; show _ ≤ h.2.2.1 + 8 - _; omega) C.2.2.2.2.1
    (fun H1 q9 ce e1 e2 _ e3 e4 e5 => vx_out (fun x hx => (HT x hx).elim) C.2.2.2.2.1 e3 e4 e5 (fun t ht hW => ⟨rfl, by rw [ht, e1, q1]; rfl, by rw [ht]; exact wP.grow q3 e2, fun a ha => by rw [ht, e2 a (by rw [q1]; omega)]; exact q4 a ha⟩) q5 (by show _ ≤ h.2.1 + 1 - _; omega) (by show _ ≤ h.2.2.1 + 8 - _; omega))
theorem v_castNull (C : Cx X own cc nL ret he F L) {index : Nat} (d : decode cc pc = .ok (.checkcast index, 3)) (k : V X h (pc + 3) ls (.null :: st)) : V X h pc ls (va_rf none :: st) := fun H locs la q1 q2 q3 q4 q5 q6 =>
  lv_castN C.1 C.2.1 d (k H locs la q1 q2 q3 q4 q5 q6)
theorem v_castYes (C : Cx X own cc nL ret he F L) {kd a index : Nat} {x : vp_A} (hh : h.1 a = some (.inl (kd, x))) (hkd : kd4 kd) (q : Jvm.Cond.classLink own index (nmK kd) ∈ lw_all) (d : decode cc pc = .ok (.checkcast index, 3)) (kk : V X h (pc + 3) ls (.ref a :: st)) : V X h pc ls (va_rf (some a) :: st) := fun H locs la q1 q2 q3 q4 q5 q6 =>
  va_castE C.1 C.2.1 C.2.2.2.2.2.1 (C.2.2.2.2.2.2.2.2.1 _ q) ⟨_, q3 a _ hh, (arr_cls _ _).2, (fc_arr C.K hkd).trans (by rw [(arr_cls _ _).1])⟩ d (kk H locs la q1 q2 q3 q4 q5 q6)
theorem arr_kind (C : Cx X own cc nL ret he F L) {k : Nat} (hk : kd4 k) : ∃ (K : Class) (comp : ClassId) (ty : FieldType), X.2.2.2.2.1.vm.classes[X.2.2.2.2.2.2.2.2.2.2.1.2.2.2.2.1 k]? = some K ∧ K.kind = .array comp ty ∧ K.name = nmK k ∧ K.hidden = none ∧ K.loader = none := by
  have key : ∀ (ty : FieldType), Jvm.Cond.arrayClass ty ∈ lw_all → "[" ++ ty.toString = nmK k → ∃ (K : Class) (comp : ClassId) (ty : FieldType), X.2.2.2.2.1.vm.classes[X.2.2.2.2.2.2.2.2.2.2.1.2.2.2.2.1 k]? = some K ∧ K.kind = .array comp ty ∧ K.name = nmK k ∧ K.hidden = none ∧ K.loader = none := fun ty hw hn => by
    obtain ⟨c, K, comp, h1, h2, h3⟩ := Cond.arrayClass_spec (C.2.2.2.2.2.2.2.2.1 _ hw)
    rw [hn, fc_arr C.K hk] at h1
    cases h1
    obtain ⟨g1, g2, g3⟩ := find_kind (fc_arr C.K hk) h2
    exact ⟨K, comp, ty, h2, h3, g1, g2, g3⟩
  rcases hk with rfl | rfl | rfl | rfl
  · exact key .byte q256 (by decide)
  · exact key .int q234 (by decide)
  · exact key .short q1701 (by decide)
  · exact key .long q1702 (by decide)
theorem v_castNo (C : Cx X own cc nL ret he F L) (HT : HTX X) (E : QEE X rv z he) {kd k2 a index : Nat} {x : vp_A} (hh : h.1 a = some (.inl (k2, x))) (hk2 : kd4 k2) (hkd : kd4 kd) (hn : ¬ k2 = kd) (q : Jvm.Cond.classLink own index (nmK kd) ∈ lw_all) (d : decode cc pc = .ok (.checkcast index, 3)) (hF : 6 < F) (hL : (st.map fun v => v.category).sum + 10241 ≤ L)
    (hf : (mb (mgr 3 1010) fun _ => mret (Sum.inr 1)).1 h = some (z, he)) : V X h pc ls (va_rf (some a) :: st) := by
  intro H locs la q1 q2 q3 q4 q5 q6 T hT XX
  obtain ⟨K1, c1, t1, g1, g2, g3, g4, g5⟩ := arr_kind C hk2
  obtain ⟨K2, c2, t2, f1, f2, f3, f4, f5⟩ := arr_kind C hkd
  have hc : H[a]? = some (vp_cell (X.2.2.2.2.2.2.2.2.2.2.1.2.2.2.2.1 k2) x) := q3 a _ hh
  obtain ⟨cc1, cc2, n1, n2, n3⟩ := va_Nc.moved C.2.2.2.2.2.2.2.1.1.alike (nc_arr C.2.2.2.2.2.2.1 hk2 hkd hn)
  rw [fc_arr C.K hk2] at n1
  rw [fc_arr C.K hkd] at n2
  cases n1; cases n2
  obtain ⟨vm', ks', kt', X', ⟨s1, s2, s3, s4⟩, ⟨r1, r2, r3, r4⟩, stp⟩ := vw_castNo XX C.1 C.2.2.2.2.2.1 (C.2.2.2.2.2.2.2.2.1 _ q) (by rw [hT]; exact hc) (fun k hk => by have := (arr_cls (X.2.2.2.2.2.2.2.2.2.2.1.2.2.2.2.1 k2) x).2; rw [hk] at this; cases this) (by rw [(arr_cls _ _).1]; exact g1) (fc_arr C.K hkd) f1 (by rw [(arr_cls _ _).1]; exact n3) (g := F0 X.2.2.2.2.2.1 pc la (va_rf (some a) :: st)) rfl rfl (by rw [C.2.1]; exact d)
  obtain ⟨d1, d2, d3⟩ := dot4 hk2
  obtain ⟨d4, d5, d6⟩ := dot4 hkd
  have hm := cce_text (vm := vm') (ks := ks') (kt := kt') ((shown_of (s1.trans g3) (s3.trans g4)).trans d1) ((shown_of (r1.trans f3) (r3.trans f4)).trans d4) (prim_of (s2.trans g2) (s1.trans g3) d3) (s4.trans g5) (prim_of (r2.trans f2) (r1.trans f3) d6) (r4.trans f5) d2 d5
  obtain ⟨t, a1, b1⟩ := v_noteE (nb := 1000) (pc := pc) (rest := va_rf (some a) :: st) C HT E (e := 1) rfl (by decide) (by decide) (by decide) (by decide) exW_cce exO_cce hm.1 hm.2 (by decide) hF (by show 1 + (st.map fun v => v.category).sum + 10240 ≤ L; omega) (by decide) hf q1 q2 q3 q4 q5 q6 (T.setVm vm') hT X'
  exact ⟨t, stp t a1, b1⟩
end VLY
theorem CTE_of {l : Launch} {y : MethodName} {cc : ByteArray} {nL : Nat} {ret : Option FieldType} {F L : Nat} {α : Type} {rv : α → Option Value} {vs : List Value} {x : hM (α ⊕ Nat)} {ls : List (Nat × Value)} (hy : plainName y.cls = true) (hlen : (lg_sl vs).length ≤ nL) (hls : lv_args 0 vs = ls)
    (body : ∀ (X : hX) (h he : Hp) (v : α ⊕ Nat), X.2.1 = l → x.1 h = some (v, he) → Cx X y.cls cc nL ret he F L → HTX X → QEE X rv v he → X.2.2.2.2.2.2.2.2.1.name = y.name → X.2.2.2.2.2.2.2.2.2.2.2.2 = h → V X h 0 ls []) : CTE l y cc nL ret F L rv vs x := by
  intro G hG h he v hx
  refine vx_ofW (cc := cc) (maxL := nL) (ret := ret) hy rfl ?_
  intro p e s m args below meth c s₁ B hml htab hv
  obtain ⟨rfl, hWd⟩ := hv
  have hts := atoms_spec (ws := ws_ y cc nL ret) B.pre
  have hts : ∀ w ∈ lw_all, w.before _ s = true := fun w h => hts w (List.mem_cons_of_mem _ h)
  have hown : s.vm.findClass y.cls = some m.cls := findClass_of_methodNamed B.named
  have hin : meth.name = y.name := (name_of_methodNamed B.named B.method).1
  have hl := lv_entry vs (n := nL) hlen
  rw [lg_entry_eq]
  rw [hls] at hl
  have hle0 := x.2 _ _ _ hx
  have K := body (p, l, e, ({ frames := F, cells := he.2.1 - h.2.1, slots := he.2.2.1 - h.2.2.1, locals := L } : Room), s, m, vs.toArray, below, meth, c, G, vx_MQ below (QcO G rv v h he) (XcE G v h he) vs.toArray s (he.2.1 - h.2.1) (he.2.2.1 - h.2.2.1) (fun q => h.2.2.2.1 ≤ q), h) h he v rfl hx
    ⟨B.exec, B.bytes, hml, B.returns, B.notSynchronized, hown, hG, hWd, hts, rfl⟩ htab rfl hin rfl
  have K2 := K s.heap [] _ hWd.2.2.1 (hle.rf h) hWd.2.2.2.2.2.2 (fun _ _ => rfl) (fun x hx => by cases hx) (by show lv_has _ c.maxLocals ls; rw [hml]; exact hl)
  refine W.cs ?_ ?_ K2
  · show 0 = h.2.1 - h.2.1; omega
  · show 0 = h.2.2.1 - h.2.2.1; omega
