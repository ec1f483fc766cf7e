set_option maxRecDepth 100000
/-! ===== what the machine throws by itself, caught in the same method ===== -/
def hgrow (h : Hp) (k n : Nat) : Hp := (h.1, h.2.1 + k, h.2.2.1 + n, h.2.2.2)
theorem hgrow_le (h : Hp) (k n : Nat) : hle h (hgrow h k n) := ⟨Nat.le_add_right _ _, Nat.le_add_right _ _, rfl, fun _ e q => ⟨e, q, rfl⟩⟩
/-- k cells and n slots of the machine's own -/
def mgr (k n : Nat) : hM Unit := ⟨fun h => some ((), hgrow h k n), fun h u h' e => by cases e; exact hgrow_le h k n⟩
theorem mgr_ev (k n : Nat) (h : Hp) : (mgr k n).1 h = some ((), hgrow h k n) := rfl
theorem mgr_inv {k n : Nat} {h h' : Hp} {u : Unit} (e : (mgr k n).1 h = some (u, h')) : h' = hgrow h k n := by cases e; rfl
theorem wP.grow {G : hG} {h : Hp} {k n : Nat} {H H1 : Heap} (hP : wP G h.1 H) (oq : ∀ q : Nat, q < H.size → H1[q]? = H[q]?) : wP G (hgrow h k n).1 H1 := fun x e1 h1 => by
  have h2 := hP x e1 h1
  exact h2.kept (oq x h2.lt)
theorem vxq_at {l : Launch} {G : hG} (hG : okG l G) {C n d : String} (w1 : Jvm.Cond.laysStatic C n d ∈ lw_tbl) (w2 : Jvm.Cond.initialized C ∈ lw_all) (w3 : Jvm.Cond.isRef (Jvm.Term.static C n d) ∈ nwG) : vx_Zq C n d (fun q => G.1.heap.size ≤ q) G.1 G.1.heap :=
  vx_Zqof (hG.2.1 _ w1) (hG.2.1 _ (lw_all_tbl w2)) (nw_at hG w3) (fun a h1 h2 => absurd h1 (Nat.not_lt.mpr h2))
theorem vxq_here {G : hG} {h : Hp} {s : State} (hW : Wd G h s) {C n d : String} (q : vx_Zq C n d (fun q => G.1.heap.size ≤ q) G.1 G.1.heap) : vx_Zq C n d (fun q => h.2.2.2.1 ≤ q) s s.heap := by
  rw [hW.2.2.2.1]
  exact (vx_Zq.moved hW.1.alike q).kept (fun a h1 _ => hW.2.1 a (by rw [hW.2.2.2.1]; exact h1))
section VN
variable {X : hX} {own : String} {cc : ByteArray} {nL : Nat} {ret : Option FieldType} {he : Hp} {F L : Nat} {h hr : Hp} {pc : Nat} {ls ls' : List (Nat × Value)} {st : List Value} {α β : Type} {v : α}
def exB (w : Cond) : Bool := match w with
  | .declares _ => true
  | .castable _ _ => true
  | _ => false
def exL (ws : List Cond) : Bool := ws.all fun w => decide (w ∈ lw_all) || (exB w && decide (w ∈ lw_tbl))
theorem exL_at (C : Cx X own cc nL ret he F L) {ws : List Cond} (hw : exL ws = true) : ∀ w ∈ ws, w.before X.2.2.2.2.2.2.1 X.2.2.2.2.1 = true := by
  intro w hm
  have h1 := List.all_eq_true.mp hw w hm
  rcases (Bool.or_eq_true _ _).mp h1 with q | q
  · exact C.2.2.2.2.2.2.2.2.1 _ (of_decide_eq_true q)
  · obtain ⟨q, q2⟩ := (Bool.and_eq_true _ _).mp q
    have q2 := of_decide_eq_true q2
    unfold exB at q
    split at q
    · exact va_Nw.use (A := X.2.2.2.2.2.2.1) rfl (va_Nw.warmD C.2.2.2.2.2.2.2.1.1 (va_Nw.of rfl (C.2.2.2.2.2.2.1.2.1 _ q2)))
    · exact va_Nw.use (A := X.2.2.2.2.2.2.1) rfl (va_Nw.warmC C.2.2.2.2.2.2.2.1.1 (va_Nw.of rfl (C.2.2.2.2.2.2.1.2.1 _ q2)))
    · cases q
/-- the table's row that takes the exception: the rows ahead don't -/
def exC (X : hX) (own : String) (cls : String) (pc tgt : Nat) : Prop := ∃ (pre : List ExceptionTableEntry) (x0 : ExceptionTableEntry) (suf : List ExceptionTableEntry) (name : String), X.2.2.2.2.2.2.2.2.2.1.exceptionTable.toList = pre ++ x0 :: suf ∧ x0.handlerPc = tgt ∧ covers x0 pc = true ∧ x0.catchType ≠ 0 ∧ (Cond.classLink own x0.catchType name).before X.2.2.2.2.2.2.1 X.2.2.2.2.1 = true ∧ (Cond.castable cls name).before X.2.2.2.2.2.2.1 X.2.2.2.2.1 = true ∧
  ∀ z ∈ pre, covers z pc = false ∨ (z.catchType ≠ 0 ∧ ∃ nm : String, (Cond.classLink own z.catchType nm).before X.2.2.2.2.2.2.1 X.2.2.2.2.1 = true ∧ va_Nc cls nm X.2.2.2.2.1)
theorem v_caught (C : Cx X own cc nL ret he F L) {cls : String} {tgt k n : Nat} {H H1 : Heap} {locs : List Loc} {la : Array Slot} {ce : Cell} {q9 : Addr} {rest : List Value} (hE : exC X own cls pc tgt)
    (q1 : H.size = h.2.1) (q2 : hle X.2.2.2.2.2.2.2.2.2.2.2.2 h) (q3 : wP X.2.2.2.2.2.2.2.2.2.2.1 h.1 H) (q4 : ∀ q, q < X.2.2.2.2.2.2.2.2.2.2.2.2.2.2.2.1 → H[q]? = X.2.2.2.2.1.heap[q]?) (q5 : ∀ x ∈ locs, X.2.2.2.2.2.2.2.2.2.2.2.2.2.2.2.1 ≤ x.base) (q6 : lv_has la X.2.2.2.2.2.2.2.2.2.1.maxLocals ls)
    (e1 : H1.size = H.size + k) (e2 : ∀ q : Nat, q < H.size → H1[q]? = H[q]?) (e3 : H1[q9]? = some ce) (e4 : ce.vm = .none) (e5 : X.2.2.2.2.1.vm.findClass cls = some ce.cls)
    (kk : ∀ q : Nat, V X (hgrow h k n) tgt ls [.ref q]) :
    vx_W X.1 X.2.1 X.2.2.1 X.2.2.2.1 X.2.2.2.2.1 X.2.2.2.2.2.1 X.2.2.2.2.2.2.1 X.2.2.2.2.2.2.2.1 X.2.2.2.2.2.2.2.2.1 X.2.2.2.2.2.2.2.2.2.1 H1 locs (h.2.1 - X.2.2.2.2.2.2.2.2.2.2.2.2.2.1 + k) (h.2.2.1 - X.2.2.2.2.2.2.2.2.2.2.2.2.2.2.1 + n) X.2.2.2.2.2.2.2.2.2.2.2.1 (F0 X.2.2.2.2.2.1 pc la rest) q9 := by
  obtain ⟨pre, x0, suf, name, t1, t2, t3, t4, t5, t6, t7⟩ := hE
  have hlo := C.2.2.2.2.2.2.2.1.2.2.2.2.1
  have hz := q2.1
  have a1 := q2.1; have a3 := q2.2.1
  have c1 : h.2.1 - X.2.2.2.2.2.2.2.2.2.2.2.2.2.1 + k = (hgrow h k n).2.1 - X.2.2.2.2.2.2.2.2.2.2.2.2.2.1 := by show _ = h.2.1 + k - _; omega
  have c2 : h.2.2.1 - X.2.2.2.2.2.2.2.2.2.2.2.2.2.2.1 + n = (hgrow h k n).2.2.1 - X.2.2.2.2.2.2.2.2.2.2.2.2.2.2.1 := by show _ = h.2.2.1 + n - _; omega
  rw [c1, c2]
  subst t2
  exact vx_catch C.2.2.2.2.2.1 pre x0 suf t1 t7 t3 t4 t5 t6 e3 e4 e5 (kk q9 H1 locs la (by rw [e1, q1]; rfl) (q2.tr (hgrow_le h k n)) (wP.grow q3 e2) (fun q hq => by rw [e2 q (by rw [q1]; omega)]; exact q4 q hq) q5 q6)
theorem va_S_here (C : Cx X own cc nL ret he F L) {H : Heap} {locs : List Loc} (q1 : H.size = h.2.1) (q2 : hle X.2.2.2.2.2.2.2.2.2.2.2.2 h) (q4 : ∀ q, q < X.2.2.2.2.2.2.2.2.2.2.2.2.2.2.2.1 → H[q]? = X.2.2.2.2.1.heap[q]?) (q5 : ∀ x ∈ locs, X.2.2.2.2.2.2.2.2.2.2.2.2.2.2.2.1 ≤ x.base) : va_S (fun q => X.2.2.2.2.2.2.2.2.2.2.2.2.2.2.2.1 ≤ q) X.2.2.2.2.1.heap H locs :=
  ⟨by rw [C.2.2.2.2.2.2.2.1.2.2.1, q1]; exact q2.1, fun q h1 h2 => q4 q (Nat.lt_of_not_le h2), q5⟩
/-- the machine's note of a message's exception, caught here -/
theorem v_note (C : Cx X own cc nL ret he F L) {cls text : String} {names : List String} {nb tgt : Nat} {rest : List Value} (hcls : Bundle.fit cls = true) (hnames : ∀ n ∈ names, Bundle.fit n = true) (hsoe : (cls == "java/lang/StackOverflowError") = false) (hoom : (cls == "java/lang/OutOfMemoryError") = false)
    (hat : exL (vx_atM cls names) = true) (hgood : ∀ w ∈ vx_atM cls names, vx_ot w = true)
    (zU : vx_Zq Bundle.tN "UNASSIGNED_STACK" Bundle.steD (fun q => X.2.2.2.2.2.2.2.2.2.2.1.1.heap.size ≤ q) X.2.2.2.2.2.2.2.2.2.2.1.1 X.2.2.2.2.2.2.2.2.2.2.1.1.heap) (zN : vx_Zq Bundle.tN "SUPPRESSED_SENTINEL" Bundle.listD (fun q => X.2.2.2.2.2.2.2.2.2.2.1.1.heap.size ≤ q) X.2.2.2.2.2.2.2.2.2.2.1.1 X.2.2.2.2.2.2.2.2.2.2.1.1.heap)
    (htext : (text == notModelled) = false) (hnb : (stringBytes (stringToUtf16 text)).size ≤ nb) (hnb1 : nb ≤ 1000) (hF : names.length + 4 < F) (hL : (rest.map fun v => v.category).sum + 10240 ≤ L) (hshort : 13 * names.length + 55 ≤ 10240) (hE : exC X own cls pc tgt)
    (hl : hle (hgrow h 3 (nb + 10)) he) {H : Heap} {locs : List Loc} {la : Array Slot}
    (q1 : H.size = h.2.1) (q2 : hle X.2.2.2.2.2.2.2.2.2.2.2.2 h) (q3 : wP X.2.2.2.2.2.2.2.2.2.2.1 h.1 H) (q4 : ∀ q, q < X.2.2.2.2.2.2.2.2.2.2.2.2.2.2.2.1 → H[q]? = X.2.2.2.2.1.heap[q]?) (q5 : ∀ x ∈ locs, X.2.2.2.2.2.2.2.2.2.2.2.2.2.2.2.1 ≤ x.base) (q6 : lv_has la X.2.2.2.2.2.2.2.2.2.1.maxLocals ls)
    (kk : ∀ q : Nat, V X (hgrow h 3 (nb + 10)) tgt ls [.ref q]) :
    vx_Note X.1 X.2.1 X.2.2.1 X.2.2.2.1 X.2.2.2.2.1 X.2.2.2.2.2.1 X.2.2.2.2.2.2.1 X.2.2.2.2.2.2.2.1 X.2.2.2.2.2.2.2.2.1 X.2.2.2.2.2.2.2.2.2.1 H locs (h.2.1 - X.2.2.2.2.2.2.2.2.2.2.2.2.2.1) (h.2.2.1 - X.2.2.2.2.2.2.2.2.2.2.2.2.2.2.1) X.2.2.2.2.2.2.2.2.2.2.2.1 (F0 X.2.2.2.2.2.1 pc la rest) cls text := by
  have hlt : X.2.1.stackTraces = false := by
    have := C.2.2.2.2.2.2.1.1
    simp [Launch.stackTraces, this, flags0]
  have b1 : h.2.1 + 3 ≤ he.2.1 := hl.1
  have b2 : h.2.2.1 + (nb + 10) ≤ he.2.2.1 := hl.2.1
  have a1 := q2.1; have a3 := q2.2.1
  exact vx_vm C.1 hlt hcls hnames hsoe hoom (exL_at C hat) hgood (vxq_here C.2.2.2.2.2.2.2.1 zU) (vxq_here C.2.2.2.2.2.2.2.1 zN) (va_S_here C q1 q2 q4 q5) q6.1 htext hnb hnb1 (by rw [C.2.2.2.2.2.2.2.2.2]; exact hF) (by rw [C.2.2.2.2.2.2.2.2.2]; exact hL) hshort (by rw [C.2.2.2.2.2.2.2.2.2]; show _ ≤ he.2.1 - _; omega) (by rw [C.2.2.2.2.2.2.2.2.2]; show _ ≤ he.2.2.1 - _; omega) C.2.2.2.2.1
    (fun H1 q9 ce e1 e2 _ e3 e4 e5 => v_caught C hE q1 q2 q3 q4 q5 q6 e1 e2 e3 e4 e5 kk)
/-- .. of a NullPointerException -/
theorem v_noteN (C : Cx X own cc nL ret he F L) {nb tgt : Nat} {rest : List Value}
    (hat : exL (vx_atN nb) = true) (hgood : ∀ w ∈ vx_atN nb, vx_ot w = true)
    (zU : vx_Zq Bundle.tN "UNASSIGNED_STACK" Bundle.steD (fun q => X.2.2.2.2.2.2.2.2.2.2.1.1.heap.size ≤ q) X.2.2.2.2.2.2.2.2.2.2.1.1 X.2.2.2.2.2.2.2.2.2.2.1.1.heap) (zN : vx_Zq Bundle.tN "SUPPRESSED_SENTINEL" Bundle.listD (fun q => X.2.2.2.2.2.2.2.2.2.2.1.1.heap.size ≤ q) X.2.2.2.2.2.2.2.2.2.2.1.1 X.2.2.2.2.2.2.2.2.2.2.1.1.heap)
    (hF : 7 < F) (hL : (rest.map fun v => v.category).sum + 10240 ≤ L) (hE : exC X own "java/lang/NullPointerException" pc tgt)
    (hl : hle (hgrow h 1 nb) he) {H : Heap} {locs : List Loc} {la : Array Slot}
    (q1 : H.size = h.2.1) (q2 : hle X.2.2.2.2.2.2.2.2.2.2.2.2 h) (q3 : wP X.2.2.2.2.2.2.2.2.2.2.1 h.1 H) (q4 : ∀ q, q < X.2.2.2.2.2.2.2.2.2.2.2.2.2.2.2.1 → H[q]? = X.2.2.2.2.1.heap[q]?) (q5 : ∀ x ∈ locs, X.2.2.2.2.2.2.2.2.2.2.2.2.2.2.2.1 ≤ x.base) (q6 : lv_has la X.2.2.2.2.2.2.2.2.2.1.maxLocals ls)
    (kk : ∀ q : Nat, V X (hgrow h 1 nb) tgt ls [.ref q]) :
    vx_NoteN X.1 X.2.1 X.2.2.1 X.2.2.2.1 X.2.2.2.2.1 X.2.2.2.2.2.1 X.2.2.2.2.2.2.1 X.2.2.2.2.2.2.2.1 X.2.2.2.2.2.2.2.2.1 X.2.2.2.2.2.2.2.2.2.1 H locs (h.2.1 - X.2.2.2.2.2.2.2.2.2.2.2.2.2.1) (h.2.2.1 - X.2.2.2.2.2.2.2.2.2.2.2.2.2.2.1) X.2.2.2.2.2.2.2.2.2.2.2.1 (F0 X.2.2.2.2.2.1 pc la rest) := by
  have hlt : X.2.1.stackTraces = false := by
    have := C.2.2.2.2.2.2.1.1
    simp [Launch.stackTraces, this, flags0]
  have b1 : h.2.1 + 1 ≤ he.2.1 := hl.1
  have b2 : h.2.2.1 + nb ≤ he.2.2.1 := hl.2.1
  have a1 := q2.1; have a3 := q2.2.1
  exact vx_npe C.1 hlt (exL_at C hat) hgood (vxq_here C.2.2.2.2.2.2.2.1 zU) (vxq_here C.2.2.2.2.2.2.2.1 zN) (va_S_here C q1 q2 q4 q5) q6.1 (by rw [C.2.2.2.2.2.2.2.2.2]; exact hF) (by rw [C.2.2.2.2.2.2.2.2.2]; exact hL) (by rw [C.2.2.2.2.2.2.2.2.2]; show _ ≤ he.2.1 - _; omega) (by rw [C.2.2.2.2.2.2.2.2.2]; show _ ≤ he.2.2.1 - _; omega) C.2.2.2.2.1
    (fun H1 q9 ce e1 e2 _ e3 e4 e5 => v_caught C hE q1 q2 q3 q4 q5 q6 e1 e2 e3 e4 e5 kk)
end VN
theorem exW_nas : exL (vx_atM "java/lang/NegativeArraySizeException" ["java/lang/RuntimeException", "java/lang/Exception"]) = true := by decide +kernel
theorem exO_nas : ∀ w ∈ vx_atM "java/lang/NegativeArraySizeException" ["java/lang/RuntimeException", "java/lang/Exception"], vx_ot w = true := by decide +kernel
theorem exW_aio : exL (vx_atM "java/lang/ArrayIndexOutOfBoundsException" ["java/lang/IndexOutOfBoundsException", "java/lang/RuntimeException", "java/lang/Exception"]) = true := by decide +kernel
theorem exO_aio : ∀ w ∈ vx_atM "java/lang/ArrayIndexOutOfBoundsException" ["java/lang/IndexOutOfBoundsException", "java/lang/RuntimeException", "java/lang/Exception"], vx_ot w = true := by decide +kernel
theorem exW_cce : exL (vx_atM "java/lang/ClassCastException" ["java/lang/RuntimeException", "java/lang/Exception"]) = true := by decide +kernel
theorem exO_cce : ∀ w ∈ vx_atM "java/lang/ClassCastException" ["java/lang/RuntimeException", "java/lang/Exception"], vx_ot w = true := by decide +kernel
theorem exW_ase : exL (vx_atM "java/lang/ArrayStoreException" ["java/lang/RuntimeException", "java/lang/Exception"]) = true := by decide +kernel
theorem exO_ase : ∀ w ∈ vx_atM "java/lang/ArrayStoreException" ["java/lang/RuntimeException", "java/lang/Exception"], vx_ot w = true := by decide +kernel
theorem exW_npe : exL (vx_atN 8) = true := by decide +kernel
theorem exO_npe : ∀ w ∈ vx_atN 8, vx_ot w = true := by decide +kernel
