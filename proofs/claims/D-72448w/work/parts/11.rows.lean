/-! ===== the ghost: the start, the classes' numbers; the judgement ===== -/
set_option maxRecDepth 100000
def T0G : u_T := fun _ => ("", "", "", false)
/-- our classes, by number -/
def clG : List vw_C := [(RX0, TX0, 16), (RX1, TX1, 10), (RX2, TX2, 3), (RX3, TX3, 2), (RX4, TX4, 2), (RX5, TX5, 7), (RX6, TX6, 6), (RX7, T0G, 0), (RX8, TX8, 5), (RX9, TX9, 2), (RX10, TX10, 1), (RX13, T0G, 0), (RX14, T0G, 0), (RX15, T0G, 0), (RX16, T0G, 0), (RX17, TX17, 37), (RX20, T0G, 0), (RX21, TX21, 1), (RX22, TX22, 2), (RJ4, TJ4, 4), (RJ5, TJ5, 4)]
/-- the start; its arguments; classes, their fields' places, arrays' classes; constants -/
abbrev hG : Type := State × Array Value × (Nat → ClassId) × (Nat → Nat → Nat) × (Nat → ClassId) × (Nat → Nat)
def tyG (dA : Nat → ClassId) : List (ClassId × FieldType) := [(dA 0, .byte), (dA 1, .int), (dA 2, .boolean), (dA 3, .char), (dA 4, .short), (dA 5, .long), (dA 6, .object RX3), (dA 7, .object RX8), (dA 8, .object RX2), (dA 9, .object RX10), (dA 10, .object RJ5)]
def tyK (kd : Nat) : FieldType := match kd with
  | 0 => .byte
  | 1 => .int
  | 2 => .boolean
  | 3 => .char
  | 4 => .short
  | 5 => .long
  | 6 => .object RX3
  | 7 => .object RX8
  | 8 => .object RX2
  | 9 => .object RX10
  | _ => .object RJ5
def toE (dA : Nat → ClassId) (e : hE) : va_E := match e with
  | .inl (k, x) => .inl (dA k, x)
  | .inr o => .inr o
/-- the constants whose addresses the picture knows -/
def kTG : List Term := [.string "EightBlocks" 94, .string "EightBlocks" 96, .string "EightBlocks" 98, .string "EightBlocks" 100, .string "EightBlocks" 102, .string "EightBlocks$Way" 19, .string "EightBlocks$Way" 25, .string "EightBlocks$Way" 27, .string "EightBlocks$Way" 29, .string "EightBlocks$Way" 31, .string "EightBlocks$Move" 51, .string "EightBlocks$Move" 53, .string "EightBlocks$Move" 66, .string "EightBlocks$Move" 68, .static "java/lang/Integer" "DigitOnes" "[B", .static "java/lang/Integer" "DigitTens" "[B"]
def kQG : List Term := [.static "java/lang/Throwable" "UNASSIGNED_STACK" "[Ljava/lang/StackTraceElement;", .static "java/lang/Throwable" "SUPPRESSED_SENTINEL" "Ljava/util/List;"]
def dec0 (n : Nat) : Option Nat := match n with
  | 0 => none
  | a + 1 => some a
def okG (l : Launch) (G : hG) : Prop := l.flags = flags0 ∧ (∀ w ∈ lw_tbl, w.before G.2.1 G.1 = true) ∧ (Jvm.Cond.and given_1 narrow_1).before G.2.1 G.1 = true ∧ modulesRight_1 G.1 = true ∧ va_K (G.2.2.1, G.2.2.2.1) clG (tyG G.2.2.2.2.1) G.1 ∧ (∀ (k : Nat) (t : Term), kTG[k]? = some t → t.eval G.2.1 G.1 none [] G.1 = some (.ref (G.2.2.2.2.2 k))) ∧ (∀ (k : Nat) (t : Term), kQG[k]? = some t → t.eval G.2.1 G.1 none [] G.1 = some (va_rf (dec0 (G.2.2.2.2.2 (100 + k)))))
def wP (G : hG) (w : Nat → Option hE) (H : Heap) : Prop := ∀ a e, w a = some e → va_at (G.2.2.1, G.2.2.2.1) clG (a, toE G.2.2.2.2.1 e) H
/-- a state that holds the picture -/
def Wd (G : hG) (h : Hp) (U : State) : Prop := G.1.WarmedH U.vm ∧ (∀ q, q < h.2.2.2.1 → U.heap[q]? = G.1.heap[q]?) ∧ U.heap.size = h.2.1 ∧ h.2.2.2.1 = G.1.heap.size ∧ h.2.2.2.1 ≤ h.2.1 ∧ h.2.2.2.2 = G.2.2.2.2.2 ∧ wP G h.1 U.heap
/-- a method's end: its answer, the picture behind it; nothing ahead of the start has changed -/
def Qd (G : hG) (r : Option Value) (h h' : Hp) : Array Value → State → Outcome → State → Prop := fun _ st o t => o = .returned r ∧ t.heap.size = h'.2.1 ∧ wP G h'.1 t.heap ∧ ∀ q, q < h.2.2.2.1 → t.heap[q]? = st.heap[q]?
/-- THE CONTRACT of a method whose meaning is x -/
def CT (l : Launch) (y : MethodName) (cc : ByteArray) (nL : Nat) (ret : Option FieldType) (F L : Nat) {α : Type} (rv : α → Option Value) (vs : List Value) (x : hM α) : Prop :=
  ∀ (G : hG), okG l G → ∀ (h h' : Hp) (v : α), x.1 h = some (v, h') → Met l y (ws_ y cc nL ret) ({ frames := F, cells := h'.2.1 - h.2.1, slots := h'.2.2.1 - h.2.2.1, locals := L }) (va_Pc vs (Wd G h)) (Qd G (rv v) h h') (h'.2.1 - h.2.1) (h'.2.2.1 - h.2.2.1) (fun q => h.2.2.2.1 ≤ q)
def rv0 (_ : Unit) : Option Value := none
def rvI (x : Int32) : Option Value := some (.int x)
def rvL (x : Int64) : Option Value := some (.long x)
def rvR (x : Nat) : Option Value := some (.ref x)
def rvQ (x : Option Nat) : Option Value := some (va_rf x)
/-- all that a walk keeps: program, launch, room, first state, frame; ghost; end; the picture at the start -/
abbrev hX : Type := Program × Launch × Env × Room × State × MethodId × Array Value × List Frame × Method × Code × hG × (State → Prop) × Hp
def V (X : hX) (h : Hp) (pc : Nat) (ls : List (Nat × Value)) (st : List Value) : Prop :=
  ∀ (H : Heap) (locs : List Loc) (la : Array Slot), H.size = h.2.1 → hle X.2.2.2.2.2.2.2.2.2.2.2.2 h → wP X.2.2.2.2.2.2.2.2.2.2.1 h.1 H → (∀ q, q < X.2.2.2.2.2.2.2.2.2.2.2.2.2.2.2.1 → H[q]? = X.2.2.2.2.1.heap[q]?) → (∀ x ∈ locs, X.2.2.2.2.2.2.2.2.2.2.2.2.2.2.2.1 ≤ x.base) → lv_has la X.2.2.2.2.2.2.2.2.2.1.maxLocals ls →
    W X.1 X.2.1 X.2.2.1 X.2.2.2.1 X.2.2.2.2.1 X.2.2.2.2.2.1 X.2.2.2.2.2.2.1 X.2.2.2.2.2.2.2.1 X.2.2.2.2.2.2.2.2.1 X.2.2.2.2.2.2.2.2.2.1 H locs (h.2.1 - X.2.2.2.2.2.2.2.2.2.2.2.2.2.1) (h.2.2.1 - X.2.2.2.2.2.2.2.2.2.2.2.2.2.2.1) X.2.2.2.2.2.2.2.2.2.2.2.1 (F0 X.2.2.2.2.2.1 pc la st)
/-- what a walk knows: of the class 'own', the code cc with nL locals and answer ret; up to the picture he at the end; frames and words of room -/
def Cx (X : hX) (own : String) (cc : ByteArray) (nL : Nat) (ret : Option FieldType) (he : Hp) (F L : Nat) : Prop :=
  X.1.tables.exec = Jvm.exec ∧ X.2.2.2.2.2.2.2.2.2.1.code = cc ∧ X.2.2.2.2.2.2.2.2.2.1.maxLocals = nL ∧ X.2.2.2.2.2.2.2.2.1.sig.returnType = ret ∧ X.2.2.2.2.2.2.2.2.1.locks = false ∧ X.2.2.2.2.1.vm.findClass own = some X.2.2.2.2.2.1.cls ∧
  okG X.2.1 X.2.2.2.2.2.2.2.2.2.2.1 ∧ Wd X.2.2.2.2.2.2.2.2.2.2.1 X.2.2.2.2.2.2.2.2.2.2.2.2 X.2.2.2.2.1 ∧ (∀ w ∈ lw_all, w.before X.2.2.2.2.2.2.1 X.2.2.2.2.1 = true) ∧
  X.2.2.2.1 = ({ frames := F, cells := he.2.1 - X.2.2.2.2.2.2.2.2.2.2.2.2.2.1, slots := he.2.2.1 - X.2.2.2.2.2.2.2.2.2.2.2.2.2.2.1, locals := L } : Room)
theorem Cx.K {X : hX} {own : String} {cc : ByteArray} {nL : Nat} {ret : Option FieldType} {he : Hp} {F L : Nat} (C : Cx X own cc nL ret he F L) : va_K (X.2.2.2.2.2.2.2.2.2.2.1.2.2.1, X.2.2.2.2.2.2.2.2.2.2.1.2.2.2.1) clG (tyG X.2.2.2.2.2.2.2.2.2.2.1.2.2.2.2.1) X.2.2.2.2.1 := va_K.moved C.2.2.2.2.2.2.2.1.1.alike C.2.2.2.2.2.2.1.2.2.2.2.1
theorem FrameBlind_Wd {vs : List Value} {G : hG} {h : Hp} : FrameBlind (va_Pc vs (Wd G h)) := fun _ _ _ _ q => q
/-- the picture's rows, out of W's -/
theorem wP.set {G : hG} {h : Hp} {a : Nat} {e : hE} {H H1 : Heap} (hP : wP G h.1 H) (he : va_at (G.2.2.1, G.2.2.2.1) clG (a, toE G.2.2.2.2.1 e) H1) (oq : ∀ q : Nat, q ≠ a → H1[q]? = H[q]?) : wP G (hset h a e).1 H1 := by
  intro x e1 h1
  by_cases hx : x = a
  · subst hx
    have : (hset h x e).1 x = some e := if_pos rfl
    rw [this] at h1
    cases h1
    exact he
  · have : (hset h a e).1 x = h.1 x := if_neg hx
    rw [this] at h1
    exact (hP x e1 h1).kept (oq x hx)
theorem wP.new {G : hG} {h : Hp} {n : Nat} {e : hE} {H H1 : Heap} (hP : wP G h.1 H) (hz : H.size = h.2.1) (he : va_at (G.2.2.1, G.2.2.2.1) clG (h.2.1, toE G.2.2.2.2.1 e) H1) (oq : ∀ q : Nat, q < H.size → H1[q]? = H[q]?) : wP G (hnew h e n).1 H1 := by
  intro x e1 h1
  by_cases hx : x = h.2.1
  · subst hx
    have : (hnew h e n).1 h.2.1 = some e := if_pos rfl
    rw [this] at h1
    cases h1
    exact he
  · have : (hnew h e n).1 x = h.1 x := if_neg hx
    rw [this] at h1
    have h2 := hP x e1 h1
    exact h2.kept (oq x h2.lt)
theorem wP.fresh {G : hG} {h : Hp} {H : Heap} (hP : wP G h.1 H) (hz : H.size = h.2.1) : h.1 h.2.1 = none := by
  cases hh : h.1 h.2.1 with
  | none => rfl
  | some e => exact absurd (hP _ _ hh).lt (by show ¬ h.2.1 < H.size; rw [hz]; exact Nat.lt_irrefl _)
theorem wP.one {G : hG} {w : Nat → Option hE} {H : Heap} {a : Nat} {e : hE} (hP : wP G w H) (he : w a = some e) : va_P (G.2.2.1, G.2.2.2.1) clG [(a, toE G.2.2.2.2.1 e)] H := by
  intro k q hk
  have hz : k < 1 := (List.getElem?_eq_some_iff.mp hk).1
  rw [show k = 0 by omega] at hk
  cases hk
  exact hP a e he
theorem hset_hle {hb h : Hp} {a : Nat} {e e0 : hE} (l : hle hb h) (h0 : h.1 a = some e0) (hk : hkd e = hkd e0) : hle hb (hset h a e) := l.tr (hset_le h0 hk)
section VR
variable {X : hX} {own : String} {cc : ByteArray} {nL : Nat} {ret : Option FieldType} {he : Hp} {F L : Nat} {h hr : Hp} {pc : Nat} {ls ls' : List (Nat × Value)} {st : List Value} {α β : Type} {v : α}

theorem v_iconst (C : Cx X own cc nL ret he F L) {n : Int} {x : Int32} (d : decode cc pc = .ok (.iconst n, 1)) (hv : Int32.ofInt n = x) (k : V X h (pc + 1) ls (.int x :: st)) : V X h pc ls (st) := fun H locs la h1 h2 h3 h4 h5 h6 => lv_iconst C.1 C.2.1 d hv (k H locs la h1 h2 h3 h4 h5 h6)
theorem v_bipush (C : Cx X own cc nL ret he F L) {n : Int} {x : Int32} (d : decode cc pc = .ok (.bipush n, 2)) (hv : (Int8.ofInt n).toInt32 = x) (k : V X h (pc + 2) ls (.int x :: st)) : V X h pc ls (st) := fun H locs la h1 h2 h3 h4 h5 h6 => lv_bipush C.1 C.2.1 d hv (k H locs la h1 h2 h3 h4 h5 h6)
theorem v_sipush (C : Cx X own cc nL ret he F L) {n : Int} {x : Int32} (d : decode cc pc = .ok (.sipush n, 3)) (hv : (Int16.ofInt n).toInt32 = x) (k : V X h (pc + 3) ls (.int x :: st)) : V X h pc ls (st) := fun H locs la h1 h2 h3 h4 h5 h6 => lv_sipush C.1 C.2.1 d hv (k H locs la h1 h2 h3 h4 h5 h6)
theorem v_lconst (C : Cx X own cc nL ret he F L) {n : Fin 2} {x : Int64} (d : decode cc pc = .ok (.lconst n, 1)) (hv : Int64.ofNat (n : Nat) = x) (k : V X h (pc + 1) ls (.long x :: st)) : V X h pc ls (st) := fun H locs la h1 h2 h3 h4 h5 h6 => lv_lconst C.1 C.2.1 d hv (k H locs la h1 h2 h3 h4 h5 h6)
theorem v_iload_n (C : Cx X own cc nL ret he F L) (j : Nat) {n : Fin 4} {i : Nat} {x : Int32} (d : decode cc pc = .ok (.iload_n n, 1)) (hi : (n : Nat) = i) (hl : ls[j]? = some (i, .int x)) (k : V X h (pc + 1) ls (.int x :: st)) : V X h pc ls st := fun H locs la h1 h2 h3 h4 h5 h6 => lv_iload_n C.1 C.2.1 d hi (lv_at h6 j hl) (k H locs la h1 h2 h3 h4 h5 h6)
theorem v_iload (C : Cx X own cc nL ret he F L) (j : Nat) {i : Nat} {x : Int32} (d : decode cc pc = .ok (.iload i, 2)) (hl : ls[j]? = some (i, .int x)) (k : V X h (pc + 2) ls (.int x :: st)) : V X h pc ls st := fun H locs la h1 h2 h3 h4 h5 h6 => lv_iload C.1 C.2.1 d (lv_at h6 j hl) (k H locs la h1 h2 h3 h4 h5 h6)
theorem v_lload_n (C : Cx X own cc nL ret he F L) (j : Nat) {n : Fin 4} {i : Nat} {x : Int64} (d : decode cc pc = .ok (.lload_n n, 1)) (hi : (n : Nat) = i) (hl : ls[j]? = some (i, .long x)) (k : V X h (pc + 1) ls (.long x :: st)) : V X h pc ls st := fun H locs la h1 h2 h3 h4 h5 h6 => lv_lload_n C.1 C.2.1 d hi (lv_at h6 j hl) (k H locs la h1 h2 h3 h4 h5 h6)
theorem v_lload (C : Cx X own cc nL ret he F L) (j : Nat) {i : Nat} {x : Int64} (d : decode cc pc = .ok (.lload i, 2)) (hl : ls[j]? = some (i, .long x)) (k : V X h (pc + 2) ls (.long x :: st)) : V X h pc ls st := fun H locs la h1 h2 h3 h4 h5 h6 => lv_lload C.1 C.2.1 d (lv_at h6 j hl) (k H locs la h1 h2 h3 h4 h5 h6)
theorem v_aload_n (C : Cx X own cc nL ret he F L) (j : Nat) {n : Fin 4} {i : Nat} {x : Nat} (d : decode cc pc = .ok (.aload_n n, 1)) (hi : (n : Nat) = i) (hl : ls[j]? = some (i, .ref x)) (k : V X h (pc + 1) ls (.ref x :: st)) : V X h pc ls st := fun H locs la h1 h2 h3 h4 h5 h6 => lv_aload_n C.1 C.2.1 d hi (lv_at h6 j hl) (k H locs la h1 h2 h3 h4 h5 h6)
theorem v_aload (C : Cx X own cc nL ret he F L) (j : Nat) {i : Nat} {x : Nat} (d : decode cc pc = .ok (.aload i, 2)) (hl : ls[j]? = some (i, .ref x)) (k : V X h (pc + 2) ls (.ref x :: st)) : V X h pc ls st := fun H locs la h1 h2 h3 h4 h5 h6 => lv_aload C.1 C.2.1 d (lv_at h6 j hl) (k H locs la h1 h2 h3 h4 h5 h6)
theorem v_aload_nQ (C : Cx X own cc nL ret he F L) (j : Nat) {n : Fin 4} {i : Nat} {x : Option Nat} (d : decode cc pc = .ok (.aload_n n, 1)) (hi : (n : Nat) = i) (hl : ls[j]? = some (i, va_rf x)) (k : V X h (pc + 1) ls (va_rf x :: st)) : V X h pc ls st := fun H locs la h1 h2 h3 h4 h5 h6 => by
  cases x with
  | none => exact lv_aload_nN C.1 C.2.1 d hi (lv_at h6 j hl) (k H locs la h1 h2 h3 h4 h5 h6)
  | some x => exact lv_aload_n C.1 C.2.1 d hi (lv_at h6 j hl) (k H locs la h1 h2 h3 h4 h5 h6)
theorem v_aloadQ (C : Cx X own cc nL ret he F L) (j : Nat) {i : Nat} {x : Option Nat} (d : decode cc pc = .ok (.aload i, 2)) (hl : ls[j]? = some (i, va_rf x)) (k : V X h (pc + 2) ls (va_rf x :: st)) : V X h pc ls st := fun H locs la h1 h2 h3 h4 h5 h6 => by
  cases x with
  | none => exact lv_aloadN C.1 C.2.1 d (lv_at h6 j hl) (k H locs la h1 h2 h3 h4 h5 h6)
  | some x => exact lv_aload C.1 C.2.1 d (lv_at h6 j hl) (k H locs la h1 h2 h3 h4 h5 h6)
theorem v_istore_n (C : Cx X own cc nL ret he F L) {n : Fin 4} {i : Nat} {x : Int32} (d : decode cc pc = .ok (.istore_n n, 1)) (hi : (n : Nat) = i) (hn : i < nL) (hl : (i, Value.int x) :: ls.filter (fun q => !(q.1 == i) && !(q.1 + 1 == i && q.2.category == 2)) = ls') (k : V X h (pc + 1) ls' st) : V X h pc ls (.int x :: st) := fun H locs la h1 h2 h3 h4 h5 h6 => lv_istore_n C.1 C.2.1 d hi h6 (by rw [C.2.2.1]; exact hn) hl (fun la h6 => k H locs la h1 h2 h3 h4 h5 h6)
theorem v_istore (C : Cx X own cc nL ret he F L) {i : Nat} {x : Int32} (d : decode cc pc = .ok (.istore i, 2)) (hn : i < nL) (hl : (i, Value.int x) :: ls.filter (fun q => !(q.1 == i) && !(q.1 + 1 == i && q.2.category == 2)) = ls') (k : V X h (pc + 2) ls' st) : V X h pc ls (.int x :: st) := fun H locs la h1 h2 h3 h4 h5 h6 => lv_istore C.1 C.2.1 d h6 (by rw [C.2.2.1]; exact hn) hl (fun la h6 => k H locs la h1 h2 h3 h4 h5 h6)
theorem v_lstore_n (C : Cx X own cc nL ret he F L) {n : Fin 4} {i : Nat} {x : Int64} (d : decode cc pc = .ok (.lstore_n n, 1)) (hi : (n : Nat) = i) (hn : i + 1 < nL) (hl : (i, Value.long x) :: ls.filter (fun q => !(q.1 == i) && (!(q.1 == i + 1) && !(q.1 + 1 == i && q.2.category == 2))) = ls') (k : V X h (pc + 1) ls' st) : V X h pc ls (.long x :: st) := fun H locs la h1 h2 h3 h4 h5 h6 => lv_lstore_n C.1 C.2.1 d hi h6 (by rw [C.2.2.1]; exact hn) hl (fun la h6 => k H locs la h1 h2 h3 h4 h5 h6)
theorem v_lstore (C : Cx X own cc nL ret he F L) {i : Nat} {x : Int64} (d : decode cc pc = .ok (.lstore i, 2)) (hn : i + 1 < nL) (hl : (i, Value.long x) :: ls.filter (fun q => !(q.1 == i) && (!(q.1 == i + 1) && !(q.1 + 1 == i && q.2.category == 2))) = ls') (k : V X h (pc + 2) ls' st) : V X h pc ls (.long x :: st) := fun H locs la h1 h2 h3 h4 h5 h6 => lv_lstore C.1 C.2.1 d h6 (by rw [C.2.2.1]; exact hn) hl (fun la h6 => k H locs la h1 h2 h3 h4 h5 h6)
theorem v_astore_n (C : Cx X own cc nL ret he F L) {n : Fin 4} {i : Nat} {x : Nat} (d : decode cc pc = .ok (.astore_n n, 1)) (hi : (n : Nat) = i) (hn : i < nL) (hl : (i, Value.ref x) :: ls.filter (fun q => !(q.1 == i) && !(q.1 + 1 == i && q.2.category == 2)) = ls') (k : V X h (pc + 1) ls' st) : V X h pc ls (.ref x :: st) := fun H locs la h1 h2 h3 h4 h5 h6 => lv_astore_n C.1 C.2.1 d hi h6 (by rw [C.2.2.1]; exact hn) hl (fun la h6 => k H locs la h1 h2 h3 h4 h5 h6)
theorem v_astore (C : Cx X own cc nL ret he F L) {i : Nat} {x : Nat} (d : decode cc pc = .ok (.astore i, 2)) (hn : i < nL) (hl : (i, Value.ref x) :: ls.filter (fun q => !(q.1 == i) && !(q.1 + 1 == i && q.2.category == 2)) = ls') (k : V X h (pc + 2) ls' st) : V X h pc ls (.ref x :: st) := fun H locs la h1 h2 h3 h4 h5 h6 => lv_astore C.1 C.2.1 d h6 (by rw [C.2.2.1]; exact hn) hl (fun la h6 => k H locs la h1 h2 h3 h4 h5 h6)
theorem v_astore_nQ (C : Cx X own cc nL ret he F L) {n : Fin 4} {i : Nat} {x : Option Nat} (d : decode cc pc = .ok (.astore_n n, 1)) (hi : (n : Nat) = i) (hn : i < nL) (hl : (i, va_rf x) :: ls.filter (fun q => !(q.1 == i) && !(q.1 + 1 == i && q.2.category == 2)) = ls') (k : V X h (pc + 1) ls' st) : V X h pc ls (va_rf x :: st) := fun H locs la h1 h2 h3 h4 h5 h6 => by
  cases x with
  | none => exact lv_astore_nN C.1 C.2.1 d hi h6 (by rw [C.2.2.1]; exact hn) hl (fun la h6 => k H locs la h1 h2 h3 h4 h5 h6)
  | some x => exact lv_astore_n C.1 C.2.1 d hi h6 (by rw [C.2.2.1]; exact hn) hl (fun la h6 => k H locs la h1 h2 h3 h4 h5 h6)
theorem v_astoreQ (C : Cx X own cc nL ret he F L) {i : Nat} {x : Option Nat} (d : decode cc pc = .ok (.astore i, 2)) (hn : i < nL) (hl : (i, va_rf x) :: ls.filter (fun q => !(q.1 == i) && !(q.1 + 1 == i && q.2.category == 2)) = ls') (k : V X h (pc + 2) ls' st) : V X h pc ls (va_rf x :: st) := fun H locs la h1 h2 h3 h4 h5 h6 => by
  cases x with
  | none => exact lv_astoreN C.1 C.2.1 d h6 (by rw [C.2.2.1]; exact hn) hl (fun la h6 => k H locs la h1 h2 h3 h4 h5 h6)
  | some x => exact lv_astore C.1 C.2.1 d h6 (by rw [C.2.2.1]; exact hn) hl (fun la h6 => k H locs la h1 h2 h3 h4 h5 h6)
theorem v_iinc (C : Cx X own cc nL ret he F L) (j : Nat) {i : Nat} {n : Int} {x y : Int32} (d : decode cc pc = .ok (.iinc i n, 3)) (hj : ls[j]? = some (i, .int x)) (hv : x + Int32.ofInt n = y) (hn : i < nL) (hl : (i, Value.int y) :: ls.filter (fun q => !(q.1 == i) && !(q.1 + 1 == i && q.2.category == 2)) = ls') (k : V X h (pc + 3) ls' st) : V X h pc ls st := fun H locs la h1 h2 h3 h4 h5 h6 => lv_iinc C.1 C.2.1 d h6 (k := j) hj hv (by rw [C.2.2.1]; exact hn) hl (fun la h6 => k H locs la h1 h2 h3 h4 h5 h6)
theorem v_iadd (C : Cx X own cc nL ret he F L) {x y : Int32} (d : decode cc pc = .ok (.iadd, 1)) (k : V X h (pc + 1) ls (.int (x + y) :: st)) : V X h pc ls (.int y :: .int x :: st) := fun H locs la h1 h2 h3 h4 h5 h6 => lv_iadd C.1 C.2.1 d (k H locs la h1 h2 h3 h4 h5 h6)
theorem v_isub (C : Cx X own cc nL ret he F L) {x y : Int32} (d : decode cc pc = .ok (.isub, 1)) (k : V X h (pc + 1) ls (.int (x - y) :: st)) : V X h pc ls (.int y :: .int x :: st) := fun H locs la h1 h2 h3 h4 h5 h6 => lv_isub C.1 C.2.1 d (k H locs la h1 h2 h3 h4 h5 h6)
theorem v_imul (C : Cx X own cc nL ret he F L) {x y : Int32} (d : decode cc pc = .ok (.imul, 1)) (k : V X h (pc + 1) ls (.int (x * y) :: st)) : V X h pc ls (.int y :: .int x :: st) := fun H locs la h1 h2 h3 h4 h5 h6 => lv_imul C.1 C.2.1 d (k H locs la h1 h2 h3 h4 h5 h6)
theorem v_iand (C : Cx X own cc nL ret he F L) {x y : Int32} (d : decode cc pc = .ok (.iand, 1)) (k : V X h (pc + 1) ls (.int (x &&& y) :: st)) : V X h pc ls (.int y :: .int x :: st) := fun H locs la h1 h2 h3 h4 h5 h6 => lv_iand C.1 C.2.1 d (k H locs la h1 h2 h3 h4 h5 h6)
theorem v_ior (C : Cx X own cc nL ret he F L) {x y : Int32} (d : decode cc pc = .ok (.ior, 1)) (k : V X h (pc + 1) ls (.int (x ||| y) :: st)) : V X h pc ls (.int y :: .int x :: st) := fun H locs la h1 h2 h3 h4 h5 h6 => lv_ior C.1 C.2.1 d (k H locs la h1 h2 h3 h4 h5 h6)
theorem v_ixor (C : Cx X own cc nL ret he F L) {x y : Int32} (d : decode cc pc = .ok (.ixor, 1)) (k : V X h (pc + 1) ls (.int (x ^^^ y) :: st)) : V X h pc ls (.int y :: .int x :: st) := fun H locs la h1 h2 h3 h4 h5 h6 => lv_ixor C.1 C.2.1 d (k H locs la h1 h2 h3 h4 h5 h6)
theorem v_ishl (C : Cx X own cc nL ret he F L) {x y : Int32} (d : decode cc pc = .ok (.ishl, 1)) (k : V X h (pc + 1) ls (.int (x <<< (y &&& 31)) :: st)) : V X h pc ls (.int y :: .int x :: st) := fun H locs la h1 h2 h3 h4 h5 h6 => lv_ishl C.1 C.2.1 d (k H locs la h1 h2 h3 h4 h5 h6)
theorem v_ishr (C : Cx X own cc nL ret he F L) {x y : Int32} (d : decode cc pc = .ok (.ishr, 1)) (k : V X h (pc + 1) ls (.int (x >>> (y &&& 31)) :: st)) : V X h pc ls (.int y :: .int x :: st) := fun H locs la h1 h2 h3 h4 h5 h6 => lv_ishr C.1 C.2.1 d (k H locs la h1 h2 h3 h4 h5 h6)
theorem v_ineg (C : Cx X own cc nL ret he F L) {x : Int32} (d : decode cc pc = .ok (.ineg, 1)) (k : V X h (pc + 1) ls (.int (-x) :: st)) : V X h pc ls (.int x :: st) := fun H locs la h1 h2 h3 h4 h5 h6 => lv_ineg C.1 C.2.1 d (k H locs la h1 h2 h3 h4 h5 h6)
theorem v_iushr (C : Cx X own cc nL ret he F L) {x y : Int32} (d : decode cc pc = .ok (.iushr, 1)) (k : V X h (pc + 1) ls (.int (jushr x y) :: st)) : V X h pc ls (.int y :: .int x :: st) := fun H locs la h1 h2 h3 h4 h5 h6 => lv_iushr C.1 C.2.1 d rfl (k H locs la h1 h2 h3 h4 h5 h6)
theorem v_ladd (C : Cx X own cc nL ret he F L) {x y : Int64} (d : decode cc pc = .ok (.ladd, 1)) (k : V X h (pc + 1) ls (.long (x + y) :: st)) : V X h pc ls (.long y :: .long x :: st) := fun H locs la h1 h2 h3 h4 h5 h6 => lv_ladd C.1 C.2.1 d (k H locs la h1 h2 h3 h4 h5 h6)
theorem v_lsub (C : Cx X own cc nL ret he F L) {x y : Int64} (d : decode cc pc = .ok (.lsub, 1)) (k : V X h (pc + 1) ls (.long (x - y) :: st)) : V X h pc ls (.long y :: .long x :: st) := fun H locs la h1 h2 h3 h4 h5 h6 => lv_lsub C.1 C.2.1 d (k H locs la h1 h2 h3 h4 h5 h6)
theorem v_lmul (C : Cx X own cc nL ret he F L) {x y : Int64} (d : decode cc pc = .ok (.lmul, 1)) (k : V X h (pc + 1) ls (.long (x * y) :: st)) : V X h pc ls (.long y :: .long x :: st) := fun H locs la h1 h2 h3 h4 h5 h6 => lv_lmul C.1 C.2.1 d (k H locs la h1 h2 h3 h4 h5 h6)
theorem v_land (C : Cx X own cc nL ret he F L) {x y : Int64} (d : decode cc pc = .ok (.land, 1)) (k : V X h (pc + 1) ls (.long (x &&& y) :: st)) : V X h pc ls (.long y :: .long x :: st) := fun H locs la h1 h2 h3 h4 h5 h6 => lv_land C.1 C.2.1 d (k H locs la h1 h2 h3 h4 h5 h6)
theorem v_lor (C : Cx X own cc nL ret he F L) {x y : Int64} (d : decode cc pc = .ok (.lor, 1)) (k : V X h (pc + 1) ls (.long (x ||| y) :: st)) : V X h pc ls (.long y :: .long x :: st) := fun H locs la h1 h2 h3 h4 h5 h6 => lv_lor C.1 C.2.1 d (k H locs la h1 h2 h3 h4 h5 h6)
theorem v_lxor (C : Cx X own cc nL ret he F L) {x y : Int64} (d : decode cc pc = .ok (.lxor, 1)) (k : V X h (pc + 1) ls (.long (x ^^^ y) :: st)) : V X h pc ls (.long y :: .long x :: st) := fun H locs la h1 h2 h3 h4 h5 h6 => lv_lxor C.1 C.2.1 d (k H locs la h1 h2 h3 h4 h5 h6)
theorem v_lshl (C : Cx X own cc nL ret he F L) {x : Int64} {y : Int32} (d : decode cc pc = .ok (.lshl, 1)) (k : V X h (pc + 1) ls (.long (jlshl x y) :: st)) : V X h pc ls (.int y :: .long x :: st) := fun H locs la h1 h2 h3 h4 h5 h6 => lv_lshl C.1 C.2.1 d rfl (k H locs la h1 h2 h3 h4 h5 h6)
theorem v_i2l (C : Cx X own cc nL ret he F L) {x : Int32} (d : decode cc pc = .ok (.i2l, 1)) (k : V X h (pc + 1) ls (.long x.toInt64 :: st)) : V X h pc ls (.int x :: st) := fun H locs la h1 h2 h3 h4 h5 h6 => lv_i2l C.1 C.2.1 d rfl (k H locs la h1 h2 h3 h4 h5 h6)
theorem v_l2i (C : Cx X own cc nL ret he F L) {x : Int64} (d : decode cc pc = .ok (.l2i, 1)) (k : V X h (pc + 1) ls (.int x.toInt32 :: st)) : V X h pc ls (.long x :: st) := fun H locs la h1 h2 h3 h4 h5 h6 => lv_l2i C.1 C.2.1 d rfl (k H locs la h1 h2 h3 h4 h5 h6)
theorem v_i2b (C : Cx X own cc nL ret he F L) {x : Int32} (d : decode cc pc = .ok (.i2b, 1)) (k : V X h (pc + 1) ls (.int x.toInt8.toInt32 :: st)) : V X h pc ls (.int x :: st) := fun H locs la h1 h2 h3 h4 h5 h6 => lv_i2b C.1 C.2.1 d rfl (k H locs la h1 h2 h3 h4 h5 h6)
theorem v_i2s (C : Cx X own cc nL ret he F L) {x : Int32} (d : decode cc pc = .ok (.i2s, 1)) (k : V X h (pc + 1) ls (.int x.toInt16.toInt32 :: st)) : V X h pc ls (.int x :: st) := fun H locs la h1 h2 h3 h4 h5 h6 => lv_i2s C.1 C.2.1 d rfl (k H locs la h1 h2 h3 h4 h5 h6)
theorem v_i2c (C : Cx X own cc nL ret he F L) {x : Int32} (d : decode cc pc = .ok (.i2c, 1)) (k : V X h (pc + 1) ls (.int (ji2c x) :: st)) : V X h pc ls (.int x :: st) := fun H locs la h1 h2 h3 h4 h5 h6 => lv_i2c C.1 C.2.1 d rfl (k H locs la h1 h2 h3 h4 h5 h6)
theorem v_lcmp (C : Cx X own cc nL ret he F L) {x y : Int64} (d : decode cc pc = .ok (.lcmp, 1)) (k : V X h (pc + 1) ls (.int (lg_cmp x y) :: st)) : V X h pc ls (.long y :: .long x :: st) := fun H locs la h1 h2 h3 h4 h5 h6 => W.lcmp C.1 C.2.1 d (k H locs la h1 h2 h3 h4 h5 h6)
theorem v_dup (C : Cx X own cc nL ret he F L) {va : Value} (d : decode cc pc = .ok (.dup, 1)) (hc : va.category = 1) (k : V X h (pc + 1) ls (va :: va :: st)) : V X h pc ls (va :: st) := fun H locs la h1 h2 h3 h4 h5 h6 => lv_dup C.1 C.2.1 d hc (k H locs la h1 h2 h3 h4 h5 h6)
theorem v_pop (C : Cx X own cc nL ret he F L) {va : Value} (d : decode cc pc = .ok (.pop, 1)) (hc : va.category = 1) (k : V X h (pc + 1) ls (st)) : V X h pc ls (va :: st) := fun H locs la h1 h2 h3 h4 h5 h6 => lv_pop C.1 C.2.1 d hc (k H locs la h1 h2 h3 h4 h5 h6)
theorem v_dup_x1 (C : Cx X own cc nL ret he F L) {va vb : Value} (d : decode cc pc = .ok (.dup_x1, 1)) (hc : va.category = 1) (hc2 : vb.category = 1) (k : V X h (pc + 1) ls (va :: vb :: va :: st)) : V X h pc ls (va :: vb :: st) := fun H locs la h1 h2 h3 h4 h5 h6 => lv_dup_x1 C.1 C.2.1 d hc hc2 (k H locs la h1 h2 h3 h4 h5 h6)
theorem v_dup2 (C : Cx X own cc nL ret he F L) {va vb : Value} (d : decode cc pc = .ok (.dup2, 1)) (hc : va.category = 1) (hc2 : vb.category = 1) (k : V X h (pc + 1) ls (va :: vb :: va :: vb :: st)) : V X h pc ls (va :: vb :: st) := fun H locs la h1 h2 h3 h4 h5 h6 => lv_dup2_11 C.1 C.2.1 d hc hc2 (k H locs la h1 h2 h3 h4 h5 h6)
theorem v_null (C : Cx X own cc nL ret he F L)  (d : decode cc pc = .ok (.aconst_null, 1)) (k : V X h (pc + 1) ls (va_rf none :: st)) : V X h pc ls (st) := fun H locs la h1 h2 h3 h4 h5 h6 => lv_null C.1 C.2.1 d (k H locs la h1 h2 h3 h4 h5 h6)
theorem rf_cat (x : Option Nat) : (va_rf x).category = 1 := by cases x <;> rfl
theorem v_ldc (C : Cx X own cc nL ret he F L) {index : Nat} {x : Int32} (q : Jvm.Cond.constant own index x ∈ lw_all) (d : decode cc pc = .ok (.ldc index, 2)) (k : V X h (pc + 2) ls (.int x :: st)) : V X h pc ls st := fun H locs la h1 h2 h3 h4 h5 h6 => lv_ldc C.1 C.2.1 C.2.2.2.2.2.1 (C.2.2.2.2.2.2.2.2.1 _ q) d (k H locs la h1 h2 h3 h4 h5 h6)
theorem v_ldcw (C : Cx X own cc nL ret he F L) {index : Nat} {x : Int32} (q : Jvm.Cond.constant own index x ∈ lw_all) (d : decode cc pc = .ok (.ldc_w index, 3)) (k : V X h (pc + 3) ls (.int x :: st)) : V X h pc ls st := fun H locs la h1 h2 h3 h4 h5 h6 => lv_ldcw C.1 C.2.1 C.2.2.2.2.2.1 (C.2.2.2.2.2.2.2.2.1 _ q) d (k H locs la h1 h2 h3 h4 h5 h6)
theorem v_ldc2 (C : Cx X own cc nL ret he F L) {index : Nat} {x : Int64} (q : Jvm.Cond.constantLong own index x ∈ lw_all) (d : decode cc pc = .ok (.ldc2_w index, 3)) (k : V X h (pc + 3) ls (.long x :: st)) : V X h pc ls st := fun H locs la h1 h2 h3 h4 h5 h6 => lv_ldc2 C.1 C.2.1 C.2.2.2.2.2.1 (C.2.2.2.2.2.2.2.2.1 _ q) d (k H locs la h1 h2 h3 h4 h5 h6)
theorem v_goto (C : Cx X own cc nL ret he F L) {off : Int} {tgt : Nat} (d : decode cc pc = .ok (.goto off, 3)) (ht : (pc : Int) + off = (tgt : Int)) (k : V X h tgt ls st) : V X h pc ls st := fun H locs la h1 h2 h3 h4 h5 h6 => lv_goto C.1 C.2.1 d ht (k H locs la h1 h2 h3 h4 h5 h6)
theorem v_if_eq (C : Cx X own cc nL ret he F L) {x : Int32} {a b : hM α} (hf : (mi (x = 0) a b).1 h = some (v, hr)) {off : Int} {tgt : Nat} (d : decode cc pc = .ok (.ifCond .eq off, 3)) (ht : (pc : Int) + off = (tgt : Int)) (kt : x = 0 → a.1 h = some (v, hr) → V X h tgt ls st) (kf : ¬ x = 0 → b.1 h = some (v, hr) → V X h (pc + 3) ls st) : V X h pc ls (.int x :: st) := fun H locs la h1 h2 h3 h4 h5 h6 => lv_if_eq C.1 C.2.1 d ht (fun e => (kt e (mi_pos e hf)) H locs la h1 h2 h3 h4 h5 h6) (fun e => (kf e (mi_neg e hf)) H locs la h1 h2 h3 h4 h5 h6)
theorem v_if_ne (C : Cx X own cc nL ret he F L) {x : Int32} {a b : hM α} (hf : (mi (¬ x = 0) a b).1 h = some (v, hr)) {off : Int} {tgt : Nat} (d : decode cc pc = .ok (.ifCond .ne off, 3)) (ht : (pc : Int) + off = (tgt : Int)) (kt : ¬ x = 0 → a.1 h = some (v, hr) → V X h tgt ls st) (kf : x = 0 → b.1 h = some (v, hr) → V X h (pc + 3) ls st) : V X h pc ls (.int x :: st) := fun H locs la h1 h2 h3 h4 h5 h6 => lv_if_ne C.1 C.2.1 d ht (fun e => (kt e (mi_pos e hf)) H locs la h1 h2 h3 h4 h5 h6) (fun e => (kf e (mi_neg (fun z => z e) hf)) H locs la h1 h2 h3 h4 h5 h6)
theorem v_if_lt (C : Cx X own cc nL ret he F L) {x : Int32} {a b : hM α} (hf : (mi (x < 0) a b).1 h = some (v, hr)) {off : Int} {tgt : Nat} (d : decode cc pc = .ok (.ifCond .lt off, 3)) (ht : (pc : Int) + off = (tgt : Int)) (kt : x < 0 → a.1 h = some (v, hr) → V X h tgt ls st) (kf : ¬ x < 0 → b.1 h = some (v, hr) → V X h (pc + 3) ls st) : V X h pc ls (.int x :: st) := fun H locs la h1 h2 h3 h4 h5 h6 => lv_if_lt C.1 C.2.1 d ht (fun e => (kt e (mi_pos e hf)) H locs la h1 h2 h3 h4 h5 h6) (fun e => (kf e (mi_neg e hf)) H locs la h1 h2 h3 h4 h5 h6)
theorem v_if_ge (C : Cx X own cc nL ret he F L) {x : Int32} {a b : hM α} (hf : (mi (0 ≤ x) a b).1 h = some (v, hr)) {off : Int} {tgt : Nat} (d : decode cc pc = .ok (.ifCond .ge off, 3)) (ht : (pc : Int) + off = (tgt : Int)) (kt : 0 ≤ x → a.1 h = some (v, hr) → V X h tgt ls st) (kf : ¬ 0 ≤ x → b.1 h = some (v, hr) → V X h (pc + 3) ls st) : V X h pc ls (.int x :: st) := fun H locs la h1 h2 h3 h4 h5 h6 => lv_if_ge C.1 C.2.1 d ht (fun e => (kt e (mi_pos e hf)) H locs la h1 h2 h3 h4 h5 h6) (fun e => (kf e (mi_neg e hf)) H locs la h1 h2 h3 h4 h5 h6)
theorem v_if_gt (C : Cx X own cc nL ret he F L) {x : Int32} {a b : hM α} (hf : (mi (0 < x) a b).1 h = some (v, hr)) {off : Int} {tgt : Nat} (d : decode cc pc = .ok (.ifCond .gt off, 3)) (ht : (pc : Int) + off = (tgt : Int)) (kt : 0 < x → a.1 h = some (v, hr) → V X h tgt ls st) (kf : ¬ 0 < x → b.1 h = some (v, hr) → V X h (pc + 3) ls st) : V X h pc ls (.int x :: st) := fun H locs la h1 h2 h3 h4 h5 h6 => lv_if_gt C.1 C.2.1 d ht (fun e => (kt e (mi_pos e hf)) H locs la h1 h2 h3 h4 h5 h6) (fun e => (kf e (mi_neg e hf)) H locs la h1 h2 h3 h4 h5 h6)
theorem v_if_le (C : Cx X own cc nL ret he F L) {x : Int32} {a b : hM α} (hf : (mi (x ≤ 0) a b).1 h = some (v, hr)) {off : Int} {tgt : Nat} (d : decode cc pc = .ok (.ifCond .le off, 3)) (ht : (pc : Int) + off = (tgt : Int)) (kt : x ≤ 0 → a.1 h = some (v, hr) → V X h tgt ls st) (kf : ¬ x ≤ 0 → b.1 h = some (v, hr) → V X h (pc + 3) ls st) : V X h pc ls (.int x :: st) := fun H locs la h1 h2 h3 h4 h5 h6 => lv_if_le C.1 C.2.1 d ht (fun e => (kt e (mi_pos e hf)) H locs la h1 h2 h3 h4 h5 h6) (fun e => (kf e (mi_neg e hf)) H locs la h1 h2 h3 h4 h5 h6)
theorem v_icmp_eq (C : Cx X own cc nL ret he F L) {x y : Int32} {a b : hM α} (hf : (mi (x = y) a b).1 h = some (v, hr)) {off : Int} {tgt : Nat} (d : decode cc pc = .ok (.if_icmp .eq off, 3)) (ht : (pc : Int) + off = (tgt : Int)) (kt : x = y → a.1 h = some (v, hr) → V X h tgt ls st) (kf : ¬ x = y → b.1 h = some (v, hr) → V X h (pc + 3) ls st) : V X h pc ls (.int y :: .int x :: st) := fun H locs la h1 h2 h3 h4 h5 h6 => lv_icmp_eq C.1 C.2.1 d ht (fun e => (kt e (mi_pos e hf)) H locs la h1 h2 h3 h4 h5 h6) (fun e => (kf e (mi_neg e hf)) H locs la h1 h2 h3 h4 h5 h6)
theorem v_icmp_ne (C : Cx X own cc nL ret he F L) {x y : Int32} {a b : hM α} (hf : (mi (¬ x = y) a b).1 h = some (v, hr)) {off : Int} {tgt : Nat} (d : decode cc pc = .ok (.if_icmp .ne off, 3)) (ht : (pc : Int) + off = (tgt : Int)) (kt : ¬ x = y → a.1 h = some (v, hr) → V X h tgt ls st) (kf : x = y → b.1 h = some (v, hr) → V X h (pc + 3) ls st) : V X h pc ls (.int y :: .int x :: st) := fun H locs la h1 h2 h3 h4 h5 h6 => lv_icmp_ne C.1 C.2.1 d ht (fun e => (kt e (mi_pos e hf)) H locs la h1 h2 h3 h4 h5 h6) (fun e => (kf e (mi_neg (fun z => z e) hf)) H locs la h1 h2 h3 h4 h5 h6)
theorem v_icmp_lt (C : Cx X own cc nL ret he F L) {x y : Int32} {a b : hM α} (hf : (mi (x < y) a b).1 h = some (v, hr)) {off : Int} {tgt : Nat} (d : decode cc pc = .ok (.if_icmp .lt off, 3)) (ht : (pc : Int) + off = (tgt : Int)) (kt : x < y → a.1 h = some (v, hr) → V X h tgt ls st) (kf : ¬ x < y → b.1 h = some (v, hr) → V X h (pc + 3) ls st) : V X h pc ls (.int y :: .int x :: st) := fun H locs la h1 h2 h3 h4 h5 h6 => lv_icmp_lt C.1 C.2.1 d ht (fun e => (kt e (mi_pos e hf)) H locs la h1 h2 h3 h4 h5 h6) (fun e => (kf e (mi_neg e hf)) H locs la h1 h2 h3 h4 h5 h6)
theorem v_icmp_ge (C : Cx X own cc nL ret he F L) {x y : Int32} {a b : hM α} (hf : (mi (y ≤ x) a b).1 h = some (v, hr)) {off : Int} {tgt : Nat} (d : decode cc pc = .ok (.if_icmp .ge off, 3)) (ht : (pc : Int) + off = (tgt : Int)) (kt : y ≤ x → a.1 h = some (v, hr) → V X h tgt ls st) (kf : ¬ y ≤ x → b.1 h = some (v, hr) → V X h (pc + 3) ls st) : V X h pc ls (.int y :: .int x :: st) := fun H locs la h1 h2 h3 h4 h5 h6 => lv_icmp_ge C.1 C.2.1 d ht (fun e => (kt e (mi_pos e hf)) H locs la h1 h2 h3 h4 h5 h6) (fun e => (kf e (mi_neg e hf)) H locs la h1 h2 h3 h4 h5 h6)
theorem v_icmp_gt (C : Cx X own cc nL ret he F L) {x y : Int32} {a b : hM α} (hf : (mi (y < x) a b).1 h = some (v, hr)) {off : Int} {tgt : Nat} (d : decode cc pc = .ok (.if_icmp .gt off, 3)) (ht : (pc : Int) + off = (tgt : Int)) (kt : y < x → a.1 h = some (v, hr) → V X h tgt ls st) (kf : ¬ y < x → b.1 h = some (v, hr) → V X h (pc + 3) ls st) : V X h pc ls (.int y :: .int x :: st) := fun H locs la h1 h2 h3 h4 h5 h6 => lv_icmp_gt C.1 C.2.1 d ht (fun e => (kt e (mi_pos e hf)) H locs la h1 h2 h3 h4 h5 h6) (fun e => (kf e (mi_neg e hf)) H locs la h1 h2 h3 h4 h5 h6)
theorem v_icmp_le (C : Cx X own cc nL ret he F L) {x y : Int32} {a b : hM α} (hf : (mi (x ≤ y) a b).1 h = some (v, hr)) {off : Int} {tgt : Nat} (d : decode cc pc = .ok (.if_icmp .le off, 3)) (ht : (pc : Int) + off = (tgt : Int)) (kt : x ≤ y → a.1 h = some (v, hr) → V X h tgt ls st) (kf : ¬ x ≤ y → b.1 h = some (v, hr) → V X h (pc + 3) ls st) : V X h pc ls (.int y :: .int x :: st) := fun H locs la h1 h2 h3 h4 h5 h6 => lv_icmp_le C.1 C.2.1 d ht (fun e => (kt e (mi_pos e hf)) H locs la h1 h2 h3 h4 h5 h6) (fun e => (kf e (mi_neg e hf)) H locs la h1 h2 h3 h4 h5 h6)
theorem v_ifnull (C : Cx X own cc nL ret he F L) {x : Option Nat} {a b : hM α} (hf : (mi (x = none) a b).1 h = some (v, hr)) {off : Int} {tgt : Nat} (d : decode cc pc = .ok (.ifnull off, 3)) (ht : (pc : Int) + off = (tgt : Int)) (kt : x = none → a.1 h = some (v, hr) → V X h tgt ls st) (kf : ¬ x = none → b.1 h = some (v, hr) → V X h (pc + 3) ls st) : V X h pc ls (va_rf x :: st) := fun H locs la h1 h2 h3 h4 h5 h6 => by
  cases x with
  | none => exact lv_ifnullN C.1 C.2.1 d ht ((kt rfl (mi_pos rfl hf)) H locs la h1 h2 h3 h4 h5 h6)
  | some x => exact lv_ifnull C.1 C.2.1 d ((kf (fun e => by cases e) (mi_neg (fun e => by cases e) hf)) H locs la h1 h2 h3 h4 h5 h6)
theorem v_ifnonnull (C : Cx X own cc nL ret he F L) {x : Option Nat} {a b : hM α} (hf : (mi (¬ x = none) a b).1 h = some (v, hr)) {off : Int} {tgt : Nat} (d : decode cc pc = .ok (.ifnonnull off, 3)) (ht : (pc : Int) + off = (tgt : Int)) (kt : ¬ x = none → a.1 h = some (v, hr) → V X h tgt ls st) (kf : x = none → b.1 h = some (v, hr) → V X h (pc + 3) ls st) : V X h pc ls (va_rf x :: st) := fun H locs la h1 h2 h3 h4 h5 h6 => by
  cases x with
  | none => exact lv_ifnonnullN C.1 C.2.1 d ((kf rfl (mi_neg (fun e => e rfl) hf)) H locs la h1 h2 h3 h4 h5 h6)
  | some x => exact lv_ifnonnull C.1 C.2.1 d ht ((kt (fun e => by cases e) (mi_pos (fun e => by cases e) hf)) H locs la h1 h2 h3 h4 h5 h6)
theorem v_tswI (C : Cx X own cc nL ret he F L) {x k : Int32} (e : x = k) {dflt lo hi : Int} {offs : Array Int} {len : Nat} {off : Int} {tgt : Nat} (d : decode cc pc = .ok (.tableswitch dflt lo hi offs, len)) (g1 : ¬ k.toInt < lo) (g2 : ¬ hi < k.toInt) (ho : offs[(k.toInt - lo).toNat]? = some off) (ht : (pc : Int) + off = (tgt : Int)) (kk : V X h tgt ls st) : V X h pc ls (.int x :: st) := fun H locs la h1 h2 h3 h4 h5 h6 => by
  subst e
  exact lv_tableIn C.1 C.2.1 d g1 g2 ho ht (kk H locs la h1 h2 h3 h4 h5 h6)
theorem sw_out {x : Int32} {lo n : Nat} (hs : lo + n < 2 ^ 31) (e : ∀ j : Nat, j < n → ¬ x = nI (lo + j)) : x.toInt < (lo : Int) ∨ (lo : Int) + (n : Int) - 1 < x.toInt := by
  by_cases h1 : x.toInt < (lo : Int)
  · exact Or.inl h1
  · by_cases h2 : (lo : Int) + (n : Int) - 1 < x.toInt
    · exact Or.inr h2
    · exfalso
      refine e (x.toInt - lo).toNat (by omega) (Int32.toInt_inj.mp ?_)
      rw [nI_toInt (by omega)]
      omega
theorem v_tswO (C : Cx X own cc nL ret he F L) {x : Int32} {lo n : Nat} (e : ∀ j : Nat, j < n → ¬ x = nI (lo + j)) {dflt lo2 hi : Int} {offs : Array Int} {len : Nat} {tgt : Nat} (d : decode cc pc = .ok (.tableswitch dflt lo2 hi offs, len)) (g1 : lo2 = (lo : Int)) (g2 : hi = (lo : Int) + (n : Int) - 1) (ht : (pc : Int) + dflt = (tgt : Int)) (kk : V X h tgt ls st) (hs : lo + n < 2 ^ 31 := by decide) : V X h pc ls (.int x :: st) := fun H locs la h1 h2 h3 h4 h5 h6 => by
  subst g1 g2
  exact lv_tableOut C.1 C.2.1 d (sw_out hs e) ht (kk H locs la h1 h2 h3 h4 h5 h6)
theorem v_idiv (C : Cx X own cc nL ret he F L) {x y : Int32} {k : Int32 → hM α} (hf : (mb (mdiv x y) k).1 h = some (v, hr)) (d : decode cc pc = .ok (.idiv, 1)) (kk : ∀ w : Int32, (k w).1 h = some (v, hr) → V X h (pc + 1) ls (.int w :: st)) : V X h pc ls (.int y :: .int x :: st) := fun H locs la h1 h2 h3 h4 h5 h6 => by
  obtain ⟨z, hz, e1, e2, -⟩ := mb_inv hf (hle.rf hr)
  by_cases hy : y = 0
  · exact mfail_inv (mi_pos hy e1)
  · obtain ⟨rfl, rfl⟩ := mret_inv (mi_neg hy e1)
    exact lv_idiv C.1 C.2.1 d hy (kk _ e2 H locs la h1 h2 h3 h4 h5 h6)
theorem v_irem (C : Cx X own cc nL ret he F L) {x y : Int32} {k : Int32 → hM α} (hf : (mb (mrem x y) k).1 h = some (v, hr)) (d : decode cc pc = .ok (.irem, 1)) (kk : ∀ w : Int32, (k w).1 h = some (v, hr) → V X h (pc + 1) ls (.int w :: st)) : V X h pc ls (.int y :: .int x :: st) := fun H locs la h1 h2 h3 h4 h5 h6 => by
  obtain ⟨z, hz, e1, e2, -⟩ := mb_inv hf (hle.rf hr)
  by_cases hy : y = 0
  · exact mfail_inv (mi_pos hy e1)
  · obtain ⟨rfl, rfl⟩ := mret_inv (mi_neg hy e1)
    exact lv_irem C.1 C.2.1 d hy (kk _ e2 H locs la h1 h2 h3 h4 h5 h6)
theorem v_ldiv (C : Cx X own cc nL ret he F L) {x y : Int64} {k : Int64 → hM α} (hf : (mb (mdivl x y) k).1 h = some (v, hr)) (d : decode cc pc = .ok (.ldiv, 1)) (kk : ∀ w : Int64, (k w).1 h = some (v, hr) → V X h (pc + 1) ls (.long w :: st)) : V X h pc ls (.long y :: .long x :: st) := fun H locs la h1 h2 h3 h4 h5 h6 => by
  obtain ⟨z, hz, e1, e2, -⟩ := mb_inv hf (hle.rf hr)
  by_cases hy : y = 0
  · exact mfail_inv (mi_pos hy e1)
  · obtain ⟨rfl, rfl⟩ := mret_inv (mi_neg hy e1)
    exact lv_ldiv C.1 C.2.1 d hy (kk _ e2 H locs la h1 h2 h3 h4 h5 h6)
theorem v_lrem (C : Cx X own cc nL ret he F L) {x y : Int64} {k : Int64 → hM α} (hf : (mb (mreml x y) k).1 h = some (v, hr)) (d : decode cc pc = .ok (.lrem, 1)) (kk : ∀ w : Int64, (k w).1 h = some (v, hr) → V X h (pc + 1) ls (.long w :: st)) : V X h pc ls (.long y :: .long x :: st) := fun H locs la h1 h2 h3 h4 h5 h6 => by
  obtain ⟨z, hz, e1, e2, -⟩ := mb_inv hf (hle.rf hr)
  by_cases hy : y = 0
  · exact mfail_inv (mi_pos hy e1)
  · obtain ⟨rfl, rfl⟩ := mret_inv (mi_neg hy e1)
    exact lv_lrem C.1 C.2.1 d hy (kk _ e2 H locs la h1 h2 h3 h4 h5 h6)
theorem v_sub (ks : List Nat) (hl : lv_pick ls ks = ls') (k : V X h pc ls' st) : V X h pc ls st := fun H locs la h1 h2 h3 h4 h5 h6 => k H locs la h1 h2 h3 h4 h5 (lv_sub h6 ks hl)
theorem v_cut {h1 : Hp} {pc1 : Nat} {ls1 : List (Nat × Value)} {st1 : List Value} (a : V X h1 pc1 ls1 st1) (b : V X h1 pc1 ls1 st1 → V X h pc ls st) : V X h pc ls st := b a
theorem hF_inv {a ci k : Nat} {w : Value} (e : hF a ci k h = some w) : ∃ fs, h.1 a = some (.inr (ci, fs)) ∧ fs[k]? = some w := by
  unfold hF at e
  split at e
  · rename_i c fs hh
    by_cases hc : c = ci
    · rw [if_pos hc] at e
      subst hc
      exact ⟨fs, hh, e⟩
    · rw [if_neg hc] at e; cases e
  · cases e
/-- getfield -/
theorem v_getv (C : Cx X own cc nL ret he F L) {ref Cn : String} {T : u_T} {N ci index a : Nat} (fk : Nat) {w : Value} (e : hF a ci fk h = some w) (hin : ∀ w ∈ u_ws Cn T N, w ∈ lw_all) (hc : clG[ci]? = some (Cn, T, N)) (hk : fk < N) (q : Jvm.Cond.fieldLink own index ref (T fk).2.1 (T fk).2.2.1 ∈ lw_all) (hs : (T fk).1 = ref) (d : decode cc pc = .ok (.getfield index, 3)) (k : V X h (pc + 3) ls (w :: st)) : V X h pc ls (.ref a :: st) := fun H locs la h1 h2 h3 h4 h5 h6 => by
  obtain ⟨fs, hh, hv⟩ := hF_inv e
  exact va_get (ci := ci) (v := w) (C := Cn) (T := T) (N := N) C.1 C.2.1 C.2.2.2.2.2.2.2.2.1 hin C.2.2.2.2.2.1 C.K (h3.one hh) 0 rfl hc fk hk (C.2.2.2.2.2.2.2.2.1 _ q) (fun x h9 => by rw [← hs]; exact h9) hv d (k H locs la h1 h2 h3 h4 h5 h6)
theorem v_getvN (C : Cx X own cc nL ret he F L) {ref Cn host : String} {T : u_T} {N ci index a : Nat} (fk : Nat) {w : Value} (e : hF a ci fk h = some w) (hin : ∀ w ∈ u_ws Cn T N, w ∈ lw_all) (hc : clG[ci]? = some (Cn, T, N)) (hk : fk < N) (q : Jvm.Cond.fieldLinkNest own index ref (T fk).2.1 (T fk).2.2.1 host ∈ lw_tbl) (hs : (T fk).1 = ref) (d : decode cc pc = .ok (.getfield index, 3)) (k : V X h (pc + 3) ls (w :: st)) : V X h pc ls (.ref a :: st) := fun H locs la h1 h2 h3 h4 h5 h6 => by
  obtain ⟨fs, hh, hv⟩ := hF_inv e
  exact va_getN (ci := ci) (v := w) (C := Cn) (T := T) (N := N) C.1 C.2.1 C.2.2.2.2.2.2.2.2.1 hin C.2.2.2.2.2.1 C.K (h3.one hh) 0 rfl hc fk hk (va_Nw.warmF C.2.2.2.2.2.2.2.1.1 (va_Nw.of rfl (C.2.2.2.2.2.2.1.2.1 _ q))) (fun x h9 => by rw [← hs]; exact h9) hv d (k H locs la h1 h2 h3 h4 h5 h6)
theorem v_gI (C : Cx X own cc nL ret he F L) {ref Cn : String} {T : u_T} {N ci index a fk : Nat} {k : Int32 → hM α} (hf : (mb (gI a ci fk) k).1 h = some (v, hr)) (hin : ∀ w ∈ u_ws Cn T N, w ∈ lw_all) (hc : clG[ci]? = some (Cn, T, N)) (hk : fk < N) (q : Jvm.Cond.fieldLink own index ref (T fk).2.1 (T fk).2.2.1 ∈ lw_all) (hs : (T fk).1 = ref) (d : decode cc pc = .ok (.getfield index, 3)) (kk : ∀ x : Int32, (k x).1 h = some (v, hr) → V X h (pc + 3) ls (.int x :: st)) : V X h pc ls (.ref a :: st) := by
  obtain ⟨x, h1, e1, e2, -⟩ := mb_inv hf (hle.rf hr)
  obtain ⟨e3, rfl⟩ := mrd_inv e1
  obtain ⟨w, e4, e5⟩ := Option.bind_eq_some_iff.mp e3
  rw [vI_inv e5] at e4
  exact v_getv C fk e4 hin hc hk q hs d (kk x e2)
theorem v_gIN (C : Cx X own cc nL ret he F L) {ref Cn host : String} {T : u_T} {N ci index a fk : Nat} {k : Int32 → hM α} (hf : (mb (gI a ci fk) k).1 h = some (v, hr)) (hin : ∀ w ∈ u_ws Cn T N, w ∈ lw_all) (hc : clG[ci]? = some (Cn, T, N)) (hk : fk < N) (q : Jvm.Cond.fieldLinkNest own index ref (T fk).2.1 (T fk).2.2.1 host ∈ lw_tbl) (hs : (T fk).1 = ref) (d : decode cc pc = .ok (.getfield index, 3)) (kk : ∀ x : Int32, (k x).1 h = some (v, hr) → V X h (pc + 3) ls (.int x :: st)) : V X h pc ls (.ref a :: st) := by
  obtain ⟨x, h1, e1, e2, -⟩ := mb_inv hf (hle.rf hr)
  obtain ⟨e3, rfl⟩ := mrd_inv e1
  obtain ⟨w, e4, e5⟩ := Option.bind_eq_some_iff.mp e3
  rw [vI_inv e5] at e4
  exact v_getvN C fk e4 hin hc hk q hs d (kk x e2)
theorem v_gL (C : Cx X own cc nL ret he F L) {ref Cn : String} {T : u_T} {N ci index a fk : Nat} {k : Int64 → hM α} (hf : (mb (gL a ci fk) k).1 h = some (v, hr)) (hin : ∀ w ∈ u_ws Cn T N, w ∈ lw_all) (hc : clG[ci]? = some (Cn, T, N)) (hk : fk < N) (q : Jvm.Cond.fieldLink own index ref (T fk).2.1 (T fk).2.2.1 ∈ lw_all) (hs : (T fk).1 = ref) (d : decode cc pc = .ok (.getfield index, 3)) (kk : ∀ x : Int64, (k x).1 h = some (v, hr) → V X h (pc + 3) ls (.long x :: st)) : V X h pc ls (.ref a :: st) := by
  obtain ⟨x, h1, e1, e2, -⟩ := mb_inv hf (hle.rf hr)
  obtain ⟨e3, rfl⟩ := mrd_inv e1
  obtain ⟨w, e4, e5⟩ := Option.bind_eq_some_iff.mp e3
  rw [vL_inv e5] at e4
  exact v_getv C fk e4 hin hc hk q hs d (kk x e2)
theorem v_gLN (C : Cx X own cc nL ret he F L) {ref Cn host : String} {T : u_T} {N ci index a fk : Nat} {k : Int64 → hM α} (hf : (mb (gL a ci fk) k).1 h = some (v, hr)) (hin : ∀ w ∈ u_ws Cn T N, w ∈ lw_all) (hc : clG[ci]? = some (Cn, T, N)) (hk : fk < N) (q : Jvm.Cond.fieldLinkNest own index ref (T fk).2.1 (T fk).2.2.1 host ∈ lw_tbl) (hs : (T fk).1 = ref) (d : decode cc pc = .ok (.getfield index, 3)) (kk : ∀ x : Int64, (k x).1 h = some (v, hr) → V X h (pc + 3) ls (.long x :: st)) : V X h pc ls (.ref a :: st) := by
  obtain ⟨x, h1, e1, e2, -⟩ := mb_inv hf (hle.rf hr)
  obtain ⟨e3, rfl⟩ := mrd_inv e1
  obtain ⟨w, e4, e5⟩ := Option.bind_eq_some_iff.mp e3
  rw [vL_inv e5] at e4
  exact v_getvN C fk e4 hin hc hk q hs d (kk x e2)
theorem v_gR (C : Cx X own cc nL ret he F L) {ref Cn : String} {T : u_T} {N ci index a fk : Nat} {k : Nat → hM α} (hf : (mb (gR a ci fk) k).1 h = some (v, hr)) (hin : ∀ w ∈ u_ws Cn T N, w ∈ lw_all) (hc : clG[ci]? = some (Cn, T, N)) (hk : fk < N) (q : Jvm.Cond.fieldLink own index ref (T fk).2.1 (T fk).2.2.1 ∈ lw_all) (hs : (T fk).1 = ref) (d : decode cc pc = .ok (.getfield index, 3)) (kk : ∀ x : Nat, (k x).1 h = some (v, hr) → V X h (pc + 3) ls (.ref x :: st)) : V X h pc ls (.ref a :: st) := by
  obtain ⟨x, h1, e1, e2, -⟩ := mb_inv hf (hle.rf hr)
  obtain ⟨e3, rfl⟩ := mrd_inv e1
  obtain ⟨w, e4, e5⟩ := Option.bind_eq_some_iff.mp e3
  rw [vR_inv e5] at e4
  exact v_getv C fk e4 hin hc hk q hs d (kk x e2)
theorem v_gRN (C : Cx X own cc nL ret he F L) {ref Cn host : String} {T : u_T} {N ci index a fk : Nat} {k : Nat → hM α} (hf : (mb (gR a ci fk) k).1 h = some (v, hr)) (hin : ∀ w ∈ u_ws Cn T N, w ∈ lw_all) (hc : clG[ci]? = some (Cn, T, N)) (hk : fk < N) (q : Jvm.Cond.fieldLinkNest own index ref (T fk).2.1 (T fk).2.2.1 host ∈ lw_tbl) (hs : (T fk).1 = ref) (d : decode cc pc = .ok (.getfield index, 3)) (kk : ∀ x : Nat, (k x).1 h = some (v, hr) → V X h (pc + 3) ls (.ref x :: st)) : V X h pc ls (.ref a :: st) := by
  obtain ⟨x, h1, e1, e2, -⟩ := mb_inv hf (hle.rf hr)
  obtain ⟨e3, rfl⟩ := mrd_inv e1
  obtain ⟨w, e4, e5⟩ := Option.bind_eq_some_iff.mp e3
  rw [vR_inv e5] at e4
  exact v_getvN C fk e4 hin hc hk q hs d (kk x e2)
theorem v_gQ (C : Cx X own cc nL ret he F L) {ref Cn : String} {T : u_T} {N ci index a fk : Nat} {k : Option Nat → hM α} (hf : (mb (gQ a ci fk) k).1 h = some (v, hr)) (hin : ∀ w ∈ u_ws Cn T N, w ∈ lw_all) (hc : clG[ci]? = some (Cn, T, N)) (hk : fk < N) (q : Jvm.Cond.fieldLink own index ref (T fk).2.1 (T fk).2.2.1 ∈ lw_all) (hs : (T fk).1 = ref) (d : decode cc pc = .ok (.getfield index, 3)) (kk : ∀ x : Option Nat, (k x).1 h = some (v, hr) → V X h (pc + 3) ls (va_rf x :: st)) : V X h pc ls (.ref a :: st) := by
  obtain ⟨x, h1, e1, e2, -⟩ := mb_inv hf (hle.rf hr)
  obtain ⟨e3, rfl⟩ := mrd_inv e1
  obtain ⟨w, e4, e5⟩ := Option.bind_eq_some_iff.mp e3
  rw [vQ_inv e5] at e4
  exact v_getv C fk e4 hin hc hk q hs d (kk x e2)
theorem v_gQN (C : Cx X own cc nL ret he F L) {ref Cn host : String} {T : u_T} {N ci index a fk : Nat} {k : Option Nat → hM α} (hf : (mb (gQ a ci fk) k).1 h = some (v, hr)) (hin : ∀ w ∈ u_ws Cn T N, w ∈ lw_all) (hc : clG[ci]? = some (Cn, T, N)) (hk : fk < N) (q : Jvm.Cond.fieldLinkNest own index ref (T fk).2.1 (T fk).2.2.1 host ∈ lw_tbl) (hs : (T fk).1 = ref) (d : decode cc pc = .ok (.getfield index, 3)) (kk : ∀ x : Option Nat, (k x).1 h = some (v, hr) → V X h (pc + 3) ls (va_rf x :: st)) : V X h pc ls (.ref a :: st) := by
  obtain ⟨x, h1, e1, e2, -⟩ := mb_inv hf (hle.rf hr)
  obtain ⟨e3, rfl⟩ := mrd_inv e1
  obtain ⟨w, e4, e5⟩ := Option.bind_eq_some_iff.mp e3
  rw [vQ_inv e5] at e4
  exact v_getvN C fk e4 hin hc hk q hs d (kk x e2)
theorem va_nar_ref (t : FieldType) (x : Nat) : narrow t (.ref x) = .ref x := by cases t <;> rfl
theorem va_nar_null (t : FieldType) : narrow t .null = .null := by cases t <;> rfl
end VR
