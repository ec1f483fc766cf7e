/-! ===== a superclass's method; same objects; lookup switches; null tested; classes asked and cast ===== -/
set_option maxRecDepth 100000
/-- null, or an object -/
def mq {α : Type} (x : Option Nat) (a : hM α) (b : Nat → hM α) : hM α := match x with
  | none => a
  | some y => b y
/-- an object of class number ci: what instanceof answers, and a cast -/
def mic (ci a : Nat) : hM Int32 := mat a ci (mret 1)
def mcc (ci a : Nat) : hM Unit := mat a ci (mret ())
def lswN (x : Int32) : List (Int × Int) → Prop
  | [] => True
  | p :: t => ¬ x.toInt = p.1 ∧ lswN x t
theorem lsw_out {x : Int32} {d : Int} : ∀ (l : List (Int × Int)), lswN x l → Op.lookupswitch.offset l d x.toInt = d
  | [], _ => rfl
  | (a, o) :: t, hh => by
    rw [Op.lookupswitch.offset_cons, if_neg (fun e => hh.1 e.symm)]
    exact lsw_out t hh.2
section V7
variable {X : hX} {own : String} {cc : ByteArray} {nL : Nat} {ret : Option FieldType} {he : Hp} {F L : Nat} {h hr : Hp} {pc : Nat} {ls ls' : List (Nat × Value)} {st : List Value} {α β : Type} {v : α}
theorem v_callSU (C : Cx X own cc nL ret he F L) {y : MethodName} {bytes : ByteArray} {maxL F2 L2 index n : Nat} {ret2 : Option FieldType} {rv : β → Option Value} {vs : List Value} {xx : hM β} {k : β → hM α} {stk : β → List Value} {ci a : Nat} {r : vw_C} (ct : CT X.2.1 y bytes maxL ret2 F2 L2 rv (.ref a :: vs) xx) (hc : clG[ci]? = some r) (hnd : y.name ≠ "<init>" ∧ (parseMethodDescriptor y.desc).map (fun d => d.parameters.length) = some n) (hn : vs.length = n) (hF : F2 + 1 ≤ F) (hL : 8 + (maxL + 11) + L2 ≤ L) (rest : List Value) (hcat : (rest.map fun v => v.category).sum ≤ 8) (hstk : ∀ b, (rv b).toList ++ rest = stk b) (hst : st = vs.reverse ++ .ref a :: rest)
    (w1 : Jvm.Cond.methodLink own index y ∈ lw_all) (w2 : Jvm.Cond.sameMethod y.cls y.cls y.name y.desc ∈ lw_all) (w3 : Jvm.Cond.superclass own y.cls ∈ lw_all) (w4 : Jvm.Cond.instanceMethod y ∈ lw_all) (w5 : Jvm.Cond.initialized y.cls ∈ lw_all) (w6 : Jvm.Cond.code y bytes maxL ret2 ∈ lw_all) (hf : (mb (mat a ci xx) k).1 h = some (v, hr)) (hl : hle hr he) (d : decode cc pc = .ok (.invokespecial index, 3)) (kk : ∀ (b : β) (h1 : Hp), (k b).1 h1 = some (v, hr) → V X h1 (pc + 3) ls (stk b)) : V X h pc ls st := by
  subst hst
  obtain ⟨⟨fs, ha⟩, hf⟩ := mat_inv hf
  have hGI : GoodIn lw_all (va_wsSU own index y (ws_ y bytes maxL ret2)) := by
    refine lw_app ?_ (lw_meth w6)
    intro w hw
    simp only [List.mem_cons, List.not_mem_nil, or_false] at hw
    rcases hw with e | e | e | e | e
    · rw [e]; exact w1
    · rw [e]; exact w2
    · rw [e]; exact w3
    · rw [e]; exact w4
    · rw [e]; exact w5
  exact v_back C 3 (ar := (Value.ref a :: vs).toArray) hstk hf hl (fun b h1 H locs la e1 l0 l1 q1 q2 q3 q4 hz => va_runSU (C.K.1 ci r hc).2 ⟨C.1, C.2.1, C.2.2.1, C.2.2.2.2.2.1, C.2.2.2.2.2.2.2.2.1⟩ (ct _ C.2.2.2.2.2.2.1 h h1 b e1) (va_cwSU n C.2.2.2.2.2.2.2.2.1 hGI rfl rfl rfl hnd (by rw [C.2.2.2.2.2.2.2.2.2]; exact ⟨hF, hL⟩)) ⟨FrameBlind_Wd, va_recv (D := (X.2.2.2.2.2.2.2.2.2.2.1.2.2.1, X.2.2.2.2.2.2.2.2.2.2.1.2.2.2.1)) C.K (q3.one ha) hc (q0 := 0) rfl, fun U hU hW => ⟨rfl, Wd_at C q1 q2 q3 q4 hU hW⟩⟩ rfl hn hz rfl (lv_room hcat) d (by rw [C.2.2.2.2.2.2.2.2.2]; have a1 := q2.1; have a2 := l0.1; have a3 := q2.2.1; have a4 := l0.2.1; have a5 := l1.1; have a6 := l1.2.1; exact ⟨by show _ ≤ he.2.1 - _; omega, by show _ ≤ he.2.2.1 - _; omega⟩)) kk
theorem v_acmp_eq (C : Cx X own cc nL ret he F L) {x y : Nat} {a b : hM α} (hf : (mi (x = y) a b).1 h = some (v, hr)) {off : Int} {tgt : Nat} (d : decode cc pc = .ok (.if_acmp .eq off, 3)) (ht : (pc : Int) + off = (tgt : Int)) (kt : x = y → a.1 h = some (v, hr) → V X h tgt ls st) (kf : ¬ x = y → b.1 h = some (v, hr) → V X h (pc + 3) ls st) : V X h pc ls (.ref y :: .ref x :: st) := fun H locs la h1 h2 h3 h4 h5 h6 => lv_acmp_eq (rx := some x) (ry := some y) C.1 C.2.1 d ht (fun e => (kt (Option.some.inj e) (mi_pos (Option.some.inj e) hf)) H locs la h1 h2 h3 h4 h5 h6) (fun e => (kf (fun z => e (congrArg some z)) (mi_neg (fun z => e (congrArg some z)) hf)) H locs la h1 h2 h3 h4 h5 h6)
theorem v_acmp_ne (C : Cx X own cc nL ret he F L) {x y : Nat} {a b : hM α} (hf : (mi (¬ x = y) a b).1 h = some (v, hr)) {off : Int} {tgt : Nat} (d : decode cc pc = .ok (.if_acmp .ne off, 3)) (ht : (pc : Int) + off = (tgt : Int)) (kt : ¬ x = y → a.1 h = some (v, hr) → V X h tgt ls st) (kf : x = y → b.1 h = some (v, hr) → V X h (pc + 3) ls st) : V X h pc ls (.ref y :: .ref x :: st) := fun H locs la h1 h2 h3 h4 h5 h6 => lv_acmp_ne (rx := some x) (ry := some y) C.1 C.2.1 d ht (fun e => (kt (fun z => e (congrArg some z)) (mi_pos (c := ¬ x = y) (fun z => e (congrArg some z)) hf)) H locs la h1 h2 h3 h4 h5 h6) (fun e => (kf (Option.some.inj e) (by have e' := Option.some.inj e; exact mi_neg (not_not_intro e') hf)) H locs la h1 h2 h3 h4 h5 h6)
theorem v_lswI (C : Cx X own cc nL ret he F L) {x k : Int32} (e : x = k) {dflt : Int} {ps : Array (Int × Int)} {len : Nat} {off : Int} {tgt : Nat} (d : decode cc pc = .ok (.lookupswitch dflt ps, len)) (hp : (ps.toList.zip (ps.toList.drop 1)).all (fun (a, next) => a.1 < next.1) = true) (ho : Op.lookupswitch.offset ps.toList dflt k.toInt = off) (ht : (pc : Int) + off = (tgt : Int)) (kk : V X h tgt ls st) : V X h pc ls (.int x :: st) := fun H locs la h1 h2 h3 h4 h5 h6 => by
  subst e
  exact lv_lookup C.1 C.2.1 d hp ho ht (kk H locs la h1 h2 h3 h4 h5 h6)
theorem v_lswO (C : Cx X own cc nL ret he F L) {x : Int32} {dflt : Int} {ps : Array (Int × Int)} {len : Nat} {tgt : Nat} (d : decode cc pc = .ok (.lookupswitch dflt ps, len)) (e : lswN x ps.toList) (hp : (ps.toList.zip (ps.toList.drop 1)).all (fun (a, next) => a.1 < next.1) = true) (ht : (pc : Int) + dflt = (tgt : Int)) (kk : V X h tgt ls st) : V X h pc ls (.int x :: st) := fun H locs la h1 h2 h3 h4 h5 h6 => lv_lookup C.1 C.2.1 d hp (lsw_out _ e) ht (kk H locs la h1 h2 h3 h4 h5 h6)
theorem v_ifnullq (C : Cx X own cc nL ret he F L) {x : Option Nat} {a : hM α} {b : Nat → hM α} (hf : (mq x a b).1 h = some (v, hr)) {off : Int} {tgt : Nat} (d : decode cc pc = .ok (.ifnull off, 3)) (ht : (pc : Int) + off = (tgt : Int)) (kt : x = none → a.1 h = some (v, hr) → V X h tgt ls st) (kf : ∀ y, x = some y → (b y).1 h = some (v, hr) → V X h (pc + 3) ls st) : V X h pc ls (va_rf x :: st) := fun H locs la h1 h2 h3 h4 h5 h6 => by
  cases x with
  | none => exact lv_ifnullN C.1 C.2.1 d ht ((kt rfl hf) H locs la h1 h2 h3 h4 h5 h6)
  | some x => exact lv_ifnull C.1 C.2.1 d ((kf x rfl hf) H locs la h1 h2 h3 h4 h5 h6)
theorem v_ifnonnullq (C : Cx X own cc nL ret he F L) {x : Option Nat} {a : hM α} {b : Nat → hM α} (hf : (mq x a b).1 h = some (v, hr)) {off : Int} {tgt : Nat} (d : decode cc pc = .ok (.ifnonnull off, 3)) (ht : (pc : Int) + off = (tgt : Int)) (kt : ∀ y, x = some y → (b y).1 h = some (v, hr) → V X h tgt ls st) (kf : x = none → a.1 h = some (v, hr) → V X h (pc + 3) ls st) : V X h pc ls (va_rf x :: st) := fun H locs la h1 h2 h3 h4 h5 h6 => by
  cases x with
  | none => exact lv_ifnonnullN C.1 C.2.1 d ((kf rfl hf) H locs la h1 h2 h3 h4 h5 h6)
  | some x => exact lv_ifnonnull C.1 C.2.1 d ht ((kt x rfl hf) H locs la h1 h2 h3 h4 h5 h6)
theorem v_ifnullR (C : Cx X own cc nL ret he F L) {x : Nat} {off : Int} (d : decode cc pc = .ok (.ifnull off, 3)) (kk : V X h (pc + 3) ls st) : V X h pc ls (.ref x :: st) := fun H locs la h1 h2 h3 h4 h5 h6 => lv_ifnull C.1 C.2.1 d (kk H locs la h1 h2 h3 h4 h5 h6)
theorem v_ifnonnullR (C : Cx X own cc nL ret he F L) {x : Nat} {off : Int} {tgt : Nat} (d : decode cc pc = .ok (.ifnonnull off, 3)) (ht : (pc : Int) + off = (tgt : Int)) (kk : V X h tgt ls st) : V X h pc ls (.ref x :: st) := fun H locs la h1 h2 h3 h4 h5 h6 => lv_ifnonnull C.1 C.2.1 d ht (kk H locs la h1 h2 h3 h4 h5 h6)
theorem v_insto (C : Cx X own cc nL ret he F L) {ci a index : Nat} {r : vw_C} {k : Int32 → hM α} (hf : (mb (mic ci a) k).1 h = some (v, hr)) (hc : clG[ci]? = some r) (q : Jvm.Cond.classLink own index r.1 ∈ lw_all) (d : decode cc pc = .ok (.instanceof index, 3)) (kk : (k 1).1 h = some (v, hr) → V X h (pc + 3) ls (.int 1 :: st)) : V X h pc ls (.ref a :: st) := by
  unfold mic at hf
  obtain ⟨⟨fs, ha⟩, hf⟩ := mat_inv hf
  rw [mb_ret] at hf
  exact fun H locs la q1 q2 q3 q4 q5 q6 => va_instE C.1 C.2.1 C.2.2.2.2.2.1 (C.2.2.2.2.2.2.2.2.1 _ q) (va_recv (D := (X.2.2.2.2.2.2.2.2.2.2.1.2.2.1, X.2.2.2.2.2.2.2.2.2.2.1.2.2.2.1)) C.K (q3.one ha) hc (q0 := 0) rfl) d (kk hf H locs la q1 q2 q3 q4 q5 q6)
theorem v_casto (C : Cx X own cc nL ret he F L) {ci a index : Nat} {r : vw_C} {k : Unit → hM α} (hf : (mb (mcc ci a) k).1 h = some (v, hr)) (hc : clG[ci]? = some r) (q : Jvm.Cond.classLink own index r.1 ∈ lw_all) (d : decode cc pc = .ok (.checkcast index, 3)) (kk : (k ()).1 h = some (v, hr) → V X h (pc + 3) ls (.ref a :: st)) : V X h pc ls (.ref a :: st) := by
  unfold mcc at hf
  obtain ⟨⟨fs, ha⟩, hf⟩ := mat_inv hf
  rw [mb_ret] at hf
  exact fun H locs la q1 q2 q3 q4 q5 q6 => va_castE C.1 C.2.1 C.2.2.2.2.2.1 (C.2.2.2.2.2.2.2.2.1 _ q) (va_recv (D := (X.2.2.2.2.2.2.2.2.2.2.1.2.2.1, X.2.2.2.2.2.2.2.2.2.2.1.2.2.2.1)) C.K (q3.one ha) hc (q0 := 0) rfl) d (kk hf H locs la q1 q2 q3 q4 q5 q6)
/-- an array of bytes, copied whole -/
def clf (a : Nat) (h : Hp) : Option (Nat × Hp) := match h.1 a with
  | some (.inl (k, n, .inl f)) => if k = 0 ∧ (List.range n).all (fun i => fits .byte (.int (f i))) = true then mnewf (.inl (0, n, .inl f)) n h else none
  | _ => none
theorem clf_inv {a b : Nat} {h h' : Hp} (e : clf a h = some (b, h')) : ∃ n f, h.1 a = some (.inl (0, n, .inl f)) ∧ (∀ i, i < n → fits .byte (.int (f i)) = true) ∧ mnewf (.inl (0, n, .inl f)) n h = some (b, h') := by
  unfold clf at e
  split at e
  · rename_i k n f hh
    split at e
    · rename_i hc
      obtain ⟨rfl, hc⟩ := hc
      exact ⟨n, f, hh, fun i hi => List.all_eq_true.mp hc i (List.mem_range.mpr hi), e⟩
    · cases e
  · cases e
def clB (a : Nat) : hM Nat := ⟨clf a, fun h b h' e => by
  obtain ⟨n, f, -, -, e1⟩ := clf_inv e
  exact (mnew _ _).2 _ _ _ e1⟩
theorem v_clB (C : Cx X own cc nL ret he F L) {a index : Nat} {k : Nat → hM α} (hf : (mb (clB a) k).1 h = some (v, hr)) (hl : hle hr he) (hF : 1 ≤ F) (hL : (st.map fun v => v.category).sum + 14 ≤ L)
    (w1 : Jvm.Cond.methodLink own index ⟨"[B", "clone", "()Ljava/lang/Object;"⟩ ∈ lw_all) (w2 : Jvm.Cond.sameMethod "[B" "java/lang/Object" "clone" "()Ljava/lang/Object;" ∈ lw_all) (w3 : Jvm.Cond.native ⟨"java/lang/Object", "clone", "()Ljava/lang/Object;"⟩ ∈ lw_all) (w4 : Jvm.Cond.instanceMethod ⟨"java/lang/Object", "clone", "()Ljava/lang/Object;"⟩ ∈ lw_all) (w5 : Jvm.Cond.selects "[B" ⟨"[B", "clone", "()Ljava/lang/Object;"⟩ ⟨"java/lang/Object", "clone", "()Ljava/lang/Object;"⟩ ∈ lw_all) (w6 : Jvm.Cond.castable "[B" "java/lang/Cloneable" ∈ lw_tbl) (d : decode cc pc = .ok (.invokevirtual index, 3)) (kk : ∀ (b : Nat) (h1 : Hp), (k b).1 h1 = some (v, hr) → V X h1 (pc + 3) ls (.ref b :: st)) : V X h pc ls (.ref a :: st) := by
  obtain ⟨b, h1, e1, e2, l1⟩ := mb_inv hf hl
  obtain ⟨n, f, g1, hfit, e3⟩ := clf_inv e1
  obtain ⟨rfl, rfl, -⟩ := mnewf_inv e3
  intro H locs la q1 q2 q3 q4 q5 q6
  have hts := C.2.2.2.2.2.2.2.2.1
  have hK := C.K
  have hR := C.2.2.2.2.2.2.2.2.2
  have l2 : h.2.1 + 1 ≤ he.2.1 := l1.1
  have l3 : h.2.2.1 + n ≤ he.2.2.1 := l1.2.1
  have l4 := q2.1
  have l5 := q2.2.1
  have hcell : H[a]? = some (vp_cell (X.2.2.2.2.2.2.2.2.2.2.1.2.2.2.2.1 0) (n, .inl f)) := q3 a _ g1
  have hnm : X.2.2.2.2.1.vm.findClass "[B" = some (X.2.2.2.2.2.2.2.2.2.2.1.2.2.2.2.1 0) := (hK.2 0 _ rfl).2
  obtain ⟨c0, t0', f1, f2, f3⟩ := Cond.castable_spec (va_Nw.use (A := X.2.2.2.2.2.2.1) rfl (va_Nw.warmC C.2.2.2.2.2.2.2.1.1 (va_Nw.of rfl (C.2.2.2.2.2.2.1.2.1 _ w6))))
  cases hnm.symm.trans f1
  intro T hT XX
  have hcellT : T.heap[a]? = some (vp_cell (X.2.2.2.2.2.2.2.2.2.2.1.2.2.2.2.1 0) (n, .inl f)) := by rw [hT]; exact hcell
  have hsz : (vp_cell (X.2.2.2.2.2.2.2.2.2.2.1.2.2.2.2.1 0) (n, .inl f)).slots.size = n := arrV_size _ _ _
  obtain ⟨-, kA, hkA, comp, hkind⟩ := State.isArrayOf_alike XX.warmed.alike ((hK.2 0 _ rfl).1 0 (fun _ => .null))
  obtain ⟨-, kS, hkS, compS, hkindS⟩ := (hK.2 0 _ rfl).1 0 (fun _ => .null)
  obtain ⟨vm', X', sts⟩ := XX.cloneArray C.1 C.2.2.2.2.2.1 (hts _ w1) (hts _ w2) (hts _ w3) (hts _ w4) (hts _ w5) (a := a) (cell := vp_cell (X.2.2.2.2.2.2.2.2.2.2.1.2.2.2.2.1 0) (n, .inl f)) hcellT (fun k h => by cases h) (fun h => by cases h) hnm f2 f3
    (fun i v hv => by
      have hk' : T.vm.classes[X.2.2.2.2.2.2.2.2.2.2.1.2.2.2.2.1 0]? = some kA := hkA
      have hi : i < n := by
        have := (Array.getElem?_eq_some_iff.mp hv).1
        rw [hsz] at this; exact this
      have hv2 : v = .int (f i) := by
        have hv3 : (arrV (X.2.2.2.2.2.2.2.2.2.2.1.2.2.2.2.1 0) n (fun j => Value.int (f j))).slots[i]? = some v := hv
        rw [arrV_read _ _ hi] at hv3
        exact (Option.some.inj hv3).symm
      subst hv2
      have := hfit i hi
      show T.fitsSlot (X.2.2.2.2.2.2.2.2.2.2.1.2.2.2.2.1 0) .none i _ = true
      simpa [State.fitsSlot, State.slotType?, hk', hkind] using this)
    (g := F0 X.2.2.2.2.2.1 pc la (.ref a :: st)) rfl q6.1 rfl (by rw [C.2.1]; exact d) (by rw [hR]; exact hF) (by rw [hR]; show 2 * 0 + _ + 14 ≤ L; omega) (by rw [hR]; show _ + 1 ≤ he.2.1 - _; omega) (by rw [hR, hsz]; show _ + n ≤ he.2.2.1 - _; omega) (hloader := Vm.clonesLoader_of_array hkS hkindS)
  rw [hsz] at X'
  generalize hH1 : H.push (vp_cell (X.2.2.2.2.2.2.2.2.2.2.1.2.2.2.2.1 0) (n, .inl f)) = H1
  have z1 : H1.size = H.size + 1 := by rw [← hH1, Array.size_push]
  have e1 : H1[H.size]? = some (vp_cell (X.2.2.2.2.2.2.2.2.2.2.1.2.2.2.2.1 0) (n, .inl f)) := by rw [← hH1, Array.getElem?_push_size]
  have o1 : ∀ q : Nat, q < H.size → H1[q]? = H[q]? := fun q hq => by rw [← hH1, Array.getElem?_push, if_neg (Nat.ne_of_lt hq)]
  have hfr := q3.fresh q1
  have K : W X.1 X.2.1 X.2.2.1 X.2.2.2.1 X.2.2.2.2.1 X.2.2.2.2.2.1 X.2.2.2.2.2.2.1 X.2.2.2.2.2.2.2.1 X.2.2.2.2.2.2.2.2.1 X.2.2.2.2.2.2.2.2.2.1 H1 locs (h.2.1 - X.2.2.2.2.2.2.2.2.2.2.2.2.2.1 + 1) (h.2.2.1 - X.2.2.2.2.2.2.2.2.2.2.2.2.2.2.1 + n) X.2.2.2.2.2.2.2.2.2.2.2.1 (F0 X.2.2.2.2.2.1 (pc + 3) la (.ref H.size :: st)) := by
    rw [q1]
    refine W.cs ?_ ?_ (kk _ _ e2 H1 locs la (by rw [z1, q1]; rfl) (q2.tr (hnew_le hfr)) (q3.new q1 ?_ o1) (fun q hq => ?_) q5 q6)
    · show h.2.1 - _ + 1 = h.2.1 + 1 - _; omega
    · show h.2.2.1 - _ + n = h.2.2.1 + n - _; omega
    · rw [q1] at e1; exact e1
    · rw [o1 q (by rw [q1]; exact Nat.lt_of_lt_of_le hq (Nat.le_trans C.2.2.2.2.2.2.2.1.2.2.2.2.1 q2.1))]
      exact q4 q hq
  obtain ⟨t, b1, b2⟩ := K _ (by rw [← hH1, ← hT]; rfl) X'
  exact ⟨t, sts t (by rw [hT]; exact b1), b2⟩
end V7
theorem mnn_inv {β : Type} {q : Option Nat} {k : Nat → hM β} {h h' : Hp} {b : β} (e : (mb (mnn q) k).1 h = some (b, h')) : ∃ y, q = some y ∧ (k y).1 h = some (b, h') := by
  obtain ⟨y, h1, e1, e2, -⟩ := mb_inv e (hle.rf h')
  cases q with
  | none => exact mfail_inv e1
  | some y =>
    obtain ⟨rfl, rfl⟩ := mret_inv e1
    exact ⟨_, rfl, e2⟩
