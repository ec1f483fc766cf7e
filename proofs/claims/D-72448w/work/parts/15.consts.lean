/-! ===== arrays' classes asked and cast; copies; constants ===== -/
set_option maxRecDepth 100000
/-- whether an array is of a kind (bytes, ints, shorts, longs) -/
def mia (kd a : Nat) : hM Int32 := mrd fun h => match h.1 a with
  | some (.inl (k, _)) => if k = 0 ∨ k = 1 ∨ k = 4 ∨ k = 5 then some (if k = kd then 1 else 0) else none
  | _ => none
def mca (kd a : Nat) : hM Unit := mrd fun h => match h.1 a with
  | some (.inl (k, _)) => if k = kd then some () else none
  | _ => none
def nmK (kd : Nat) : String := match kd with
  | 0 => "[B"
  | 1 => "[I"
  | 4 => "[S"
  | _ => "[J"
def kd4 (k : Nat) : Prop := k = 0 ∨ k = 1 ∨ k = 4 ∨ k = 5
theorem nc_arr {l : Launch} {G : hG} (h : okG l G) {a b : Nat} (ha : kd4 a) (hb : kd4 b) (hn : a ≠ b) : va_Nc (nmK a) (nmK b) G.1 := by
  rcases ha with rfl | rfl | rfl | rfl <;> rcases hb with rfl | rfl | rfl | rfl <;> first | exact absurd rfl hn | exact va_Nc.of (nw_at h (by decide +kernel))
theorem fc_arr {dA : Nat → ClassId} {D : va_G} {U : State} (hK : va_K D clG (tyG dA) U) {k : Nat} (hk : kd4 k) : U.vm.findClass (nmK k) = some (dA k) := by
  rcases hk with rfl | rfl | rfl | rfl
  · exact (hK.2 0 _ rfl).2
  · exact (hK.2 1 _ rfl).2
  · exact (hK.2 4 _ rfl).2
  · exact (hK.2 5 _ rfl).2
theorem arr_cls (cA : ClassId) (x : vp_A) : (vp_cell cA x).cls = cA ∧ (vp_cell cA x).vm.isStatics = false := by
  obtain ⟨n, f | f | f | f | f⟩ := x <;> exact ⟨rfl, rfl⟩
section VK
variable {X : hX} {own : String} {cc : ByteArray} {nL : Nat} {ret : Option FieldType} {he : Hp} {F L : Nat} {h hr : Hp} {pc : Nat} {ls ls' : List (Nat × Value)} {st : List Value} {α β : Type} {v : α}
theorem v_insta (C : Cx X own cc nL ret he F L) {kd a index : Nat} {k : Int32 → hM α} (hf : (mb (mia kd a) k).1 h = some (v, hr)) (hkd : kd4 kd) (q : Jvm.Cond.classLink own index (nmK kd) ∈ lw_all) (d : decode cc pc = .ok (.instanceof index, 3)) (kk : ∀ x : Int32, (k x).1 h = some (v, hr) → V X h (pc + 3) ls (.int x :: st)) : V X h pc ls (.ref a :: st) := by
  obtain ⟨x, h1, e1, e2, -⟩ := mb_inv hf (hle.rf hr)
  obtain ⟨e3, rfl⟩ := mrd_inv e1
  split at e3
  · rename_i k2 y hh
    by_cases hk : k2 = 0 ∨ k2 = 1 ∨ k2 = 4 ∨ k2 = 5
    · rw [if_pos hk] at e3
      cases e3
      intro H locs la q1 q2 q3 q4 q5 q6
      have hc := fc_arr C.K hk
      have hr : ∃ cell : Cell, H[a]? = some cell ∧ cell.vm.isStatics = false ∧ X.2.2.2.2.1.vm.findClass (nmK k2) = some cell.cls := ⟨_, q3 a _ hh, (arr_cls _ _).2, hc.trans (by rw [(arr_cls _ _).1])⟩
      by_cases hkk : k2 = kd
      · rw [if_pos hkk] at e2
        have K := kk 1 e2 H locs la q1 q2 q3 q4 q5 q6
        rw [hkk] at hr
        exact va_instE C.1 C.2.1 C.2.2.2.2.2.1 (C.2.2.2.2.2.2.2.2.1 _ q) hr d K
      · rw [if_neg hkk] at e2
        have K := kk 0 e2 H locs la q1 q2 q3 q4 q5 q6
        exact va_instNo C.1 C.2.1 C.2.2.2.2.2.1 (C.2.2.2.2.2.2.2.2.1 _ q) (va_Nc.moved C.2.2.2.2.2.2.2.1.1.alike (nc_arr C.2.2.2.2.2.2.1 hk hkd hkk)) hr d K
    · rw [if_neg hk] at e3; cases e3
  · cases e3
theorem v_casta (C : Cx X own cc nL ret he F L) {kd a index : Nat} {k : Unit → hM α} (hf : (mb (mca kd a) k).1 h = some (v, hr)) (hkd : kd4 kd) (q : Jvm.Cond.classLink own index (nmK kd) ∈ lw_all) (d : decode cc pc = .ok (.checkcast index, 3)) (kk : (k ()).1 h = some (v, hr) → V X h (pc + 3) ls (.ref a :: st)) : V X h pc ls (.ref a :: st) := by
  obtain ⟨x, h1, e1, e2, -⟩ := mb_inv hf (hle.rf hr)
  obtain ⟨e3, rfl⟩ := mrd_inv e1
  split at e3
  · rename_i k2 y hh
    by_cases hk : k2 = kd
    · subst hk
      intro H locs la q1 q2 q3 q4 q5 q6
      have hc := fc_arr C.K hkd
      exact va_castE C.1 C.2.1 C.2.2.2.2.2.1 (C.2.2.2.2.2.2.2.2.1 _ q) ⟨_, q3 a _ hh, (arr_cls _ _).2, hc.trans (by rw [(arr_cls _ _).1])⟩ d (kk e2 H locs la q1 q2 q3 q4 q5 q6)
    · rw [if_neg hk] at e3; cases e3
  · cases e3
end VK
/-- System.arraycopy of ints, bytes, ..: the cells are in range, what is copied fits -/
def cpIf (kd a0 : Nat) (sp : Int32) (a : Nat) (dp n : Int32) (h : Hp) : Option (Unit × Hp) := match h.1 a0, h.1 a with
  | some (.inl (k0, n0, .inl f)), some (.inl (k1, n1, .inl g)) => if k0 = kd ∧ k1 = kd ∧ (¬ sp < 0 ∧ ¬ dp < 0 ∧ ¬ n < 0) ∧ sp.toNatClampNeg + n.toNatClampNeg ≤ n0 ∧ dp.toNatClampNeg + n.toNatClampNeg ≤ n1 ∧ (List.range n.toNatClampNeg).all (fun i => fits (tyK kd) (.int (f (sp.toNatClampNeg + i)))) = true ∧ h.2.2.2.1 ≤ a then some ((), hset h a (.inl (kd, n1, .inl (va_cpy f g sp.toNatClampNeg dp.toNatClampNeg n.toNatClampNeg)))) else none
  | _, _ => none
theorem cpIf_inv {kd a0 a : Nat} {sp dp n : Int32} {h h' : Hp} {u : Unit} (e : cpIf kd a0 sp a dp n h = some (u, h')) : ∃ n0 f n1 g, h.1 a0 = some (.inl (kd, n0, .inl f)) ∧ h.1 a = some (.inl (kd, n1, .inl g)) ∧ (¬ sp < 0 ∧ ¬ dp < 0 ∧ ¬ n < 0) ∧ sp.toNatClampNeg + n.toNatClampNeg ≤ n0 ∧ dp.toNatClampNeg + n.toNatClampNeg ≤ n1 ∧ (∀ i, i < n.toNatClampNeg → fits (tyK kd) (.int (f (sp.toNatClampNeg + i))) = true) ∧ h.2.2.2.1 ≤ a ∧ h' = hset h a (.inl (kd, n1, .inl (va_cpy f g sp.toNatClampNeg dp.toNatClampNeg n.toNatClampNeg))) := by
  unfold cpIf at e
  split at e
  · rename_i k0 n0 f k1 n1 g g0 g1
    split at e
    · rename_i hc
      cases e
      obtain ⟨rfl, rfl, c1, c2, c3, c4, c5⟩ := hc
      exact ⟨n0, f, n1, g, g0, g1, c1, c2, c3, fun i hi => List.all_eq_true.mp c4 i (List.mem_range.mpr hi), c5, rfl⟩
    · cases e
  · cases e
def cpI (kd a0 : Nat) (sp : Int32) (a : Nat) (dp n : Int32) : hM Unit := ⟨cpIf kd a0 sp a dp n, fun h u h' e => by
  obtain ⟨n0, f, n1, g, g0, g1, -, -, -, -, -, rfl⟩ := cpIf_inv e
  exact hset_le g1 rfl⟩
def cpRf (kd ec a0 : Nat) (sp : Int32) (a : Nat) (dp n : Int32) (h : Hp) : Option (Unit × Hp) := match h.1 a0, h.1 a with
  | some (.inl (k0, n0, .inr (.inr (.inr (.inr f))))), some (.inl (k1, n1, .inr (.inr (.inr (.inr g))))) => if k0 = kd ∧ k1 = kd ∧ (¬ sp < 0 ∧ ¬ dp < 0 ∧ ¬ n < 0) ∧ sp.toNatClampNeg + n.toNatClampNeg ≤ n0 ∧ dp.toNatClampNeg + n.toNatClampNeg ≤ n1 ∧ (List.range n.toNatClampNeg).all (fun i => match f (sp.toNatClampNeg + i) with
      | none => true
      | some y => match h.1 y with
        | some (.inr (c, _)) => c == ec
        | _ => false) = true ∧ h.2.2.2.1 ≤ a then some ((), hset h a (.inl (kd, n1, .inr (.inr (.inr (.inr (va_cpy f g sp.toNatClampNeg dp.toNatClampNeg n.toNatClampNeg))))))) else none
  | _, _ => none
theorem cpRf_inv {kd ec a0 a : Nat} {sp dp n : Int32} {h h' : Hp} {u : Unit} (e : cpRf kd ec a0 sp a dp n h = some (u, h')) : ∃ n0 f n1 g, h.1 a0 = some (.inl (kd, n0, .inr (.inr (.inr (.inr f))))) ∧ h.1 a = some (.inl (kd, n1, .inr (.inr (.inr (.inr g))))) ∧ (¬ sp < 0 ∧ ¬ dp < 0 ∧ ¬ n < 0) ∧ sp.toNatClampNeg + n.toNatClampNeg ≤ n0 ∧ dp.toNatClampNeg + n.toNatClampNeg ≤ n1 ∧ (∀ i, i < n.toNatClampNeg → ∀ y, f (sp.toNatClampNeg + i) = some y → ∃ fs, h.1 y = some (.inr (ec, fs))) ∧ h.2.2.2.1 ≤ a ∧ h' = hset h a (.inl (kd, n1, .inr (.inr (.inr (.inr (va_cpy f g sp.toNatClampNeg dp.toNatClampNeg n.toNatClampNeg)))))) := by
  unfold cpRf at e
  split at e
  · rename_i k0 n0 f k1 n1 g g0 g1
    split at e
    · rename_i hc
      cases e
      obtain ⟨rfl, rfl, c1, c2, c3, c4, c5⟩ := hc
      refine ⟨n0, f, n1, g, g0, g1, c1, c2, c3, fun i hi y hy => ?_, c5, rfl⟩
      have := List.all_eq_true.mp c4 i (List.mem_range.mpr hi)
      rw [hy] at this
      simp only at this
      split at this
      · rename_i c fs hh
        exact ⟨fs, by rw [hh, beq_iff_eq.mp this]⟩
      · cases this
    · cases e
  · cases e
def cpR (kd ec a0 : Nat) (sp : Int32) (a : Nat) (dp n : Int32) : hM Unit := ⟨cpRf kd ec a0 sp a dp n, fun h u h' e => by
  obtain ⟨n0, f, n1, g, g0, g1, -, -, -, -, -, rfl⟩ := cpRf_inv e
  exact hset_le g1 rfl⟩
theorem cl_nn (z : Int32) (hz : ¬ z < 0) : z.toInt = (z.toNatClampNeg : Int) := by
  have hz0 : (0 : Int) ≤ z.toInt := by
    have := Int32.not_lt.mp hz
    simpa using Int32.le_iff_toInt_le.mp this
  show z.toInt = ((z.toInt.toNat : Nat) : Int)
  omega
section VK2
variable {X : hX} {own : String} {cc : ByteArray} {nL : Nat} {ret : Option FieldType} {he : Hp} {F L : Nat} {h hr : Hp} {pc : Nat} {ls ls' : List (Nat × Value)} {st : List Value} {α β : Type} {v : α}
theorem v_cpI (C : Cx X own cc nL ret he F L) {kd a0 a index : Nat} {sp dp n : Int32} {k : Unit → hM α} (hf : (mb (cpI kd a0 sp a dp n) k).1 h = some (v, hr)) (hk : kd < 6) (hF : 1 ≤ F) (hL : (st.map fun v => v.category).sum + (nativeFrameWords "java/lang/System" "arraycopy" 5 + 11) ≤ L) (w1 : Jvm.Cond.methodLink own index arraycopyName ∈ lw_all) (w2 : Jvm.Cond.native arraycopyName ∈ lw_all) (w3 : Jvm.Cond.static arraycopyName ∈ lw_all) (w4 : Jvm.Cond.initialized "java/lang/System" ∈ lw_all) (d : decode cc pc = .ok (.invokestatic index, 3)) (kk : ∀ h1 : Hp, (k ()).1 h1 = some (v, hr) → V X h1 (pc + 3) ls st) : V X h pc ls (.int n :: .int dp :: .ref a :: .int sp :: .ref a0 :: st) := by
  obtain ⟨u, h1, e1, e2, -⟩ := mb_inv hf (hle.rf hr)
  obtain ⟨n0, f, n1, g, g0, g1, ⟨c1, c2, c3⟩, c4, c5, hfit, g3, rfl⟩ := cpIf_inv e1
  intro H locs la q1 q2 q3 q4 q5 q6 T hT XX
  have hts := C.2.2.2.2.2.2.2.2.1
  have hK := C.K
  have hc0 : H[a0]? = some (vp_cell _ (n0, .inl f)) := q3 a0 _ g0
  have hc1 : H[a]? = some (vp_cell _ (n1, .inl g)) := q3 a _ g1
  obtain ⟨-, k0, hk0, cm0, hkk0⟩ := (hK.2 kd _ (tyG_at _ kd (by omega))).1 n0 (fun j => .int (f j))
  obtain ⟨-, k1, hk1, cm1, hkk1⟩ := (hK.2 kd _ (tyG_at _ kd (by omega))).1 n1 (fun j => .int (g j))
  have hprim : refKind (tyK kd) = false := by
    match kd, hk with
    | 0, _ => rfl
    | 1, _ => rfl
    | 2, _ => rfl
    | 3, _ => rfl
    | 4, _ => rfl
    | 5, _ => rfl
  have nn := cl_nn
  obtain ⟨vm', X', step⟩ := XX.arraycopy C.1 C.2.2.2.2.2.1 (hts _ w1) (hts _ w2) (hts _ w3) (hts _ w4) (src := a0) (dst := a) (cs := vp_cell _ (n0, .inl f)) (cd := vp_cell _ (n1, .inl g)) (srcPos := sp) (destPos := dp) (n := n) (by rw [hT]; exact hc0) (by rw [hT]; exact hc1)
    (fun _ h => by cases h) (fun _ h => by cases h) (fun h => by cases h) (fun h => by cases h) hk0 hk1 hkk0 hkk1 (by simp [hprim]) c1 c2 c3
    (by rw [nn sp c1, nn n c3]; show ¬ _ > ((arrV _ n0 (fun j => .int (f j))).slots.size : Int); rw [arrV_size]; omega)
    (by rw [nn dp c2, nn n c3]; show ¬ _ > ((arrV _ n1 (fun j => .int (g j))).slots.size : Int); rw [arrV_size]; omega)
    (fun vm₁ _ i hi => by
      have e : (vp_cell (X.2.2.2.2.2.2.2.2.2.2.1.2.2.2.2.1 kd) (n0, .inl f)).slots.getD (sp.toNatClampNeg + i) .null = .int (f (sp.toNatClampNeg + i)) := by
        show (arrV _ n0 (fun j => .int (f j))).slots.getD _ _ = _
        rw [Array.getD_eq_getD_getElem?, arrV_read _ _ (by omega)]
        rfl
      refine ⟨?_, ?_⟩
      · rw [e]
        exact hfit i hi
      · rw [e]
        exact trivial)
    (g := F0 X.2.2.2.2.2.1 pc la (.int n :: .int dp :: .ref a :: .int sp :: .ref a0 :: st)) rfl q6.1 (rest := st) rfl (by rw [C.2.1]; exact d) (by rw [C.2.2.2.2.2.2.2.2.2]; exact hF) (by rw [C.2.2.2.2.2.2.2.2.2]; show 2 * 0 + _ + _ ≤ L; omega)
  have e1 : copied (vp_cell (X.2.2.2.2.2.2.2.2.2.2.1.2.2.2.2.1 kd) (n0, .inl f)) (vp_cell (X.2.2.2.2.2.2.2.2.2.2.1.2.2.2.2.1 kd) (n1, .inl g)) sp dp n = vp_cell (X.2.2.2.2.2.2.2.2.2.2.1.2.2.2.2.1 kd) (n1, .inl (va_cpy f g sp.toNatClampNeg dp.toNatClampNeg n.toNatClampNeg)) := va_copied (fun z => .int z) _ _ f g c4
  rw [e1] at X' step
  have hlt : a < H.size := (Array.getElem?_eq_some_iff.mp hc1).1
  have hheap : ((T.setVm vm').setCell a (vp_cell (X.2.2.2.2.2.2.2.2.2.2.1.2.2.2.2.1 kd) (n1, .inl (va_cpy f g sp.toNatClampNeg dp.toNatClampNeg n.toNatClampNeg)))).heap = H.setIfInBounds a (vp_cell (X.2.2.2.2.2.2.2.2.2.2.1.2.2.2.2.1 kd) (n1, .inl (va_cpy f g sp.toNatClampNeg dp.toNatClampNeg n.toNatClampNeg))) := by rw [← hT]; rfl
  have oq : ∀ q : Nat, q ≠ a → (H.setIfInBounds a (vp_cell (X.2.2.2.2.2.2.2.2.2.2.1.2.2.2.2.1 kd) (n1, .inl (va_cpy f g sp.toNatClampNeg dp.toNatClampNeg n.toNatClampNeg))))[q]? = H[q]? := fun q hq => by simp [Array.getElem?_setIfInBounds, Ne.symm hq]
  obtain ⟨t, a1, b1⟩ := kk _ e2 _ _ la (by simp; exact q1) (hset_hle q2 g1 rfl) (q3.set (G := X.2.2.2.2.2.2.2.2.2.2.1) (show (H.setIfInBounds a _)[a]? = some _ by simp [Array.getElem?_setIfInBounds, hlt]) oq) (fun q hq => by
      rw [oq q (fun e => lo_ne hq (lo_of q2 g3) e)]
      exact q4 q hq) (fun q hq => by
      rcases List.mem_append.mp hq with h | h
      · exact q5 q h
      · obtain ⟨z, -, hz⟩ := List.mem_map.mp h
        rw [← hz]
        exact lo_of q2 g3) q6 _ hheap X'
  exact ⟨t, step t a1, b1⟩
theorem v_cpR (C : Cx X own cc nL ret he F L) {kd ec a0 a index : Nat} {r : vw_C} {sp dp n : Int32} {k : Unit → hM α} (hf : (mb (cpR kd ec a0 sp a dp n) k).1 h = some (v, hr)) (hk : kd < 11) (hc : clG[ec]? = some r) (hC : tyK kd = .object r.1) (hF : 1 ≤ F) (hL : (st.map fun v => v.category).sum + (nativeFrameWords "java/lang/System" "arraycopy" 5 + 11) ≤ L) (w1 : Jvm.Cond.methodLink own index arraycopyName ∈ lw_all) (w2 : Jvm.Cond.native arraycopyName ∈ lw_all) (w3 : Jvm.Cond.static arraycopyName ∈ lw_all) (w4 : Jvm.Cond.initialized "java/lang/System" ∈ lw_all) (d : decode cc pc = .ok (.invokestatic index, 3)) (kk : ∀ h1 : Hp, (k ()).1 h1 = some (v, hr) → V X h1 (pc + 3) ls st) : V X h pc ls (.int n :: .int dp :: .ref a :: .int sp :: .ref a0 :: st) := by
  obtain ⟨u, h1, e1, e2, -⟩ := mb_inv hf (hle.rf hr)
  obtain ⟨n0, f, n1, g, g0, g1, ⟨c1, c2, c3⟩, c4, c5, hel, g3, rfl⟩ := cpRf_inv e1
  intro H locs la q1 q2 q3 q4 q5 q6 T hT XX
  have hts := C.2.2.2.2.2.2.2.2.1
  have hK := C.K
  have hc0 : H[a0]? = some (vp_cell _ (n0, .inr (.inr (.inr (.inr f))))) := q3 a0 _ g0
  have hc1 : H[a]? = some (vp_cell _ (n1, .inr (.inr (.inr (.inr g))))) := q3 a _ g1
  have hKd := hK.2 kd _ (tyG_at _ kd hk)
  rw [hC] at hKd
  obtain ⟨-, k0, hk0, cm0, hkk0⟩ := hKd.1 n0 (fun j => va_rf (f j))
  obtain ⟨-, k1, hk1, cm1, hkk1⟩ := hKd.1 n1 (fun j => va_rf (g j))
  have nn := cl_nn
  obtain ⟨vm', X', step⟩ := XX.arraycopy C.1 C.2.2.2.2.2.1 (hts _ w1) (hts _ w2) (hts _ w3) (hts _ w4) (src := a0) (dst := a) (cs := vp_cell _ (n0, .inr (.inr (.inr (.inr f))))) (cd := vp_cell _ (n1, .inr (.inr (.inr (.inr g))))) (srcPos := sp) (destPos := dp) (n := n) (by rw [hT]; exact hc0) (by rw [hT]; exact hc1)
    (fun _ h => by cases h) (fun _ h => by cases h) (fun h => by cases h) (fun h => by cases h) hk0 hk1 hkk0 hkk1 rfl c1 c2 c3
    (by rw [nn sp c1, nn n c3]; show ¬ _ > ((arrV _ n0 (fun j => va_rf (f j))).slots.size : Int); rw [arrV_size]; omega)
    (by rw [nn dp c2, nn n c3]; show ¬ _ > ((arrV _ n1 (fun j => va_rf (g j))).slots.size : Int); rw [arrV_size]; omega)
    (fun vm₁ hal i hi => by
      have e : (vp_cell (X.2.2.2.2.2.2.2.2.2.2.1.2.2.2.2.1 kd) (n0, .inr (.inr (.inr (.inr f))))).slots.getD (sp.toNatClampNeg + i) .null = va_rf (f (sp.toNatClampNeg + i)) := by
        show (arrV _ n0 (fun j => va_rf (f j))).slots.getD _ _ = _
        rw [Array.getD_eq_getD_getElem?, arrV_read _ _ (by omega)]
        rfl
      rw [e]
      cases hy : f (sp.toNatClampNeg + i) with
      | none => exact ⟨rfl, trivial⟩
      | some y =>
        obtain ⟨fs, hfs⟩ := hel i hi y hy
        obtain ⟨rq, hrq, cellV, b1, b2, b3, -⟩ := q3 y _ hfs
        have hcls := (hK.1 ec r hc).2
        obtain ⟨kA, comp, r1, r2, r3, -⟩ := hKd.2
        cases hk1.symm.trans r1
        cases hkk1.symm.trans r2
        have hcomp := Option.some.inj (r3.symm.trans hcls.1)
        obtain ⟨kC, hkC, -⟩ := hcls.2
        obtain ⟨kC', hkC', -⟩ := hal.2.2 _ _ hkC
        refine ⟨rfl, cellV, (show T.heap[y]? = some cellV by rw [hT]; exact b1), (fun q h => by rw [b3] at h; cases h), ⟨kC', by rw [b2]; exact hkC'⟩, ?_, ?_⟩
        · exact ⟨kC', by rw [hcomp]; exact hkC'⟩
        · show vm₁.assignable _ _ = true
          rw [hal.assignable, b2, hcomp]
          exact va_assign hcls)
    (g := F0 X.2.2.2.2.2.1 pc la (.int n :: .int dp :: .ref a :: .int sp :: .ref a0 :: st)) rfl q6.1 (rest := st) rfl (by rw [C.2.1]; exact d) (by rw [C.2.2.2.2.2.2.2.2.2]; exact hF) (by rw [C.2.2.2.2.2.2.2.2.2]; show 2 * 0 + _ + _ ≤ L; omega)
  have e1 : copied (vp_cell (X.2.2.2.2.2.2.2.2.2.2.1.2.2.2.2.1 kd) (n0, .inr (.inr (.inr (.inr f))))) (vp_cell (X.2.2.2.2.2.2.2.2.2.2.1.2.2.2.2.1 kd) (n1, .inr (.inr (.inr (.inr g))))) sp dp n = vp_cell (X.2.2.2.2.2.2.2.2.2.2.1.2.2.2.2.1 kd) (n1, .inr (.inr (.inr (.inr (va_cpy f g sp.toNatClampNeg dp.toNatClampNeg n.toNatClampNeg))))) := by
    rw [vp_cell_q, vp_cell_q, vp_cell_q]
    exact va_copied (fun z => va_rf z) _ _ f g c4
  rw [e1] at X' step
  have hlt : a < H.size := (Array.getElem?_eq_some_iff.mp hc1).1
  have hheap : ((T.setVm vm').setCell a (vp_cell (X.2.2.2.2.2.2.2.2.2.2.1.2.2.2.2.1 kd) (n1, .inr (.inr (.inr (.inr (va_cpy f g sp.toNatClampNeg dp.toNatClampNeg n.toNatClampNeg))))))).heap = H.setIfInBounds a (vp_cell (X.2.2.2.2.2.2.2.2.2.2.1.2.2.2.2.1 kd) (n1, .inr (.inr (.inr (.inr (va_cpy f g sp.toNatClampNeg dp.toNatClampNeg n.toNatClampNeg)))))) := by rw [← hT]; rfl
  have oq : ∀ q : Nat, q ≠ a → (H.setIfInBounds a (vp_cell (X.2.2.2.2.2.2.2.2.2.2.1.2.2.2.2.1 kd) (n1, .inr (.inr (.inr (.inr (va_cpy f g sp.toNatClampNeg dp.toNatClampNeg n.toNatClampNeg)))))))[q]? = H[q]? := fun q hq => by simp [Array.getElem?_setIfInBounds, Ne.symm hq]
  obtain ⟨t, a1, b1⟩ := kk _ e2 _ _ la (by simp; exact q1) (hset_hle q2 g1 rfl) (q3.set (G := X.2.2.2.2.2.2.2.2.2.2.1) (show (H.setIfInBounds a _)[a]? = some _ by simp [Array.getElem?_setIfInBounds, hlt]) oq) (fun q hq => by
      rw [oq q (fun e => lo_ne hq (lo_of q2 g3) e)]
      exact q4 q hq) (fun q hq => by
      rcases List.mem_append.mp hq with h | h
      · exact q5 q h
      · obtain ⟨z, -, hz⟩ := List.mem_map.mp h
        rw [← hz]
        exact lo_of q2 g3) q6 _ hheap X'
  exact ⟨t, step t a1, b1⟩
/-- a String constant -/
theorem v_ldcS (C : Cx X own cc nL ret he F L) {index kk0 : Nat} {tx : String} {k : Nat → hM α} (hf : (mb (mcn kk0) k).1 h = some (v, hr)) (hk : kTG[kk0]? = some (.string own index)) (w : Jvm.Cond.stringRef own index tx ∈ lw_tbl) (d : decode cc pc = .ok (.ldc index, 2)) (kk : ∀ a : Nat, (k a).1 h = some (v, hr) → V X h (pc + 2) ls (.ref a :: st)) : V X h pc ls st := by
  obtain ⟨x, h1, e1, e2, -⟩ := mb_inv hf (hle.rf hr)
  obtain ⟨e3, rfl⟩ := mrd_inv e1
  cases e3
  intro H locs la q1 q2 q3 q4 q5 q6
  have hcst : h1.2.2.2.2 = X.2.2.2.2.2.2.2.2.2.2.1.2.2.2.2.2 := by
    have := C.2.2.2.2.2.2.2.1.2.2.2.2.2.1
    rw [q2.2.2.1]; exact this
  have hZ : vk_R own index tx (h1.2.2.2.2 kk0) X.2.2.2.2.1 := by
    rw [hcst]
    exact vk_R.warm C.2.2.2.2.2.2.2.1.1 (vk_R.of (C.2.2.2.2.2.2.1.2.1 _ w) (C.2.2.2.2.2.2.1.2.2.2.2.2.1 kk0 _ hk))
  exact va_ldcS C.1 C.2.1 C.2.2.2.2.2.1 hZ d (kk _ e2 H locs la q1 q2 q3 q4 q5 q6)
theorem va_SX (C : Cx X own cc nL ret he F L) {H : Heap} {locs : List Loc} (q1 : H.size = h.2.1) (q2 : hle X.2.2.2.2.2.2.2.2.2.2.2.2 h) (q4 : ∀ q, q < X.2.2.2.2.2.2.2.2.2.2.2.2.2.2.2.1 → H[q]? = X.2.2.2.2.1.heap[q]?) (q5 : ∀ x ∈ locs, X.2.2.2.2.2.2.2.2.2.2.2.2.2.2.2.1 ≤ x.base) : va_S (fun q => X.2.2.2.2.2.2.2.2.2.2.2.2.2.2.2.1 ≤ q) X.2.2.2.2.1.heap H locs := ⟨by rw [C.2.2.2.2.2.2.2.1.2.2.1, q1]; exact q2.1, fun q _ hA => q4 q (Nat.not_le.mp hA), q5⟩
theorem zs_at (C : Cx X own cc nL ret he F L) {Cn n dd : String} {z : Value} (w1 : Jvm.Cond.laysStatic Cn n dd ∈ lw_tbl) (w2 : Jvm.Cond.initialized Cn ∈ lw_all) (hv : (Term.static Cn n dd).eval X.2.2.2.2.2.2.2.2.2.2.1.2.1 X.2.2.2.2.2.2.2.2.2.2.1.1 none [] X.2.2.2.2.2.2.2.2.2.2.1.1 = some z) : va_Z Cn n dd z (fun q => X.2.2.2.2.2.2.2.2.2.2.2.2.2.2.2.1 ≤ q) X.2.2.2.2.1 X.2.2.2.2.1.heap := by
  obtain ⟨g1, g2, g3, g4, g5, g6, g7⟩ := C.2.2.2.2.2.2.2.1
  refine va_Z.moved g1.alike (va_Z.kept (va_Zof (C.2.2.2.2.2.2.1.2.1 _ w1) (C.2.2.2.2.2.2.1.2.1 _ (lw_all_tbl w2)) hv (fun a ha => by rw [g4]; exact Nat.not_le.mpr ha)) (fun a ha _ => g2 a (by rw [g4]; exact ha)))
theorem v_getsI (C : Cx X own cc nL ret he F L) {index : Nat} {Cn n dd ref : String} {z : Int32} (w1 : Jvm.Cond.laysStatic Cn n dd ∈ lw_tbl) (w2 : Jvm.Cond.initialized Cn ∈ lw_all) (w3 : (Cond.eq (.static Cn n dd) (.int z)) ∈ nwG) (w4 : Jvm.Cond.fieldLink own index ref n dd ∈ lw_all) (href : Cn = ref) (d : decode cc pc = .ok (.getstatic index, 3)) (kk : V X h (pc + 3) ls (.int z :: st)) : V X h pc ls st := fun H locs la q1 q2 q3 q4 q5 q6 =>
  va_gets C.1 C.2.1 (zs_at C w1 w2 (va_eqi (nw_at C.2.2.2.2.2.2.1 w3))) (va_SX C q1 q2 q4 q5) C.2.2.2.2.2.1 (C.2.2.2.2.2.2.2.2.1 _ w4) (fun x h => by rw [← href]; exact h) d (kk H locs la q1 q2 q3 q4 q5 q6)
theorem v_getsR (C : Cx X own cc nL ret he F L) {index kk0 : Nat} {Cn n dd ref : String} {k : Nat → hM α} (hf : (mb (mcn kk0) k).1 h = some (v, hr)) (hk : kTG[kk0]? = some (.static Cn n dd)) (w1 : Jvm.Cond.laysStatic Cn n dd ∈ lw_tbl) (w2 : Jvm.Cond.initialized Cn ∈ lw_all) (w4 : Jvm.Cond.fieldLink own index ref n dd ∈ lw_all) (href : Cn = ref) (d : decode cc pc = .ok (.getstatic index, 3)) (kk : ∀ a : Nat, (k a).1 h = some (v, hr) → V X h (pc + 3) ls (.ref a :: st)) : V X h pc ls st := by
  obtain ⟨x, h1, e1, e2, -⟩ := mb_inv hf (hle.rf hr)
  obtain ⟨e3, rfl⟩ := mrd_inv e1
  cases e3
  intro H locs la q1 q2 q3 q4 q5 q6
  have hcst : h1.2.2.2.2 = X.2.2.2.2.2.2.2.2.2.2.1.2.2.2.2.2 := by
    have := C.2.2.2.2.2.2.2.1.2.2.2.2.2.1
    rw [q2.2.2.1]; exact this
  have hv := C.2.2.2.2.2.2.1.2.2.2.2.2.1 kk0 _ hk
  rw [← hcst] at hv
  exact va_gets C.1 C.2.1 (zs_at C w1 w2 hv) (va_SX C q1 q2 q4 q5) C.2.2.2.2.2.1 (C.2.2.2.2.2.2.2.2.1 _ w4) (fun x h => by rw [← href]; exact h) d (kk _ e2 H locs la q1 q2 q3 q4 q5 q6)
end VK2
/-- a constant that may be null -/
def mcq (k : Nat) : hM (Option Nat) := mrd fun h => some (dec0 (h.2.2.2.2 (100 + k)))
section VK3
variable {X : hX} {own : String} {cc : ByteArray} {nL : Nat} {ret : Option FieldType} {he : Hp} {F L : Nat} {h hr : Hp} {pc : Nat} {ls ls' : List (Nat × Value)} {st : List Value} {α β : Type} {v : α}
theorem v_getsQ (C : Cx X own cc nL ret he F L) {index kk0 : Nat} {Cn n dd ref : String} {k : Option Nat → hM α} (hf : (mb (mcq kk0) k).1 h = some (v, hr)) (hk : kQG[kk0]? = some (.static Cn n dd)) (w1 : Jvm.Cond.laysStatic Cn n dd ∈ lw_tbl) (w2 : Jvm.Cond.initialized Cn ∈ lw_all) (w4 : Jvm.Cond.fieldLink own index ref n dd ∈ lw_all) (href : Cn = ref) (d : decode cc pc = .ok (.getstatic index, 3)) (kk : ∀ a : Option Nat, (k a).1 h = some (v, hr) → V X h (pc + 3) ls (va_rf a :: st)) : V X h pc ls st := by
  obtain ⟨x, h1, e1, e2, -⟩ := mb_inv hf (hle.rf hr)
  obtain ⟨e3, rfl⟩ := mrd_inv e1
  cases e3
  intro H locs la q1 q2 q3 q4 q5 q6
  have hcst : h1.2.2.2.2 = X.2.2.2.2.2.2.2.2.2.2.1.2.2.2.2.2 := by
    have := C.2.2.2.2.2.2.2.1.2.2.2.2.2.1
    rw [q2.2.2.1]; exact this
  have hv := C.2.2.2.2.2.2.1.2.2.2.2.2.2 kk0 _ hk
  rw [← hcst] at hv
  exact va_gets C.1 C.2.1 (zs_at C w1 w2 hv) (va_SX C q1 q2 q4 q5) C.2.2.2.2.2.1 (C.2.2.2.2.2.2.2.2.1 _ w4) (fun x h => by rw [← href]; exact h) d (kk _ e2 H locs la q1 q2 q3 q4 q5 q6)
end VK3
