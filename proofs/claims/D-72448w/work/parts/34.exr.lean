set_option maxRecDepth 100000
/-! ===== rows of methods that catch what the machine throws ===== -/
theorem zU_w : Jvm.Cond.isRef (Jvm.Term.static "java/lang/Throwable" "UNASSIGNED_STACK" "[Ljava/lang/StackTraceElement;") ∈ nwG := by decide +kernel
theorem zN_w : Jvm.Cond.isRef (Jvm.Term.static "java/lang/Throwable" "SUPPRESSED_SENTINEL" "Ljava/util/List;") ∈ nwG := by decide +kernel
theorem zU_at {l : Launch} {G : hG} (hG : okG l G) : vx_Zq Bundle.tN "UNASSIGNED_STACK" Bundle.steD (fun q => G.1.heap.size ≤ q) G.1 G.1.heap := vxq_at hG q321 q109 zU_w
theorem zN_at {l : Launch} {G : hG} (hG : okG l G) : vx_Zq Bundle.tN "SUPPRESSED_SENTINEL" Bundle.listD (fun q => G.1.heap.size ≤ q) G.1 G.1.heap := vxq_at hG q323 q109 zN_w
section VO
variable {X : hX} {own : String} {cc : ByteArray} {nL : Nat} {ret : Option FieldType} {he : Hp} {F L : Nat} {h hr : Hp} {pc : Nat} {ls ls' : List (Nat × Value)} {st : List Value} {α β : Type} {v : α}
theorem nc_at (C : Cx X own cc nL ret he F L) {A B : String} (w : Jvm.Cond.not (Jvm.Cond.castable A B) ∈ nwG) : va_Nc A B X.2.2.2.2.1 := va_Nc.moved C.2.2.2.2.2.2.2.1.1.alike (va_Nc.of (nw_at C.2.2.2.2.2.2.1 w))
theorem ca_at (C : Cx X own cc nL ret he F L) {A B : String} (w : Jvm.Cond.castable A B ∈ lw_tbl) : (Jvm.Cond.castable A B).before X.2.2.2.2.2.2.1 X.2.2.2.2.1 = true := va_Nw.use (A := X.2.2.2.2.2.2.1) rfl (va_Nw.warmC C.2.2.2.2.2.2.2.1.1 (va_Nw.of rfl (C.2.2.2.2.2.2.1.2.1 _ w)))
theorem exC_0 (C : Cx X own cc nL ret he F L) {x0 : ExceptionTableEntry} {suf : List ExceptionTableEntry} {cls name : String} (htab : X.2.2.2.2.2.2.2.2.2.1.exceptionTable.toList = x0 :: suf) (hcov : covers x0 pc = true) (hct : x0.catchType ≠ 0) (w1 : Jvm.Cond.classLink own x0.catchType name ∈ lw_all) (w2 : Jvm.Cond.castable cls name ∈ lw_tbl) : exC X own cls pc x0.handlerPc :=
  ⟨[], x0, suf, name, htab, rfl, hcov, hct, C.2.2.2.2.2.2.2.2.1 _ w1, ca_at C w2, fun z hz => nomatch hz⟩
theorem exC_1 (C : Cx X own cc nL ret he F L) {z0 x0 : ExceptionTableEntry} {suf : List ExceptionTableEntry} {cls n0 name : String} (htab : X.2.2.2.2.2.2.2.2.2.1.exceptionTable.toList = z0 :: x0 :: suf) (hcov : covers x0 pc = true) (hct : x0.catchType ≠ 0) (w1 : Jvm.Cond.classLink own x0.catchType name ∈ lw_all) (w2 : Jvm.Cond.castable cls name ∈ lw_tbl)
    (hz0 : z0.catchType ≠ 0) (v1 : Jvm.Cond.classLink own z0.catchType n0 ∈ lw_all) (v2 : Jvm.Cond.not (Jvm.Cond.castable cls n0) ∈ nwG) : exC X own cls pc x0.handlerPc :=
  ⟨[z0], x0, suf, name, htab, rfl, hcov, hct, C.2.2.2.2.2.2.2.2.1 _ w1, ca_at C w2, fun z hz => by
    cases List.mem_singleton.mp hz
    exact Or.inr ⟨hz0, n0, C.2.2.2.2.2.2.2.2.1 _ v1, nc_at C v2⟩⟩
theorem exC_2 (C : Cx X own cc nL ret he F L) {z0 z1 x0 : ExceptionTableEntry} {suf : List ExceptionTableEntry} {cls n0 n1 name : String} (htab : X.2.2.2.2.2.2.2.2.2.1.exceptionTable.toList = z0 :: z1 :: x0 :: suf) (hcov : covers x0 pc = true) (hct : x0.catchType ≠ 0) (w1 : Jvm.Cond.classLink own x0.catchType name ∈ lw_all) (w2 : Jvm.Cond.castable cls name ∈ lw_tbl)
    (hz0 : z0.catchType ≠ 0) (v1 : Jvm.Cond.classLink own z0.catchType n0 ∈ lw_all) (v2 : Jvm.Cond.not (Jvm.Cond.castable cls n0) ∈ nwG) (hz1 : z1.catchType ≠ 0) (u1 : Jvm.Cond.classLink own z1.catchType n1 ∈ lw_all) (u2 : Jvm.Cond.not (Jvm.Cond.castable cls n1) ∈ nwG) : exC X own cls pc x0.handlerPc :=
  ⟨[z0, z1], x0, suf, name, htab, rfl, hcov, hct, C.2.2.2.2.2.2.2.2.1 _ w1, ca_at C w2, fun z hz => by
    rcases List.mem_cons.mp hz with rfl | hz
    · exact Or.inr ⟨hz0, n0, C.2.2.2.2.2.2.2.2.1 _ v1, nc_at C v2⟩
    · cases List.mem_singleton.mp hz
      exact Or.inr ⟨hz1, n1, C.2.2.2.2.2.2.2.2.1 _ u1, nc_at C u2⟩⟩
/-- newarray of a negative size, caught; the other sizes go on -/
theorem v_newZ (C : Cx X own cc nL ret he F L) {ty : ArrayType} {n : Int32} {kh y : hM α} {tgt : Nat} (hf : (mi (n < 0) (mb (mgr 3 54) fun _ => kh) y).1 h = some (v, hr)) (hl : hle hr he) (d : decode cc pc = .ok (.newarray ty, 2)) (hE : exC X own "java/lang/NegativeArraySizeException" pc tgt) (hF : 6 < F) (hL : (st.map fun v => v.category).sum + 10240 ≤ L)
    (kx : ∀ q : Nat, kh.1 (hgrow h 3 54) = some (v, hr) → V X (hgrow h 3 54) tgt ls [.ref q]) (kk : y.1 h = some (v, hr) → V X h pc ls (.int n :: st)) : V X h pc ls (.int n :: st) := by
  by_cases hn : n < 0
  · obtain ⟨u, h1, e1, e2, l1⟩ := mb_inv (mi_pos hn hf) hl
    cases mgr_inv e1
    intro H locs la q1 q2 q3 q4 q5 q6
    refine vx_newarrayZ C.1 C.2.1 hn d (fun tx htx => ?_)
    subst htx
    exact v_note (nb := 44) C (by decide) (by decide) (by decide) (by decide) exW_nas exO_nas (zU_at C.2.2.2.2.2.2.1) (zN_at C.2.2.2.2.2.2.1) (negative_text_modelled hn) (negative_text_bytes n) (by decide) hF hL (by decide) hE l1 q1 q2 q3 q4 q5 q6 (fun q => kx q e2)
  · exact kk (mi_neg hn hf)
end VO
