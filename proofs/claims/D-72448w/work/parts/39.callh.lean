set_option maxRecDepth 100000
section VH
variable {X : hX} {own : String} {cc : ByteArray} {nL : Nat} {he : Hp} {F L : Nat} {h : Hp} {pc : Nat} {ls : List (Nat × Value)} {st : List Value} {hr : Hp} {ret : Option FieldType} {α β δ : Type} {v : δ}
/-- a call of a method that may throw: what it throws is caught at the handler tgt -/
theorem v_callVH (C : Cx X own cc nL ret he F L) {y : MethodName} {bytes : ByteArray} {maxL F2 L2 index n : Nat} {ret2 : Option FieldType} {rv : β → Option Value} {vs : List Value} {x : hM (β ⊕ Nat)} {k : β → hM δ} {kh : Nat → hM δ} {stk : β → List Value} {ci a : Nat} {r : vw_C} (ct : CTE X.2.1 y bytes maxL ret2 F2 L2 rv (.ref a :: vs) x) (hc : clG[ci]? = some r) (hd : y.cls = r.1 ∧ y.cls ≠ "java/lang/invoke/MethodHandle" ∧ y.cls ≠ "java/lang/invoke/VarHandle" ∧ (parseMethodDescriptor y.desc).map (fun d => d.parameters.length) = some n) (hn : vs.length = n) (hF : F2 + 1 ≤ F) (hL : 8 + (maxL + 11) + L2 ≤ L) (rest : List Value) (hcat : (rest.map fun v => v.category).sum ≤ 8) (hstk : ∀ b, (rv b).toList ++ rest = stk b) (hst : st = vs.reverse ++ .ref a :: rest) (w1 : Jvm.Cond.methodLink own index y ∈ lw_all) (w2 : Jvm.Cond.instanceMethod y ∈ lw_all) (w3 : Jvm.Cond.selects r.1 y y ∈ lw_all) (w4 : Jvm.Cond.initialized r.1 ∈ lw_all) (w5 : Jvm.Cond.code y bytes maxL ret2 ∈ lw_all)
    (tg : Nat → Nat) (hE : ∀ e, exC X own (exN e) pc (tg e))
    (hf : (mbh (mat a ci x) k kh).1 h = some (v, hr)) (hl : hle hr he) (d : decode cc pc = .ok (.invokevirtual index, 3)) (kx : ∀ (e q : Nat) (h1 : Hp), (kh e).1 h1 = some (v, hr) → V X h1 (tg e) ls [.ref q]) (kk : ∀ (b : β) (h1 : Hp), (k b).1 h1 = some (v, hr) → V X h1 (pc + 3) ls (stk b)) : V X h pc ls st := by
  subst hst
  obtain ⟨⟨fs, ha⟩, hf⟩ := math_inv hf
  obtain ⟨o, h1, e1, l1, hin, hth⟩ := mbh_inv hf hl
  have l0 := x.2 _ _ _ e1
  intro H locs la q1 q2 q3 q4 q5 q6 T hT XX
  have a1 := q2.1; have a2 := l0.1; have a3 := q2.2.1; have a4 := l0.2.1; have a5 := l1.1; have a6 := l1.2.1
  have c1 : h.2.1 - X.2.2.2.2.2.2.2.2.2.2.2.2.2.1 + (h1.2.1 - h.2.1) = h1.2.1 - X.2.2.2.2.2.2.2.2.2.2.2.2.2.1 := by omega
  have c2 : h.2.2.1 - X.2.2.2.2.2.2.2.2.2.2.2.2.2.2.1 + (h1.2.2.1 - h.2.2.1) = h1.2.2.1 - X.2.2.2.2.2.2.2.2.2.2.2.2.2.2.1 := by omega
  have hlo := q2.2.2.1
  rcases vx_runV (rest := rest) (g := F0 X.2.2.2.2.2.1 pc la (vs.reverse ++ .ref a :: rest)) ⟨C.1, C.2.1, C.2.2.1, C.2.2.2.2.2.1, C.2.2.2.2.2.2.2.2.1⟩ (ct _ C.2.2.2.2.2.2.1 h h1 o e1) (cwV n C.2.2.2.2.2.2.2.2.1 (lw_V w1 w2 w3 w4 w5) rfl rfl rfl hd (by rw [C.2.2.2.2.2.2.2.2.2]; exact ⟨hF, hL⟩)) ⟨FrameBlind_Wd, va_recv (D := (X.2.2.2.2.2.2.2.2.2.2.1.2.2.1, X.2.2.2.2.2.2.2.2.2.2.1.2.2.2.1)) C.K (q3.one ha) hc (q0 := 0) rfl, fun U hU hW => ⟨rfl, Wd_at C q1 q2 q3 q4 hU hW⟩⟩ rfl hn (by show la.size = nL; rw [q6.1, C.2.2.1]) rfl (lv_room hcat) d (by rw [C.2.2.2.2.2.2.2.2.2]; exact ⟨by show _ ≤ he.2.1 - _; omega, by show _ ≤ he.2.2.1 - _; omega⟩) T hT XX with ⟨v', st₀, t, T', Lc, g0, X', hL, g1, g2, qa, st1⟩ | ⟨q, st₀, t, T', Lc, E0, ce, g0, X', hL, g1, g2, hxc, hce, hcv, hcl, st1⟩
  · cases o with
    | inr q => exact qa.elim
    | inl b =>
      obtain ⟨r1, r2, r3, r4⟩ := qa
      cases r1
      rw [c1, c2] at X'
      obtain ⟨t2, s1, s2⟩ := kk b h1 (hin b rfl) T'.heap (locs ++ Lc) la (by rw [g1]; exact r2) (q2.tr l0) (by rw [g1]; exact r3) (fun q hq => by rw [g1, r4 q (by rw [hlo]; exact hq), g0]; exact q4 q hq) (fun y hy => by
        rcases List.mem_append.mp hy with z | z
        · exact q5 y z
        · have := hL y z; rw [hlo] at this; exact this) q6 T' rfl X'
      rw [← hstk b] at s1
      exact ⟨t2, st1 t2 s1, s2⟩
  · cases o with
    | inl b => exact hxc.elim
    | inr q0 =>
      obtain ⟨rfl, r2, r3, r4⟩ := hxc
      rw [c1, c2] at X'
      have K1 := kx q0 q h1 (hth q0 rfl) T'.heap (locs ++ Lc) la (by rw [g1]; exact r2) (q2.tr l0) (by rw [g1]; exact r3) (fun q hq => by rw [g1, r4 q (by rw [hlo]; exact hq), g0]; exact q4 q hq) (fun y hy => by
        rcases List.mem_append.mp hy with z | z
        · exact q5 y z
        · have := hL y z; rw [hlo] at this; exact this) q6
      obtain ⟨pre, x0, suf, name, t1, t2, t3, t4, t5, t6, t7⟩ := hE q0
      rw [← t2] at K1
      obtain ⟨t2, s1, s2⟩ := vx_catch (rest := rest) (own := own) (name := name) (E := exN q0) C.2.2.2.2.2.1 pre x0 suf t1 t7 t3 t4 t5 t6 (by rw [g1]; exact hce) hcv hcl K1 T' rfl X'
      exact ⟨t2, st1.trans s1, s2⟩
end VH
