set_option maxRecDepth 100000
/-! ===== a cast that fails: of an array of one kind to another's ===== -/
theorem find_kind {vm : Vm} {nm : String} {c : ClassId} {k : Class} (h : vm.findClass nm = some c) (hk : vm.classes[c]? = some k) : k.name = nm ∧ k.hidden = none ∧ k.loader = none := by
  obtain ⟨hlt, hp, -⟩ := Array.findIdx?_eq_some_iff_getElem.mp h
  have e : vm.classes[c] = k := Option.some.inj ((Array.getElem?_eq_getElem hlt).symm.trans hk)
  rw [e] at hp
  simp only [Bool.and_eq_true, beq_iff_eq] at hp
  exact ⟨hp.1.1.1, Option.isNone_iff_eq_none.mp hp.1.1.2, Option.isNone_iff_eq_none.mp hp.2⟩
theorem prim_home {vm : Vm} {k : Class} (h1 : k.ofPrimitives = true) (h2 : k.loader = none) : vm.home k = "module java.base of loader 'bootstrap'" ∨ vm.home k = "unnamed module of loader 'bootstrap'" := by
  unfold Vm.home Vm.moduleOf
  rw [if_pos h1, h2]
  cases hf : vm.modules.find? (·.name == "java.base") with
  | none =>
    refine Or.inr ?_
    show "unnamed module" ++ " of loader " ++ "'bootstrap'" = _
    decide +kernel
  | some m =>
    have h3 : m.name = "java.base" := by
      have := List.find?_some hf
      simpa using this
    refine Or.inl ?_
    show "module " ++ m.name ++ " of loader " ++ "'bootstrap'" = _
    rw [h3]
    decide +kernel
theorem prim_of {k : Class} {comp : ClassId} {ty : FieldType} {nm : String} (h1 : k.kind = .array comp ty) (h2 : k.name = nm) (h3 : (withoutBrackets nm).length = 1) : k.ofPrimitives = true := by
  unfold Class.ofPrimitives
  rw [h1, h2]
  simp [h3]
def okT (t : String) : Prop := (t == notModelled) = false ∧ (stringBytes (stringToUtf16 t)).size ≤ 1000
theorem okT_of {t : String} {r : List Char} {c0 : Char} (h1 : t.toList = c0 :: r) (hc : ¬ c0 = '\u0000') (h2 : t.toList.length ≤ 250) : okT t := by
  refine ⟨?_, ?_⟩
  · rw [beq_eq_false_iff_ne]
    intro h
    have h3 := congrArg String.toList h
    have h4 : notModelled.toList = '\u0000' :: " a message that is not modelled".toList := by decide
    rw [h1, h4] at h3
    simp at h3
    exact hc h3.1
  · have b1 := stringBytes_size_le (stringToUtf16 t)
    have b2 := utf16_size_le t
    omega
theorem home_len {vm : Vm} {k : Class} (h1 : k.ofPrimitives = true) (h2 : k.loader = none) : (vm.home k).toList.length ≤ 44 := by
  rcases prim_home (vm := vm) h1 h2 with e | e <;> rw [e] <;> decide
theorem cce_text {vm : Vm} {ks kt : Class} {A B : String} (hs : ks.shown = A) (ht : kt.shown = B) (h1 : ks.ofPrimitives = true) (h2 : ks.loader = none) (h3 : kt.ofPrimitives = true) (h4 : kt.loader = none)
    (hA : A.toList.length ≤ 2) (hB : B.toList.length ≤ 2) : okT (checkcast.message vm ks kt) := by
  have a1 := home_len (vm := vm) h1 h2
  have a2 := home_len (vm := vm) h3 h4
  have hl : (vm.homes ks kt).toList.length ≤ 110 := by
    unfold Vm.homes
    rw [hs, ht]
    split
    · show (toString A ++ toString " and " ++ toString B ++ toString " are in " ++ toString (vm.home ks)).toList.length ≤ 110
      simp only [String.toList_append, List.length_append]
      have b1 : (toString " and ").toList.length = 5 := by decide
      have b2 : (toString " are in ").toList.length = 8 := by decide
      have b3 : (toString A).toList.length ≤ 2 := hA
      have b4 : (toString B).toList.length ≤ 2 := hB
      have b5 : (toString (vm.home ks)).toList.length ≤ 44 := a1
      omega
    · show (toString A ++ toString " is in " ++ toString (vm.home ks) ++ toString "; " ++ toString B ++ toString " is in " ++ toString (vm.home kt)).toList.length ≤ 110
      simp only [String.toList_append, List.length_append]
      have b1 : (toString " is in ").toList.length = 7 := by decide
      have b2 : (toString "; ").toList.length = 2 := by decide
      have b3 : (toString A).toList.length ≤ 2 := hA
      have b4 : (toString B).toList.length ≤ 2 := hB
      have b5 : (toString (vm.home ks)).toList.length ≤ 44 := a1
      have b6 : (toString (vm.home kt)).toList.length ≤ 44 := a2
      omega
  have hm : checkcast.message vm ks kt = toString "class " ++ toString ks.shown ++ toString " cannot be cast to class " ++ toString kt.shown ++ toString " (" ++ toString (vm.homes ks kt) ++ toString ")" := rfl
  rw [hm, hs, ht]
  refine okT_of (c0 := 'c') (r := "lass ".toList ++ A.toList ++ " cannot be cast to class ".toList ++ B.toList ++ " (".toList ++ (vm.homes ks kt).toList ++ ")".toList) ?_ (by decide) ?_
  · simp only [String.toList_append]; rfl
  · simp only [String.toList_append, List.length_append]
    have b1 : (toString "class ").toList.length = 6 := by decide
    have b2 : (toString " cannot be cast to class ").toList.length = 25 := by decide
    have b3 : (toString A).toList.length ≤ 2 := hA
    have b4 : (toString B).toList.length ≤ 2 := hB
    have b5 : (toString " (").toList.length = 2 := by decide
    have b6 : (toString ")").toList.length = 1 := by decide
    have b7 : (toString (vm.homes ks kt)).toList.length ≤ 110 := hl
    omega
theorem shown_of {k : Class} {nm : String} (h1 : k.name = nm) (h2 : k.hidden = none) : k.shown = dotted nm := by
  unfold Class.shown
  rw [h2, h1]
theorem dot4 {kd : Nat} (h : kd4 kd) : dotted (nmK kd) = nmK kd ∧ (nmK kd).toList.length ≤ 2 ∧ (withoutBrackets (nmK kd)).length = 1 := by
  rcases h with rfl | rfl | rfl | rfl <;> exact ⟨by decide +kernel, by decide +kernel, by decide +kernel⟩
section VCN
variable {p : Program} {l : Launch} {e : Env} {R : Room} {s : State} {m : MethodId} {args : Array Value} {below : List Frame} {meth : Method} {c : Code} {T : State} {locs : List Loc} {cells slots : Nat}
/-- 'checkcast' that fails (follows Stand.checkcast of the library) -/
theorem vw_castNo (X : Stand p l e R s m args below meth c T locs cells slots) (hexec : p.tables.exec = Jvm.exec)
    {own name : String} {index : Nat} (hown : s.vm.findClass own = some m.cls) (hlink : (Cond.classLink own index name).before args s = true)
    {a : Addr} {cell : Cell} {cT : ClassId} {ks kt : Class} (hcell : T.heap[a]? = some cell) (hobj : ∀ k, cell.vm ≠ .statics k) (hks : s.vm.classes[cell.cls]? = some ks)
    (hcT : s.vm.findClass name = some cT) (hkt : s.vm.classes[cT]? = some kt) (hasg : s.vm.assignable cell.cls cT = false)
    {g : JFrame} (hg : g.method = m) {rest : List Value} (hstack : g.stack = .ref a :: rest) (hdg : decode c.code g.pc = .ok (.checkcast index, 3)) :
    ∃ (vm' : Vm) (ks' kt' : Class), Stand p l e R s m args below meth c (T.setVm vm') locs cells slots ∧ (ks'.name = ks.name ∧ ks'.kind = ks.kind ∧ ks'.hidden = ks.hidden ∧ ks'.loader = ks.loader) ∧ (kt'.name = kt.name ∧ kt'.kind = kt.kind ∧ kt'.hidden = kt.hidden ∧ kt'.loader = kt.loader) ∧
      ∀ target, Steps p.tables e below (((T.setVm vm').setTop g).pushFrame (.throwNew "java/lang/ClassCastException" (some (checkcast.message vm' ks' kt')) none)) target → Steps p.tables e below (T.setTop g) target := by
  have hpl : e.platform.magicAccessors = ({} : Platform).magicAccessors := by rw [X.admits.platform]
  obtain ⟨c', hc', hcl⟩ := Cond.classLink_spec hown hlink e.platform hpl
  cases hcT.symm.trans hc'
  obtain ⟨dk, _, _, kt0, hd, _, _, _, _, hkt0, _, hopen⟩ := hcl.here
  have hcl₀ := X.warmed.classLinks hcl
  have hW' : s.WarmedH (T.vm.noted m.cls index (.cls cT)) := X.warmed.noted hd hopen (State.rightAt_cls hcl)
  obtain ⟨ks', hks', es⟩ := hW'.alike.2.2 _ _ hks
  obtain ⟨kt', hkt', et⟩ := hW'.alike.2.2 _ _ hkt
  refine ⟨_, ks', kt', X.noted hW', ⟨by rw [es], by rw [es], by rw [es], by rw [es]⟩, ⟨by rw [et], by rw [et], by rw [et], by rw [et]⟩, fun target hrest => ?_⟩
  subst hg
  jvm_step X.here [hexec, hdg, checkcast.wp_cold (e := e) (s := T) (f := g) X.here.top hstack (resolveClass_links e.toSetting hcl₀) hcl₀.ready,
    checkcast.wp_ready (e := e) (s := T.setVm (T.vm.noted g.method.cls index (.cls cT))) (f := g) X.here.top hcl₀.ready hstack]
  refine ⟨cell, hcell, hobj, ks', hks', kt', hkt', ?_⟩
  rw [if_neg (by rw [hW'.alike.assignable, hasg]; decide)]
  exact hrest
end VCN
