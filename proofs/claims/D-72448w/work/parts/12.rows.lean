/-! ===== rows that write and make ===== -/
set_option maxRecDepth 100000
theorem va_nar_refO (n : String) (x : Nat) : narrow (.object n) (.ref x) = .ref x := rfl
theorem lo_of {hb h : Hp} {a : Nat} (l : hle hb h) (g : h.2.2.2.1 ≤ a) : hb.2.2.2.1 ≤ a := by rw [l.2.2.1] at g; exact g
theorem lo_ne {lo a q : Nat} (h1 : q < lo) (h2 : lo ≤ a) (e : q = a) : False := by omega
theorem locs_add {lo : Nat} {locs : List Loc} {x : Loc} (h : ∀ x ∈ locs, lo ≤ x.base) (hx : lo ≤ x.base) : ∀ y ∈ locs ++ [x], lo ≤ y.base := by
  intro y hy
  rcases List.mem_append.mp hy with q | q
  · exact h y q
  · rw [List.mem_singleton.mp q]; exact hx
section VR2
variable {X : hX} {own : String} {cc : ByteArray} {nL : Nat} {ret : Option FieldType} {he : Hp} {F L : Nat} {h hr : Hp} {pc : Nat} {ls ls' : List (Nat × Value)} {st : List Value} {α β : Type} {v : α}
theorem v_putvA (C : Cx X own cc nL ret he F L) {Cn : String} {T : u_T} {N ci a fk : Nat} {ty0 : Nat → FieldType} {w : Value} {fs : List Value} (g1 : h.1 a = some (.inr (ci, fs))) (g2 : fk < fs.length) (g3 : h.2.2.2.1 ≤ a)
    (hin : ∀ w ∈ u_ws Cn T N, w ∈ lw_all) (hty : ∀ k, k < N → parseFieldDescriptor (T k).2.2.1 = some (ty0 k)) (hnm : ∀ a, a < N → ∀ b, b < N → a ≠ b → (T a).2.1 ≠ (T b).2.1) (hc : clG[ci]? = some (Cn, T, N)) (hk : fk < N) (hn : narrow (ty0 fk) w = w) (hfit : fits (ty0 fk) w = true)
    (row : ∀ {H : Heap} {locs : List Loc} {la : Array Slot} {cell : Cell} {cf kf fi f} , H.size = h.2.1 → X.2.2.2.2.1.fieldFound? (T fk).1 (T fk).2.1 (T fk).2.2.1 = some (cf, kf, fi, f) → f.isStatic = false → ((Cond.lays Cn (T fk).1 (T fk).2.1 (T fk).2.2.1).before X.2.2.2.2.2.2.1 X.2.2.2.2.1 = true ∨ (Cond.laysFinal Cn (T fk).1 (T fk).2.1 (T fk).2.2.1).before X.2.2.2.2.2.2.1 X.2.2.2.2.1 = true) → (∃ kC, X.2.2.2.2.1.vm.findClass Cn = some cell.cls ∧ X.2.2.2.2.1.vm.classes[cell.cls]? = some kC ∧ kC.kind = .ordinary) → H[a]? = some cell → cell.vm = .none → f.slot < cell.slots.size →
      (∀ H' : Heap, H'[a]? = some (cell.setSlot f.slot w) → H'.size = H.size → (∀ q, q ≠ a → H'[q]? = H[q]?) → W X.1 X.2.1 X.2.2.1 X.2.2.2.1 X.2.2.2.2.1 X.2.2.2.2.2.1 X.2.2.2.2.2.2.1 X.2.2.2.2.2.2.2.1 X.2.2.2.2.2.2.2.2.1 X.2.2.2.2.2.2.2.2.2.1 H' (locs ++ [⟨a, f.slot⟩]) (h.2.1 - X.2.2.2.2.2.2.2.2.2.2.2.2.2.1) (h.2.2.1 - X.2.2.2.2.2.2.2.2.2.2.2.2.2.2.1) X.2.2.2.2.2.2.2.2.2.2.2.1 (F0 X.2.2.2.2.2.1 (pc + 3) la st)) →
      W X.1 X.2.1 X.2.2.1 X.2.2.2.1 X.2.2.2.2.1 X.2.2.2.2.2.1 X.2.2.2.2.2.2.1 X.2.2.2.2.2.2.2.1 X.2.2.2.2.2.2.2.2.1 X.2.2.2.2.2.2.2.2.2.1 H locs (h.2.1 - X.2.2.2.2.2.2.2.2.2.2.2.2.2.1) (h.2.2.1 - X.2.2.2.2.2.2.2.2.2.2.2.2.2.2.1) X.2.2.2.2.2.2.2.2.2.2.2.1 (F0 X.2.2.2.2.2.1 pc la (w :: .ref a :: st)))
    (k : V X (hset h a (.inr (ci, fs.set fk w))) (pc + 3) ls st) : V X h pc ls (w :: .ref a :: st) := by
  intro H locs la q1 q2 q3 q4 q5 q6
  have hts := C.2.2.2.2.2.2.2.2.1
  have hK := C.K
  have hap := va_apart (own := own) hts hin ty0 hty hnm hK hc
  obtain ⟨r, h1, cell, p1, p2, p3, p4⟩ := q3 a _ g1
  have hr' : r = (Cn, T, N) := Option.some.inj (h1.symm.trans hc)
  subst hr'
  obtain ⟨hS, hfc, kC, hkC, hkind⟩ := hK.1 ci _ hc
  obtain ⟨cf, kf, fi, f, hi, hsl⟩ := hS fk hk
  have hlay := u_lays hts hin hk
  have hst := (u_facts hfc hkC hlay hi).1
  refine row (la := la) (locs := locs) (cell := cell) q1 hi hst hlay ⟨kC, by rw [p2]; exact hfc, by rw [p2]; exact hkC, hkind⟩ p1 p3 (by rw [hsl]; exact k2_hasslot (p4 fk hk)) fun H' e1 e2 e3 => ?_
  rw [hsl] at e1 ⊢
  refine k H' _ la (e2.trans q1) (hset_hle q2 g1 (by simp [hkd])) (q3.set (G := X.2.2.2.2.2.2.2.2.2.2.1) ⟨_, hc, t_OB.to (V := updV (vp_V fs) fk w) ⟨_, e1, p2, p3, t_set p4 hap hk w⟩ (fun j _ => vp_updV_set g2 w j)⟩ e3) (fun q hq => ?_) (locs_add q5 (lo_of q2 g3)) q6
  rw [e3 q (fun e => absurd (lo_of q2 g3) (by rw [← e]; exact Nat.not_le.mpr hq))]
  exact q4 q hq
theorem v_putv (C : Cx X own cc nL ret he F L) {ref Cn : String} {T : u_T} {N ci index a fk : Nat} {ty0 : Nat → FieldType} {w : Value} {k : Unit → hM α} (hf : (mb (pF a ci fk w) k).1 h = some (v, hr)) (hin : ∀ w ∈ u_ws Cn T N, w ∈ lw_all) (hty : ∀ k, k < N → parseFieldDescriptor (T k).2.2.1 = some (ty0 k)) (hnm : ∀ a, a < N → ∀ b, b < N → a ≠ b → (T a).2.1 ≠ (T b).2.1) (hc : clG[ci]? = some (Cn, T, N)) (hk : fk < N) (q : Jvm.Cond.fieldLink own index ref (T fk).2.1 (T fk).2.2.1 ∈ lw_all) (hs : (T fk).1 = ref) (hfin : (T fk).2.2.2 = false) (hn : narrow (ty0 fk) w = w) (hfit : fits (ty0 fk) w = true) (d : decode cc pc = .ok (.putfield index, 3)) (kk : ∀ h1 : Hp, (k ()).1 h1 = some (v, hr) → V X h1 (pc + 3) ls st) : V X h pc ls (w :: .ref a :: st) := by
  obtain ⟨u, h1, e1, e2, -⟩ := mb_inv hf (hle.rf hr)
  obtain ⟨fs, g1, g2, g3, rfl⟩ := pFf_inv e1
  refine v_putvA C g1 g2 g3 hin hty hnm hc hk hn hfit (fun {H locs la cell cf kf fi f} _ hi hst hlay hcl p1 p3 p5 kw => ?_) (kk _ e2)
  have hts := C.2.2.2.2.2.2.2.2.1
  have hlay2 := hts _ (hin _ (u_in_lay hk))
  unfold u_lay at hlay2
  rw [if_neg (by rw [hfin]; decide)] at hlay2
  obtain ⟨kC, c1, c2, c3⟩ := hcl
  exact W.putK C.1 C.2.1 (f := f) ⟨C.2.2.2.2.2.1, hts _ q, ⟨_, _, _, by rw [← hs]; exact hi⟩, hst⟩ (u_store c1 c2 c3 hlay2 hi (hty fk hk) hn hfit) p1 p3 p5 rfl rfl d fun H' e1 e2 e3 => kw H' e1 e2 e3
theorem v_putvN (C : Cx X own cc nL ret he F L) {ref Cn host : String} {T : u_T} {N ci index a fk : Nat} {ty0 : Nat → FieldType} {w : Value} {k : Unit → hM α} (hf : (mb (pF a ci fk w) k).1 h = some (v, hr)) (hin : ∀ w ∈ u_ws Cn T N, w ∈ lw_all) (hty : ∀ k, k < N → parseFieldDescriptor (T k).2.2.1 = some (ty0 k)) (hnm : ∀ a, a < N → ∀ b, b < N → a ≠ b → (T a).2.1 ≠ (T b).2.1) (hc : clG[ci]? = some (Cn, T, N)) (hk : fk < N) (q : Jvm.Cond.fieldLinkNest own index ref (T fk).2.1 (T fk).2.2.1 host ∈ lw_tbl) (hs : (T fk).1 = ref) (hfin : (T fk).2.2.2 = false) (hn : narrow (ty0 fk) w = w) (hfit : fits (ty0 fk) w = true) (d : decode cc pc = .ok (.putfield index, 3)) (kk : ∀ h1 : Hp, (k ()).1 h1 = some (v, hr) → V X h1 (pc + 3) ls st) : V X h pc ls (w :: .ref a :: st) := by
  obtain ⟨u, h1, e1, e2, -⟩ := mb_inv hf (hle.rf hr)
  obtain ⟨fs, g1, g2, g3, rfl⟩ := pFf_inv e1
  refine v_putvA C g1 g2 g3 hin hty hnm hc hk hn hfit (fun {H locs la cell cf kf fi f} _ hi hst hlay hcl p1 p3 p5 kw => ?_) (kk _ e2)
  have hts := C.2.2.2.2.2.2.2.2.1
  have hlay2 := hts _ (hin _ (u_in_lay hk))
  unfold u_lay at hlay2
  rw [if_neg (by rw [hfin]; decide)] at hlay2
  obtain ⟨kC, c1, c2, c3⟩ := hcl
  exact va_WputK C.1 C.2.1 (f := f) C.2.2.2.2.2.1 (va_Nw.use rfl (va_Nw.warmF C.2.2.2.2.2.2.2.1.1 (va_Nw.of rfl (C.2.2.2.2.2.2.1.2.1 _ q)))) (by rw [← hs]; exact hi) hst (u_store c1 c2 c3 hlay2 hi (hty fk hk) hn hfit) p1 p3 p5 rfl rfl d fun H' e1 e2 e3 => kw H' e1 e2 e3
theorem v_putvF (C : Cx X own cc nL ret he F L) {ref Cn : String} {T : u_T} {N ci index a fk : Nat} {ty0 : Nat → FieldType} {w : Value} {k : Unit → hM α} (hf : (mb (pF a ci fk w) k).1 h = some (v, hr)) (hin : ∀ w ∈ u_ws Cn T N, w ∈ lw_all) (hty : ∀ k, k < N → parseFieldDescriptor (T k).2.2.1 = some (ty0 k)) (hnm : ∀ a, a < N → ∀ b, b < N → a ≠ b → (T a).2.1 ≠ (T b).2.1) (hc : clG[ci]? = some (Cn, T, N)) (hk : fk < N) (q : Jvm.Cond.fieldLink own index ref (T fk).2.1 (T fk).2.2.1 ∈ lw_all) (hs : (T fk).1 = ref) (hfin : (T fk).2.2.2 = true) (hdecl : (T fk).1 = own) (hin2 : X.2.2.2.2.2.2.2.2.1.name = "<init>") (hn : narrow (ty0 fk) w = w) (hfit : fits (ty0 fk) w = true) (d : decode cc pc = .ok (.putfield index, 3)) (kk : ∀ h1 : Hp, (k ()).1 h1 = some (v, hr) → V X h1 (pc + 3) ls st) : V X h pc ls (w :: .ref a :: st) := by
  obtain ⟨u, h1, e1, e2, -⟩ := mb_inv hf (hle.rf hr)
  obtain ⟨fs, g1, g2, g3, rfl⟩ := pFf_inv e1
  refine v_putvA C g1 g2 g3 hin hty hnm hc hk hn hfit (fun {H locs la cell cf kf fi f} _ hi hst hlay hcl p1 p3 p5 kw => ?_) (kk _ e2)
  have hts := C.2.2.2.2.2.2.2.2.1
  have hlay2 := hts _ (hin _ (u_in_lay hk))
  unfold u_lay at hlay2
  rw [if_pos hfin] at hlay2
  obtain ⟨kC, c1, c2, c3⟩ := hcl
  have hcf : X.2.2.2.2.2.1.cls = cf := by
    obtain ⟨_, _, c', _, _, _, -, -, hf', -, -, -, hown2, -⟩ := Cond.laysFinal_spec hlay2
    have e1 : c' = cf := by have := hi.symm.trans hf'; simp at this; exact this.1.symm
    rw [hdecl] at hown2
    rw [← e1]; exact Option.some.inj (C.2.2.2.2.2.1.symm.trans hown2)
  exact W.putFinK C.1 C.2.1 C.2.2.2.2.2.1 (hts _ q) (by rw [← hs]; exact hi) hst hcf hin2 (u_fits c1 c2 c3 (Or.inr hlay2) hi (hty fk hk) hn hfit) p1 p3 p5 rfl rfl d fun H' e1 e2 e3 => kw H' e1 e2 e3
/-- a field of a small type -/
theorem v_pN_inv {ty : FieldType} {a ci k : Nat} {x : Int32} {kk : Unit → hM α} (hf : (mb (pN ty a ci k x) kk).1 h = some (v, hr)) : (narrow ty (.int x) = .int x ∧ fits ty (.int x) = true) ∧ (mb (pF a ci k (.int x)) kk).1 h = some (v, hr) := by
  obtain ⟨u, h1, e1, e2, -⟩ := mb_inv hf (hle.rf hr)
  by_cases hc : narrow ty (.int x) = .int x ∧ fits ty (.int x) = true
  · exact ⟨hc, (mb_ev (mi_pos hc e1)).trans e2⟩
  · exact mfail_inv (mi_neg hc e1)
/-- arrays: lengths and places -/
theorem hA_inv {a kd : Nat} {x : vp_A} (e : hA a kd h = some x) : h.1 a = some (.inl (kd, x)) := by
  unfold hA at e
  split at e
  · rename_i k2 y hh
    by_cases hk : k2 = kd
    · rw [if_pos hk] at e; cases e; rw [hh, hk]
    · rw [if_neg hk] at e; cases e
  · cases e
theorem xin_inv {γ : Type} {i : Int32} {n : Nat} {f : Nat → γ} {x : γ} (e : xin i n f = some x) : vp_in i n ∧ x = f i.toNatClampNeg := by
  unfold xin at e
  by_cases hc : i < 0 ∨ n ≤ i.toNatClampNeg
  · rw [if_pos hc] at e; cases e
  · rw [if_neg hc] at e; cases e; exact ⟨hc, rfl⟩
theorem xI_inv {i : Int32} {x : vp_A} {z : Int32} (e : xI i x = some z) : ∃ n f, x = (n, .inl f) ∧ vp_in i n ∧ z = f i.toNatClampNeg := by
  obtain ⟨n, f | f | f | f | f⟩ := x
  · exact ⟨n, f, rfl, xin_inv e⟩
  all_goals cases e
theorem xL_inv {i : Int32} {x : vp_A} {z : Int64} (e : xL i x = some z) : ∃ n f, x = (n, .inr (.inl f)) ∧ vp_in i n ∧ z = f i.toNatClampNeg := by
  obtain ⟨n, f | f | f | f | f⟩ := x
  · cases e
  · exact ⟨n, f, rfl, xin_inv e⟩
  all_goals cases e
theorem xQ_inv {i : Int32} {x : vp_A} {z : Option Nat} (e : xQ i x = some z) : ∃ n f, x = (n, .inr (.inr (.inr (.inr f)))) ∧ vp_in i n ∧ z = f i.toNatClampNeg := by
  obtain ⟨n, f | f | f | f | f⟩ := x
  · cases e
  · cases e
  · cases e
  · cases e
  · exact ⟨n, f, rfl, xin_inv e⟩
theorem tyG_at (dA : Nat → ClassId) (kd : Nat) (hk : kd < 11) : (tyG dA)[kd]? = some (dA kd, tyK kd) := by
  match kd, hk with
  | 0, _ => rfl
  | 1, _ => rfl
  | 2, _ => rfl
  | 3, _ => rfl
  | 4, _ => rfl
  | 5, _ => rfl
  | 6, _ => rfl
  | 7, _ => rfl
  | 8, _ => rfl
  | 9, _ => rfl
  | 10, _ => rfl
theorem v_alen (C : Cx X own cc nL ret he F L) {kd a : Nat} {k : Int32 → hM α} (hf : (mb (alen kd a) k).1 h = some (v, hr)) (hk : kd < 11) (d : decode cc pc = .ok (.arraylength, 1)) (kk : ∀ x : Int32, (k x).1 h = some (v, hr) → V X h (pc + 1) ls (.int x :: st)) : V X h pc ls (.ref a :: st) := by
  obtain ⟨x, h1, e1, e2, -⟩ := mb_inv hf (hle.rf hr)
  obtain ⟨e3, rfl⟩ := mrd_inv e1
  obtain ⟨y, e4, rfl⟩ := Option.map_eq_some_iff.mp e3
  exact fun H locs la q1 q2 q3 q4 q5 q6 => va_alen C.1 C.2.1 C.K (q3.one (hA_inv e4)) 0 kd rfl (tyG_at _ kd hk) rfl d (kk _ e2 H locs la q1 q2 q3 q4 q5 q6)
theorem v_iaload (C : Cx X own cc nL ret he F L) {a : Nat} {i : Int32} {k : Int32 → hM α} (hf : (mb (aI 1 a i) k).1 h = some (v, hr)) (d : decode cc pc = .ok (.iaload, 1)) (kk : ∀ x : Int32, (k x).1 h = some (v, hr) → V X h (pc + 1) ls (.int x :: st)) : V X h pc ls (.int i :: .ref a :: st) := by
  obtain ⟨x, h1, e1, e2, -⟩ := mb_inv hf (hle.rf hr)
  obtain ⟨e3, rfl⟩ := mrd_inv e1
  obtain ⟨y, e4, e5⟩ := Option.bind_eq_some_iff.mp e3
  obtain ⟨n, f, rfl, hi, rfl⟩ := xI_inv e5
  exact fun H locs la q1 q2 q3 q4 q5 q6 => va_iald C.1 C.2.1 C.K (q3.one (hA_inv e4)) 0 1 rfl rfl hi d (kk _ e2 H locs la q1 q2 q3 q4 q5 q6)
theorem v_baload (C : Cx X own cc nL ret he F L) {a : Nat} {i : Int32} {k : Int32 → hM α} (hf : (mb (aI 0 a i) k).1 h = some (v, hr)) (d : decode cc pc = .ok (.baload, 1)) (kk : ∀ x : Int32, (k x).1 h = some (v, hr) → V X h (pc + 1) ls (.int x :: st)) : V X h pc ls (.int i :: .ref a :: st) := by
  obtain ⟨x, h1, e1, e2, -⟩ := mb_inv hf (hle.rf hr)
  obtain ⟨e3, rfl⟩ := mrd_inv e1
  obtain ⟨y, e4, e5⟩ := Option.bind_eq_some_iff.mp e3
  obtain ⟨n, f, rfl, hi, rfl⟩ := xI_inv e5
  exact fun H locs la q1 q2 q3 q4 q5 q6 => va_bald C.1 C.2.1 C.K (q3.one (hA_inv e4)) 0 0 rfl rfl hi d (kk _ e2 H locs la q1 q2 q3 q4 q5 q6)
theorem v_zaload (C : Cx X own cc nL ret he F L) {a : Nat} {i : Int32} {k : Int32 → hM α} (hf : (mb (aI 2 a i) k).1 h = some (v, hr)) (d : decode cc pc = .ok (.baload, 1)) (kk : ∀ x : Int32, (k x).1 h = some (v, hr) → V X h (pc + 1) ls (.int x :: st)) : V X h pc ls (.int i :: .ref a :: st) := by
  obtain ⟨x, h1, e1, e2, -⟩ := mb_inv hf (hle.rf hr)
  obtain ⟨e3, rfl⟩ := mrd_inv e1
  obtain ⟨y, e4, e5⟩ := Option.bind_eq_some_iff.mp e3
  obtain ⟨n, f, rfl, hi, rfl⟩ := xI_inv e5
  exact fun H locs la q1 q2 q3 q4 q5 q6 => va_zald C.1 C.2.1 C.K (q3.one (hA_inv e4)) 0 2 rfl rfl hi d (kk _ e2 H locs la q1 q2 q3 q4 q5 q6)
theorem v_caload (C : Cx X own cc nL ret he F L) {a : Nat} {i : Int32} {k : Int32 → hM α} (hf : (mb (aI 3 a i) k).1 h = some (v, hr)) (d : decode cc pc = .ok (.caload, 1)) (kk : ∀ x : Int32, (k x).1 h = some (v, hr) → V X h (pc + 1) ls (.int x :: st)) : V X h pc ls (.int i :: .ref a :: st) := by
  obtain ⟨x, h1, e1, e2, -⟩ := mb_inv hf (hle.rf hr)
  obtain ⟨e3, rfl⟩ := mrd_inv e1
  obtain ⟨y, e4, e5⟩ := Option.bind_eq_some_iff.mp e3
  obtain ⟨n, f, rfl, hi, rfl⟩ := xI_inv e5
  exact fun H locs la q1 q2 q3 q4 q5 q6 => va_cald C.1 C.2.1 C.K (q3.one (hA_inv e4)) 0 3 rfl rfl hi d (kk _ e2 H locs la q1 q2 q3 q4 q5 q6)
theorem v_saload (C : Cx X own cc nL ret he F L) {a : Nat} {i : Int32} {k : Int32 → hM α} (hf : (mb (aI 4 a i) k).1 h = some (v, hr)) (d : decode cc pc = .ok (.saload, 1)) (kk : ∀ x : Int32, (k x).1 h = some (v, hr) → V X h (pc + 1) ls (.int x :: st)) : V X h pc ls (.int i :: .ref a :: st) := by
  obtain ⟨x, h1, e1, e2, -⟩ := mb_inv hf (hle.rf hr)
  obtain ⟨e3, rfl⟩ := mrd_inv e1
  obtain ⟨y, e4, e5⟩ := Option.bind_eq_some_iff.mp e3
  obtain ⟨n, f, rfl, hi, rfl⟩ := xI_inv e5
  exact fun H locs la q1 q2 q3 q4 q5 q6 => va_sald C.1 C.2.1 C.K (q3.one (hA_inv e4)) 0 4 rfl rfl hi d (kk _ e2 H locs la q1 q2 q3 q4 q5 q6)
theorem v_laload (C : Cx X own cc nL ret he F L) {a : Nat} {i : Int32} {k : Int64 → hM α} (hf : (mb (aL 5 a i) k).1 h = some (v, hr)) (d : decode cc pc = .ok (.laload, 1)) (kk : ∀ x : Int64, (k x).1 h = some (v, hr) → V X h (pc + 1) ls (.long x :: st)) : V X h pc ls (.int i :: .ref a :: st) := by
  obtain ⟨x, h1, e1, e2, -⟩ := mb_inv hf (hle.rf hr)
  obtain ⟨e3, rfl⟩ := mrd_inv e1
  obtain ⟨y, e4, e5⟩ := Option.bind_eq_some_iff.mp e3
  obtain ⟨n, f, rfl, hi, rfl⟩ := xL_inv e5
  exact fun H locs la q1 q2 q3 q4 q5 q6 => va_lald C.1 C.2.1 C.K (q3.one (hA_inv e4)) 0 5 rfl rfl hi d (kk _ e2 H locs la q1 q2 q3 q4 q5 q6)
theorem v_aaloadQ (C : Cx X own cc nL ret he F L) {kd a : Nat} {i : Int32} {k : Option Nat → hM α} {Cn : String} (hf : (mb (aQ kd a i) k).1 h = some (v, hr)) (hk : kd < 11) (hC : tyK kd = .object Cn) (d : decode cc pc = .ok (.aaload, 1)) (kk : ∀ x : Option Nat, (k x).1 h = some (v, hr) → V X h (pc + 1) ls (va_rf x :: st)) : V X h pc ls (.int i :: .ref a :: st) := by
  obtain ⟨x, h1, e1, e2, -⟩ := mb_inv hf (hle.rf hr)
  obtain ⟨e3, rfl⟩ := mrd_inv e1
  obtain ⟨y, e4, e5⟩ := Option.bind_eq_some_iff.mp e3
  obtain ⟨n, f, rfl, hi, rfl⟩ := xQ_inv e5
  exact fun H locs la q1 q2 q3 q4 q5 q6 => va_aldq C.1 C.2.1 C.K (q3.one (hA_inv e4)) 0 kd rfl ((tyG_at _ kd hk).trans (by rw [hC])) hi d (kk _ e2 H locs la q1 q2 q3 q4 q5 q6)
theorem v_aaload (C : Cx X own cc nL ret he F L) {kd a : Nat} {i : Int32} {k : Nat → hM α} {Cn : String} (hf : (mb (aR kd a i) k).1 h = some (v, hr)) (hk : kd < 11) (hC : tyK kd = .object Cn) (d : decode cc pc = .ok (.aaload, 1)) (kk : ∀ x : Nat, (k x).1 h = some (v, hr) → V X h (pc + 1) ls (.ref x :: st)) : V X h pc ls (.int i :: .ref a :: st) := by
  obtain ⟨x, h1, e1, e2, -⟩ := mb_inv hf (hle.rf hr)
  obtain ⟨y, h2, e3, e4, -⟩ := mb_inv e1 (hle.rf h1)
  have hf2 : (mb (aQ kd a i) (fun q => mb (mnn q) k)).1 h = some (v, hr) := (mb_ev e3).trans ((mb_ev e4).trans e2)
  refine v_aaloadQ C hf2 hk hC d (fun z e5 => ?_)
  obtain ⟨w, h3, e6, e7, -⟩ := mb_inv e5 (hle.rf hr)
  cases z with
  | none => exact mfail_inv e6
  | some z =>
    obtain ⟨rfl, rfl⟩ := mret_inv e6
    exact kk _ e7
/-- stores -/
theorem v_iastore (C : Cx X own cc nL ret he F L) {a : Nat} {i x : Int32} {k : Unit → hM α} (hf : (mb (sI 1 a i x) k).1 h = some (v, hr)) (d : decode cc pc = .ok (.iastore, 1)) (kk : ∀ h1 : Hp, (k ()).1 h1 = some (v, hr) → V X h1 (pc + 1) ls st) : V X h pc ls (.int x :: .int i :: .ref a :: st) := by
  obtain ⟨u, h1, e1, e2, -⟩ := mb_inv hf (hle.rf hr)
  obtain ⟨n, f, g1, hin, g3, rfl⟩ := sIf_inv e1
  intro H locs la q1 q2 q3 q4 q5 q6
  refine W.iast C.1 C.2.1 (q3 a _ g1) ((C.K.2 1 _ rfl).1 n (fun j => .int (f j))) (fun q => by cases q) (by show ¬ (i < 0 ∨ (arrV _ _ _).slots.size ≤ _); rw [arrV_size]; exact hin) rfl rfl d fun H1 e z oq => ?_
  refine kk _ e2 H1 _ la (z.trans q1) (hset_hle q2 g1 rfl) (q3.set (G := X.2.2.2.2.2.2.2.2.2.2.1) ?_ oq) (fun q hq => ?_) (locs_add q5 (lo_of q2 g3)) q6
  · show H1[a]? = some (vp_cell _ _)
    rw [e]
    show some (Cell.setSlot (vp_cell _ _) _ _) = _
    rw [vp_cell_i, vp_cell_i, arrV_store]
    congr 2
    funext q
    by_cases hq : q = i.toNatClampNeg
    · subst hq
      simp [updV, upd, hnk, vp_nar]
      try rfl
    · simp [updV, upd, hq]
  · rw [oq q (fun e => lo_ne hq (lo_of q2 g3) e)]
    exact q4 q hq
theorem v_bastore (C : Cx X own cc nL ret he F L) {a : Nat} {i x : Int32} {k : Unit → hM α} (hf : (mb (sI 0 a i x) k).1 h = some (v, hr)) (d : decode cc pc = .ok (.bastore, 1)) (kk : ∀ h1 : Hp, (k ()).1 h1 = some (v, hr) → V X h1 (pc + 1) ls st) : V X h pc ls (.int x :: .int i :: .ref a :: st) := by
  obtain ⟨u, h1, e1, e2, -⟩ := mb_inv hf (hle.rf hr)
  obtain ⟨n, f, g1, hin, g3, rfl⟩ := sIf_inv e1
  intro H locs la q1 q2 q3 q4 q5 q6
  refine W.bast C.1 C.2.1 (q3 a _ g1) ((C.K.2 0 _ rfl).1 n (fun j => .int (f j))) (fun q => by cases q) (by show ¬ (i < 0 ∨ (arrV _ _ _).slots.size ≤ _); rw [arrV_size]; exact hin) rfl rfl d fun H1 e z oq => ?_
  refine kk _ e2 H1 _ la (z.trans q1) (hset_hle q2 g1 rfl) (q3.set (G := X.2.2.2.2.2.2.2.2.2.2.1) ?_ oq) (fun q hq => ?_) (locs_add q5 (lo_of q2 g3)) q6
  · show H1[a]? = some (vp_cell _ _)
    rw [e]
    show some (Cell.setSlot (vp_cell _ _) _ _) = _
    rw [vp_cell_i, vp_cell_i, arrV_store]
    congr 2
    funext q
    by_cases hq : q = i.toNatClampNeg
    · subst hq
      simp [updV, upd, hnk, vp_nar]
      try rfl
    · simp [updV, upd, hq]
  · rw [oq q (fun e => lo_ne hq (lo_of q2 g3) e)]
    exact q4 q hq
theorem v_zastore (C : Cx X own cc nL ret he F L) {a : Nat} {i x : Int32} {k : Unit → hM α} (hf : (mb (sI 2 a i x) k).1 h = some (v, hr)) (d : decode cc pc = .ok (.bastore, 1)) (kk : ∀ h1 : Hp, (k ()).1 h1 = some (v, hr) → V X h1 (pc + 1) ls st) : V X h pc ls (.int x :: .int i :: .ref a :: st) := by
  obtain ⟨u, h1, e1, e2, -⟩ := mb_inv hf (hle.rf hr)
  obtain ⟨n, f, g1, hin, g3, rfl⟩ := sIf_inv e1
  intro H locs la q1 q2 q3 q4 q5 q6
  refine W.zast C.1 C.2.1 (q3 a _ g1) ((C.K.2 2 _ rfl).1 n (fun j => .int (f j))) (fun q => by cases q) (by show ¬ (i < 0 ∨ (arrV _ _ _).slots.size ≤ _); rw [arrV_size]; exact hin) rfl rfl d fun H1 e z oq => ?_
  refine kk _ e2 H1 _ la (z.trans q1) (hset_hle q2 g1 rfl) (q3.set (G := X.2.2.2.2.2.2.2.2.2.2.1) ?_ oq) (fun q hq => ?_) (locs_add q5 (lo_of q2 g3)) q6
  · show H1[a]? = some (vp_cell _ _)
    rw [e]
    show some (Cell.setSlot (vp_cell _ _) _ _) = _
    rw [vp_cell_i, vp_cell_i, arrV_store]
    congr 2
    funext q
    by_cases hq : q = i.toNatClampNeg
    · subst hq
      simp [updV, upd, hnk, vp_nar]
      try rfl
    · simp [updV, upd, hq]
  · rw [oq q (fun e => lo_ne hq (lo_of q2 g3) e)]
    exact q4 q hq
theorem v_castore (C : Cx X own cc nL ret he F L) {a : Nat} {i x : Int32} {k : Unit → hM α} (hf : (mb (sI 3 a i x) k).1 h = some (v, hr)) (d : decode cc pc = .ok (.castore, 1)) (kk : ∀ h1 : Hp, (k ()).1 h1 = some (v, hr) → V X h1 (pc + 1) ls st) : V X h pc ls (.int x :: .int i :: .ref a :: st) := by
  obtain ⟨u, h1, e1, e2, -⟩ := mb_inv hf (hle.rf hr)
  obtain ⟨n, f, g1, hin, g3, rfl⟩ := sIf_inv e1
  intro H locs la q1 q2 q3 q4 q5 q6
  refine W.cast C.1 C.2.1 (q3 a _ g1) ((C.K.2 3 _ rfl).1 n (fun j => .int (f j))) (fun q => by cases q) (by show ¬ (i < 0 ∨ (arrV _ _ _).slots.size ≤ _); rw [arrV_size]; exact hin) rfl rfl d fun H1 e z oq => ?_
  refine kk _ e2 H1 _ la (z.trans q1) (hset_hle q2 g1 rfl) (q3.set (G := X.2.2.2.2.2.2.2.2.2.2.1) ?_ oq) (fun q hq => ?_) (locs_add q5 (lo_of q2 g3)) q6
  · show H1[a]? = some (vp_cell _ _)
    rw [e]
    show some (Cell.setSlot (vp_cell _ _) _ _) = _
    rw [vp_cell_i, vp_cell_i, arrV_store]
    congr 2
    funext q
    by_cases hq : q = i.toNatClampNeg
    · subst hq
      simp [updV, upd, hnk, vp_nar]
      try rfl
    · simp [updV, upd, hq]
  · rw [oq q (fun e => lo_ne hq (lo_of q2 g3) e)]
    exact q4 q hq
theorem v_sastore (C : Cx X own cc nL ret he F L) {a : Nat} {i x : Int32} {k : Unit → hM α} (hf : (mb (sI 4 a i x) k).1 h = some (v, hr)) (d : decode cc pc = .ok (.sastore, 1)) (kk : ∀ h1 : Hp, (k ()).1 h1 = some (v, hr) → V X h1 (pc + 1) ls st) : V X h pc ls (.int x :: .int i :: .ref a :: st) := by
  obtain ⟨u, h1, e1, e2, -⟩ := mb_inv hf (hle.rf hr)
  obtain ⟨n, f, g1, hin, g3, rfl⟩ := sIf_inv e1
  intro H locs la q1 q2 q3 q4 q5 q6
  refine W.sast C.1 C.2.1 (q3 a _ g1) ((C.K.2 4 _ rfl).1 n (fun j => .int (f j))) (fun q => by cases q) (by show ¬ (i < 0 ∨ (arrV _ _ _).slots.size ≤ _); rw [arrV_size]; exact hin) rfl rfl d fun H1 e z oq => ?_
  refine kk _ e2 H1 _ la (z.trans q1) (hset_hle q2 g1 rfl) (q3.set (G := X.2.2.2.2.2.2.2.2.2.2.1) ?_ oq) (fun q hq => ?_) (locs_add q5 (lo_of q2 g3)) q6
  · show H1[a]? = some (vp_cell _ _)
    rw [e]
    show some (Cell.setSlot (vp_cell _ _) _ _) = _
    rw [vp_cell_i, vp_cell_i, arrV_store]
    congr 2
    funext q
    by_cases hq : q = i.toNatClampNeg
    · subst hq
      simp [updV, upd, hnk, vp_nar]
      try rfl
    · simp [updV, upd, hq]
  · rw [oq q (fun e => lo_ne hq (lo_of q2 g3) e)]
    exact q4 q hq
theorem v_lastore (C : Cx X own cc nL ret he F L) {a : Nat} {i : Int32} {x : Int64} {k : Unit → hM α} (hf : (mb (sL 5 a i x) k).1 h = some (v, hr)) (d : decode cc pc = .ok (.lastore, 1)) (kk : ∀ h1 : Hp, (k ()).1 h1 = some (v, hr) → V X h1 (pc + 1) ls st) : V X h pc ls (.long x :: .int i :: .ref a :: st) := by
  obtain ⟨u, h1, e1, e2, -⟩ := mb_inv hf (hle.rf hr)
  obtain ⟨n, f, g1, hin, g3, rfl⟩ := sLf_inv e1
  intro H locs la q1 q2 q3 q4 q5 q6
  refine W.last C.1 C.2.1 (q3 a _ g1) ((C.K.2 5 _ rfl).1 n (fun j => .long (f j))) (fun q => by cases q) (by show ¬ (i < 0 ∨ (arrV _ _ _).slots.size ≤ _); rw [arrV_size]; exact hin) rfl rfl d fun H1 e z oq => ?_
  refine kk _ e2 H1 _ la (z.trans q1) (hset_hle q2 g1 rfl) (q3.set (G := X.2.2.2.2.2.2.2.2.2.2.1) ?_ oq) (fun q hq => ?_) (locs_add q5 (lo_of q2 g3)) q6
  · show H1[a]? = some (vp_cell _ _)
    rw [e]
    show some (Cell.setSlot (vp_cell _ _) _ _) = _
    rw [vp_cell_l, vp_cell_l, arrV_store]
    congr 2
    funext q
    by_cases hq : q = i.toNatClampNeg
    · subst hq
      simp [updV, vp_updL]
    · simp [updV, vp_updL, hq]
  · rw [oq q (fun e => lo_ne hq (lo_of q2 g3) e)]
    exact q4 q hq
theorem v_aastore (C : Cx X own cc nL ret he F L) {kd ec a x : Nat} {i : Int32} {r : vw_C} {k : Unit → hM α} (hf : (mb (sR kd ec a i x) k).1 h = some (v, hr)) (hk : kd < 11) (hc : clG[ec]? = some r) (hC : tyK kd = .object r.1) (d : decode cc pc = .ok (.aastore, 1)) (kk : ∀ h1 : Hp, (k ()).1 h1 = some (v, hr) → V X h1 (pc + 1) ls st) : V X h pc ls (.ref x :: .int i :: .ref a :: st) := by
  obtain ⟨u, h1, e1, e2, -⟩ := mb_inv hf (hle.rf hr)
  obtain ⟨n, f, fs, g1, gx, hin, g3, rfl⟩ := sRf_inv e1
  intro H locs la q1 q2 q3 q4 q5 q6
  have hK := C.K
  have hlt : i.toNatClampNeg < n := Nat.not_le.mp fun q => hin (Or.inr q)
  have h0 : ¬ i < 0 := fun q => hin (Or.inl q)
  obtain ⟨r', hr', cellV, c1, c2, c3, -⟩ := q3 x _ gx
  have hcls := (hK.1 ec r hc).2
  obtain ⟨kA, comp, k1, k2, k3, -⟩ : va_RA X.2.2.2.2.1 (X.2.2.2.2.2.2.2.2.2.2.1.2.2.2.2.1 kd) (.object r.1) := by rw [← hC]; exact (hK.2 kd _ (tyG_at _ kd hk)).2
  have hcomp : comp = X.2.2.2.2.2.2.2.2.2.2.1.2.2.1 ec := Option.some.inj (k3.symm.trans hcls.1)
  subst hcomp
  obtain ⟨kC, hkC, -⟩ := hcls.2
  refine W.aast C.1 C.2.1 (q3 a _ g1) (fun q h => by cases h) (fun h => by cases h) k1 k2 rfl hkC ⟨h0, by show _ < (arrV _ _ _).slots.size; rw [arrV_size]; exact hlt⟩ c1 (fun q h => by rw [c3] at h; cases h) (by rw [c2]; exact hkC) (by rw [c2]; exact va_assign hcls) rfl rfl d fun H1 e z oq => ?_
  refine kk _ e2 H1 _ la (z.trans q1) (hset_hle q2 g1 rfl) (q3.set (G := X.2.2.2.2.2.2.2.2.2.2.1) ?_ oq) (fun q hq => ?_) (locs_add q5 (lo_of q2 g3)) q6
  · show H1[a]? = some (vp_cell _ _)
    rw [e]
    show some (Cell.setSlot (vp_cell _ _) _ _) = _
    rw [vp_cell_q, vp_cell_q, arrV_store]
    congr 2
    funext q
    by_cases hq : q = i.toNatClampNeg
    · subst hq
      simp [updV, va_up, va_rf]
    · simp [updV, va_up, hq]
  · rw [oq q (fun e => lo_ne hq (lo_of q2 g3) e)]
    exact q4 q hq
/-- new -/
theorem v_new (C : Cx X own cc nL ret he F L) {Cn : String} {T : u_T} {N ci index : Nat} {ty0 : Nat → FieldType} {fs : List Value} {k : Nat → hM α} (hf : (mb (newO ci N fs) k).1 h = some (v, hr)) (hl : hle hr he) (hin : ∀ w ∈ u_ws Cn T N, w ∈ lw_all) (hty : ∀ k, k < N → parseFieldDescriptor (T k).2.2.1 = some (ty0 k)) (hc : clG[ci]? = some (Cn, T, N)) (qc : Jvm.Cond.classLink own index Cn ∈ lw_all) (qi : Jvm.Cond.instantiable Cn N ∈ lw_all) (qn : Jvm.Cond.initialized Cn ∈ lw_all) (hfs : ∀ j, j < N → defaultValue (ty0 j) = vp_V fs j) (d : decode cc pc = .ok (.new index, 3)) (kk : ∀ (a : Nat) (h1 : Hp), (k a).1 h1 = some (v, hr) → V X h1 (pc + 3) ls (.ref a :: st)) : V X h pc ls st := by
  obtain ⟨a, h1, e1, e2, l1⟩ := mb_inv hf hl
  obtain ⟨rfl, rfl, -⟩ := mnewf_inv e1
  intro H locs la q1 q2 q3 q4 q5 q6
  have hts := C.2.2.2.2.2.2.2.2.1
  have hK := C.K
  have hKn := hK.1 ci _ hc
  have hR := C.2.2.2.2.2.2.2.2.2
  have l2 : h.2.1 + 1 ≤ he.2.1 := l1.1
  have l3 : h.2.2.1 + N ≤ he.2.2.1 := l1.2.1
  have l4 := q2.1
  have l5 := q2.2.1
  refine W.newcK C.1 C.2.1 C.2.2.2.2.2.1 (hts _ qc) (hts _ qi) (hts _ qn) rfl d (by rw [hR]; show _ + 1 ≤ he.2.1 - _; omega) (by rw [hR]; show _ + N ≤ he.2.2.1 - _; omega) hKn.2.1 rfl fun H1 kC hkC e1 z1 o1 => ?_
  rw [q1]
  have hfr := q3.fresh q1
  refine W.cs ?_ ?_ (kk _ _ e2 H1 locs la (z1.trans (by rw [q1]; rfl)) (q2.tr (hnew_le hfr)) (q3.new q1 ?_ o1) (fun q hq => ?_) q5 q6)
  · show h.2.1 - _ + 1 = h.2.1 + 1 - _; omega
  · show h.2.2.1 - _ + N = h.2.2.1 + N - _; omega
  · exact ⟨_, hc, by
      have := (u_born ty0 hts hin hKn hkC e1 hty).to hfs
      rw [q1] at this
      exact this⟩
  · rw [o1 q (by rw [q1]; exact Nat.lt_of_lt_of_le hq (Nat.le_trans C.2.2.2.2.2.2.2.1.2.2.2.2.1 q2.1))]
    exact q4 q hq
theorem v_newarraybyte (C : Cx X own cc nL ret he F L) {n : Int32} {k : Nat → hM α} (hf : (mb (newA 0 n) k).1 h = some (v, hr)) (hl : hle hr he) (qa : Jvm.Cond.arrayClass Jvm.ClassFile.FieldType.byte ∈ lw_all) (d : decode cc pc = .ok (.newarray .byte, 2)) (kk : ∀ (a : Nat) (h1 : Hp), (k a).1 h1 = some (v, hr) → V X h1 (pc + 2) ls (.ref a :: st)) : V X h pc ls (.int n :: st) := by
  obtain ⟨a, h1, e1, e2, l1⟩ := mb_inv hf hl
  by_cases hn : ¬ n < 0 ∧ n.toNatClampNeg ≤ 65536
  · obtain ⟨rfl, rfl, -⟩ := mnewf_inv (mi_pos hn e1)
    intro H locs la q1 q2 q3 q4 q5 q6
    have hts := C.2.2.2.2.2.2.2.2.1
    have hK := C.K
    have hR := C.2.2.2.2.2.2.2.2.2
    have l2 : h.2.1 + 1 ≤ he.2.1 := l1.1
    have l3 : h.2.2.1 + n.toNatClampNeg ≤ he.2.2.1 := l1.2.1
    have l4 := q2.1
    have l5 := q2.2.1
    refine va_newaK C.1 C.2.1 (atype := .byte) (hts _ qa) rfl d rfl hn.1 rfl (by show _ * 1 ≤ _; omega) (by rw [hR]; show _ + 1 ≤ he.2.1 - _; omega) (by rw [hR]; show _ + _ ≤ he.2.2.1 - _; omega) q1 fun H1 cA e1 z1 o1 hAr hNm => ?_
    have hfr := q3.fresh q1
    have hcA : cA = X.2.2.2.2.2.2.2.2.2.2.1.2.2.2.2.1 0 := by
      have h1 : X.2.2.2.2.1.vm.findClass _ = some (X.2.2.2.2.2.2.2.2.2.2.1.2.2.2.2.1 0) := (hK.2 0 _ rfl).2
      exact Option.some.inj (hNm.symm.trans h1)
    subst hcA
    refine W.cs ?_ ?_ (kk _ _ e2 H1 locs la z1 (q2.tr (hnew_le hfr)) (q3.new q1 ?_ (fun q hq => o1 q (by rw [← q1]; exact hq))) (fun q hq => ?_) q5 q6)
    · show h.2.1 - _ + 1 = h.2.1 + 1 - _; omega
    · show h.2.2.1 - _ + _ = h.2.2.1 + _ - _; omega
    · exact e1
    · rw [o1 q (Nat.lt_of_lt_of_le hq (Nat.le_trans C.2.2.2.2.2.2.2.1.2.2.2.2.1 q2.1))]
      exact q4 q hq
  · exact mfail_inv (mi_neg hn e1)
theorem v_newarrayint (C : Cx X own cc nL ret he F L) {n : Int32} {k : Nat → hM α} (hf : (mb (newA 1 n) k).1 h = some (v, hr)) (hl : hle hr he) (qa : Jvm.Cond.arrayClass Jvm.ClassFile.FieldType.int ∈ lw_all) (d : decode cc pc = .ok (.newarray .int, 2)) (kk : ∀ (a : Nat) (h1 : Hp), (k a).1 h1 = some (v, hr) → V X h1 (pc + 2) ls (.ref a :: st)) : V X h pc ls (.int n :: st) := by
  obtain ⟨a, h1, e1, e2, l1⟩ := mb_inv hf hl
  by_cases hn : ¬ n < 0 ∧ n.toNatClampNeg ≤ 65536
  · obtain ⟨rfl, rfl, -⟩ := mnewf_inv (mi_pos hn e1)
    intro H locs la q1 q2 q3 q4 q5 q6
    have hts := C.2.2.2.2.2.2.2.2.1
    have hK := C.K
    have hR := C.2.2.2.2.2.2.2.2.2
    have l2 : h.2.1 + 1 ≤ he.2.1 := l1.1
    have l3 : h.2.2.1 + n.toNatClampNeg ≤ he.2.2.1 := l1.2.1
    have l4 := q2.1
    have l5 := q2.2.1
    refine va_newaK C.1 C.2.1 (atype := .int) (hts _ qa) rfl d rfl hn.1 rfl (by show _ * 4 ≤ _; omega) (by rw [hR]; show _ + 1 ≤ he.2.1 - _; omega) (by rw [hR]; show _ + _ ≤ he.2.2.1 - _; omega) q1 fun H1 cA e1 z1 o1 hAr hNm => ?_
    have hfr := q3.fresh q1
    have hcA : cA = X.2.2.2.2.2.2.2.2.2.2.1.2.2.2.2.1 1 := by
      have h1 : X.2.2.2.2.1.vm.findClass _ = some (X.2.2.2.2.2.2.2.2.2.2.1.2.2.2.2.1 1) := (hK.2 1 _ rfl).2
      exact Option.some.inj (hNm.symm.trans h1)
    subst hcA
    refine W.cs ?_ ?_ (kk _ _ e2 H1 locs la z1 (q2.tr (hnew_le hfr)) (q3.new q1 ?_ (fun q hq => o1 q (by rw [← q1]; exact hq))) (fun q hq => ?_) q5 q6)
    · show h.2.1 - _ + 1 = h.2.1 + 1 - _; omega
    · show h.2.2.1 - _ + _ = h.2.2.1 + _ - _; omega
    · exact e1
    · rw [o1 q (Nat.lt_of_lt_of_le hq (Nat.le_trans C.2.2.2.2.2.2.2.1.2.2.2.2.1 q2.1))]
      exact q4 q hq
  · exact mfail_inv (mi_neg hn e1)
theorem v_newarrayboolean (C : Cx X own cc nL ret he F L) {n : Int32} {k : Nat → hM α} (hf : (mb (newA 2 n) k).1 h = some (v, hr)) (hl : hle hr he) (qa : Jvm.Cond.arrayClass Jvm.ClassFile.FieldType.boolean ∈ lw_all) (d : decode cc pc = .ok (.newarray .boolean, 2)) (kk : ∀ (a : Nat) (h1 : Hp), (k a).1 h1 = some (v, hr) → V X h1 (pc + 2) ls (.ref a :: st)) : V X h pc ls (.int n :: st) := by
  obtain ⟨a, h1, e1, e2, l1⟩ := mb_inv hf hl
  by_cases hn : ¬ n < 0 ∧ n.toNatClampNeg ≤ 65536
  · obtain ⟨rfl, rfl, -⟩ := mnewf_inv (mi_pos hn e1)
    intro H locs la q1 q2 q3 q4 q5 q6
    have hts := C.2.2.2.2.2.2.2.2.1
    have hK := C.K
    have hR := C.2.2.2.2.2.2.2.2.2
    have l2 : h.2.1 + 1 ≤ he.2.1 := l1.1
    have l3 : h.2.2.1 + n.toNatClampNeg ≤ he.2.2.1 := l1.2.1
    have l4 := q2.1
    have l5 := q2.2.1
    refine va_newaK C.1 C.2.1 (atype := .boolean) (hts _ qa) rfl d rfl hn.1 rfl (by show _ * 1 ≤ _; omega) (by rw [hR]; show _ + 1 ≤ he.2.1 - _; omega) (by rw [hR]; show _ + _ ≤ he.2.2.1 - _; omega) q1 fun H1 cA e1 z1 o1 hAr hNm => ?_
    have hfr := q3.fresh q1
    have hcA : cA = X.2.2.2.2.2.2.2.2.2.2.1.2.2.2.2.1 2 := by
      have h1 : X.2.2.2.2.1.vm.findClass _ = some (X.2.2.2.2.2.2.2.2.2.2.1.2.2.2.2.1 2) := (hK.2 2 _ rfl).2
      exact Option.some.inj (hNm.symm.trans h1)
    subst hcA
    refine W.cs ?_ ?_ (kk _ _ e2 H1 locs la z1 (q2.tr (hnew_le hfr)) (q3.new q1 ?_ (fun q hq => o1 q (by rw [← q1]; exact hq))) (fun q hq => ?_) q5 q6)
    · show h.2.1 - _ + 1 = h.2.1 + 1 - _; omega
    · show h.2.2.1 - _ + _ = h.2.2.1 + _ - _; omega
    · exact e1
    · rw [o1 q (Nat.lt_of_lt_of_le hq (Nat.le_trans C.2.2.2.2.2.2.2.1.2.2.2.2.1 q2.1))]
      exact q4 q hq
  · exact mfail_inv (mi_neg hn e1)
theorem v_newarrayshort (C : Cx X own cc nL ret he F L) {n : Int32} {k : Nat → hM α} (hf : (mb (newA 4 n) k).1 h = some (v, hr)) (hl : hle hr he) (qa : Jvm.Cond.arrayClass Jvm.ClassFile.FieldType.short ∈ lw_all) (d : decode cc pc = .ok (.newarray .short, 2)) (kk : ∀ (a : Nat) (h1 : Hp), (k a).1 h1 = some (v, hr) → V X h1 (pc + 2) ls (.ref a :: st)) : V X h pc ls (.int n :: st) := by
  obtain ⟨a, h1, e1, e2, l1⟩ := mb_inv hf hl
  by_cases hn : ¬ n < 0 ∧ n.toNatClampNeg ≤ 65536
  · obtain ⟨rfl, rfl, -⟩ := mnewf_inv (mi_pos hn e1)
    intro H locs la q1 q2 q3 q4 q5 q6
    have hts := C.2.2.2.2.2.2.2.2.1
    have hK := C.K
    have hR := C.2.2.2.2.2.2.2.2.2
    have l2 : h.2.1 + 1 ≤ he.2.1 := l1.1
    have l3 : h.2.2.1 + n.toNatClampNeg ≤ he.2.2.1 := l1.2.1
    have l4 := q2.1
    have l5 := q2.2.1
    refine va_newaK C.1 C.2.1 (atype := .short) (hts _ qa) rfl d rfl hn.1 rfl (by show _ * 2 ≤ _; omega) (by rw [hR]; show _ + 1 ≤ he.2.1 - _; omega) (by rw [hR]; show _ + _ ≤ he.2.2.1 - _; omega) q1 fun H1 cA e1 z1 o1 hAr hNm => ?_
    have hfr := q3.fresh q1
    have hcA : cA = X.2.2.2.2.2.2.2.2.2.2.1.2.2.2.2.1 4 := by
      have h1 : X.2.2.2.2.1.vm.findClass _ = some (X.2.2.2.2.2.2.2.2.2.2.1.2.2.2.2.1 4) := (hK.2 4 _ rfl).2
      exact Option.some.inj (hNm.symm.trans h1)
    subst hcA
    refine W.cs ?_ ?_ (kk _ _ e2 H1 locs la z1 (q2.tr (hnew_le hfr)) (q3.new q1 ?_ (fun q hq => o1 q (by rw [← q1]; exact hq))) (fun q hq => ?_) q5 q6)
    · show h.2.1 - _ + 1 = h.2.1 + 1 - _; omega
    · show h.2.2.1 - _ + _ = h.2.2.1 + _ - _; omega
    · exact e1
    · rw [o1 q (Nat.lt_of_lt_of_le hq (Nat.le_trans C.2.2.2.2.2.2.2.1.2.2.2.2.1 q2.1))]
      exact q4 q hq
  · exact mfail_inv (mi_neg hn e1)
theorem v_newarraylong (C : Cx X own cc nL ret he F L) {n : Int32} {k : Nat → hM α} (hf : (mb (newA 5 n) k).1 h = some (v, hr)) (hl : hle hr he) (qa : Jvm.Cond.arrayClass Jvm.ClassFile.FieldType.long ∈ lw_all) (d : decode cc pc = .ok (.newarray .long, 2)) (kk : ∀ (a : Nat) (h1 : Hp), (k a).1 h1 = some (v, hr) → V X h1 (pc + 2) ls (.ref a :: st)) : V X h pc ls (.int n :: st) := by
  obtain ⟨a, h1, e1, e2, l1⟩ := mb_inv hf hl
  by_cases hn : ¬ n < 0 ∧ n.toNatClampNeg ≤ 65536
  · obtain ⟨rfl, rfl, -⟩ := mnewf_inv (mi_pos hn e1)
    intro H locs la q1 q2 q3 q4 q5 q6
    have hts := C.2.2.2.2.2.2.2.2.1
    have hK := C.K
    have hR := C.2.2.2.2.2.2.2.2.2
    have l2 : h.2.1 + 1 ≤ he.2.1 := l1.1
    have l3 : h.2.2.1 + n.toNatClampNeg ≤ he.2.2.1 := l1.2.1
    have l4 := q2.1
    have l5 := q2.2.1
    refine va_newaK C.1 C.2.1 (atype := .long) (hts _ qa) rfl d rfl hn.1 rfl (by show _ * 8 ≤ _; omega) (by rw [hR]; show _ + 1 ≤ he.2.1 - _; omega) (by rw [hR]; show _ + _ ≤ he.2.2.1 - _; omega) q1 fun H1 cA e1 z1 o1 hAr hNm => ?_
    have hfr := q3.fresh q1
    have hcA : cA = X.2.2.2.2.2.2.2.2.2.2.1.2.2.2.2.1 5 := by
      have h1 : X.2.2.2.2.1.vm.findClass _ = some (X.2.2.2.2.2.2.2.2.2.2.1.2.2.2.2.1 5) := (hK.2 5 _ rfl).2
      exact Option.some.inj (hNm.symm.trans h1)
    subst hcA
    refine W.cs ?_ ?_ (kk _ _ e2 H1 locs la z1 (q2.tr (hnew_le hfr)) (q3.new q1 ?_ (fun q hq => o1 q (by rw [← q1]; exact hq))) (fun q hq => ?_) q5 q6)
    · show h.2.1 - _ + 1 = h.2.1 + 1 - _; omega
    · show h.2.2.1 - _ + _ = h.2.2.1 + _ - _; omega
    · exact e1
    · rw [o1 q (Nat.lt_of_lt_of_le hq (Nat.le_trans C.2.2.2.2.2.2.2.1.2.2.2.2.1 q2.1))]
      exact q4 q hq
  · exact mfail_inv (mi_neg hn e1)
theorem v_newarraychar (C : Cx X own cc nL ret he F L) {n : Int32} {k : Nat → hM α} (hf : (mb (newA 3 n) k).1 h = some (v, hr)) (hl : hle hr he) (qa : Jvm.Cond.arrayClass Jvm.ClassFile.FieldType.char ∈ lw_all) (d : decode cc pc = .ok (.newarray .char, 2)) (kk : ∀ (a : Nat) (h1 : Hp), (k a).1 h1 = some (v, hr) → V X h1 (pc + 2) ls (.ref a :: st)) : V X h pc ls (.int n :: st) := by
  obtain ⟨a, h1, e1, e2, l1⟩ := mb_inv hf hl
  by_cases hn : ¬ n < 0 ∧ n.toNatClampNeg ≤ 65536
  · obtain ⟨rfl, rfl, -⟩ := mnewf_inv (mi_pos hn e1)
    intro H locs la q1 q2 q3 q4 q5 q6
    have hts := C.2.2.2.2.2.2.2.2.1
    have hK := C.K
    have hR := C.2.2.2.2.2.2.2.2.2
    have l2 : h.2.1 + 1 ≤ he.2.1 := l1.1
    have l3 : h.2.2.1 + n.toNatClampNeg ≤ he.2.2.1 := l1.2.1
    have l4 := q2.1
    have l5 := q2.2.1
    refine va_newaK C.1 C.2.1 (atype := .char) (hts _ qa) rfl d rfl hn.1 rfl (by show _ * 2 ≤ _; omega) (by rw [hR]; show _ + 1 ≤ he.2.1 - _; omega) (by rw [hR]; show _ + _ ≤ he.2.2.1 - _; omega) q1 fun H1 cA e1 z1 o1 hAr hNm => ?_
    have hfr := q3.fresh q1
    have hcA : cA = X.2.2.2.2.2.2.2.2.2.2.1.2.2.2.2.1 3 := by
      have h1 : X.2.2.2.2.1.vm.findClass _ = some (X.2.2.2.2.2.2.2.2.2.2.1.2.2.2.2.1 3) := (hK.2 3 _ rfl).2
      exact Option.some.inj (hNm.symm.trans h1)
    subst hcA
    refine W.cs ?_ ?_ (kk _ _ e2 H1 locs la z1 (q2.tr (hnew_le hfr)) (q3.new q1 ?_ (fun q hq => o1 q (by rw [← q1]; exact hq))) (fun q hq => ?_) q5 q6)
    · show h.2.1 - _ + 1 = h.2.1 + 1 - _; omega
    · show h.2.2.1 - _ + _ = h.2.2.1 + _ - _; omega
    · exact e1
    · rw [o1 q (Nat.lt_of_lt_of_le hq (Nat.le_trans C.2.2.2.2.2.2.2.1.2.2.2.2.1 q2.1))]
      exact q4 q hq
  · exact mfail_inv (mi_neg hn e1)
theorem tyK_ne {kd : Nat} {Cn : String} (hC : tyK kd = .object Cn) (hk : kd < 11) : 6 ≤ kd := by
  match kd, hC with
  | 0, h => cases h
  | 1, h => cases h
  | 2, h => cases h
  | 3, h => cases h
  | 4, h => cases h
  | 5, h => cases h
  | k + 6, _ => omega
theorem a0_ref {kd : Nat} (h : 6 ≤ kd) : a0 kd = .inr (.inr (.inr (.inr fun _ => none))) := by
  match kd, h with
  | k + 6, _ => rfl
theorem v_anewarray (C : Cx X own cc nL ret he F L) {kd index : Nat} {Cn : String} {n : Int32} {k : Nat → hM α} (hf : (mb (newA kd n) k).1 h = some (v, hr)) (hl : hle hr he) (hk : kd < 11) (hk6 : 6 ≤ kd) (hC : tyK kd = .object Cn) (qc : Jvm.Cond.classLink own index Cn ∈ lw_all) (qo : Jvm.Cond.arrayOver (Jvm.ClassFile.FieldType.object Cn) ∈ lw_tbl) (d : decode cc pc = .ok (.anewarray index, 3)) (kk : ∀ (a : Nat) (h1 : Hp), (k a).1 h1 = some (v, hr) → V X h1 (pc + 3) ls (.ref a :: st)) : V X h pc ls (.int n :: st) := by
  obtain ⟨a, h1, e1, e2, l1⟩ := mb_inv hf hl
  by_cases hn : ¬ n < 0 ∧ n.toNatClampNeg ≤ 65536
  · obtain ⟨rfl, rfl, -⟩ := mnewf_inv (mi_pos hn e1)
    intro H locs la q1 q2 q3 q4 q5 q6
    have hts := C.2.2.2.2.2.2.2.2.1
    have hK := C.K
    have hR := C.2.2.2.2.2.2.2.2.2
    have l2 : h.2.1 + 1 ≤ he.2.1 := l1.1
    have l3 : h.2.2.1 + n.toNatClampNeg ≤ he.2.2.1 := l1.2.1
    have l4 := q2.1
    have l5 := q2.2.1
    have hAO : va_AO Cn X.2.2.2.2.1 := va_AO.moved C.2.2.2.2.2.2.2.1.1.alike (va_AO.of (C.2.2.2.2.2.2.1.2.1 _ qo))
    refine W.anew C.1 C.2.1 C.2.2.2.2.2.1 (hts _ qc) (va_AO.use hAO) rfl d rfl hn.1 (by omega) (by rw [hR]; show _ + 1 ≤ he.2.1 - _; omega) (by rw [hR]; show _ + _ ≤ he.2.2.1 - _; omega) fun cA kA comp f1 f2 f3 f4 => ?_
    have hfr := q3.fresh q1
    have hcA : cA = X.2.2.2.2.2.2.2.2.2.2.1.2.2.2.2.1 kd := by
      obtain ⟨-, -, -, -, -, h1⟩ : va_RA X.2.2.2.2.1 (X.2.2.2.2.2.2.2.2.2.2.1.2.2.2.2.1 kd) (.object Cn) := by rw [← hC]; exact (hK.2 kd _ (tyG_at _ kd hk)).2
      exact Option.some.inj (f1.symm.trans h1)
    subst hcA
    rw [q1]
    refine W.cs ?_ ?_ (kk _ _ e2 _ locs la (by rw [Array.size_push, q1]; rfl) (q2.tr (hnew_le hfr)) (q3.new q1 ?_ (fun q hq => by rw [Array.getElem?_push, if_neg (Nat.ne_of_lt hq)])) (fun q hq => ?_) q5 q6)
    · show h.2.1 - _ + 1 = h.2.1 + 1 - _; omega
    · show h.2.2.1 - _ + _ = h.2.2.1 + _ - _; omega
    · show (H.push _)[h.2.1]? = some (vp_cell _ _)
      rw [← q1, Array.getElem?_push_size, a0_ref hk6, vp_cell_q]
      rw [← arrV_new]
      rfl
    · rw [Array.getElem?_push, if_neg (Nat.ne_of_lt (by rw [q1]; exact Nat.lt_of_lt_of_le hq (Nat.le_trans C.2.2.2.2.2.2.2.1.2.2.2.2.1 q2.1)))]
      exact q4 q hq
  · exact mfail_inv (mi_neg hn e1)
end VR2
