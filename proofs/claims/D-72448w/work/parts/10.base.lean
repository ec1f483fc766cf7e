/-! ===== THE SHALLOW LAYER: programs over a picture of the heap; a judgement V over W; one row an instruction ===== -/
set_option maxRecDepth 100000
/-- a cell: (kind of array, length and contents), or (number of class, fields) -/
abbrev hE : Type := (Nat × vp_A) ⊕ (Nat × List Value)
/-- the picture: cells, how many cells there are, how many slots were made, the first cell that may be written, constants' addresses -/
abbrev Hp : Type := (Nat → Option hE) × Nat × Nat × Nat × (Nat → Nat)
def hkd (e : hE) : (Nat × Nat) ⊕ (Nat × Nat) := match e with
  | .inl (k, a) => .inl (k, a.1)
  | .inr (c, fs) => .inr (c, fs.length)
/-- later: no cell goes, or changes its kind; nothing else is fewer -/
def hle (h h' : Hp) : Prop := h.2.1 ≤ h'.2.1 ∧ h.2.2.1 ≤ h'.2.2.1 ∧ h'.2.2.2 = h.2.2.2 ∧ ∀ a e, h.1 a = some e → ∃ e', h'.1 a = some e' ∧ hkd e' = hkd e
theorem hle.rf (h : Hp) : hle h h := ⟨Nat.le_refl _, Nat.le_refl _, rfl, fun _ e he => ⟨e, he, rfl⟩⟩
theorem hle.tr {a b c : Hp} (h1 : hle a b) (h2 : hle b c) : hle a c := ⟨Nat.le_trans h1.1 h2.1, Nat.le_trans h1.2.1 h2.2.1, h2.2.2.1.trans h1.2.2.1, fun x e he => by
  obtain ⟨e1, g1, g2⟩ := h1.2.2.2 x e he
  obtain ⟨e2, g3, g4⟩ := h2.2.2.2 x e1 g1
  exact ⟨e2, g3, g4.trans g2⟩⟩
abbrev hM (α : Type) : Type := {x : Hp → Option (α × Hp) // ∀ h a h', x h = some (a, h') → hle h h'}
def mret {α : Type} (a : α) : hM α := ⟨fun h => some (a, h), fun h b h' e => by cases e; exact hle.rf h⟩
def mfail {α : Type} : hM α := ⟨fun _ => none, fun h b h' e => by cases e⟩
def mbf {α β : Type} (x : hM α) (k : α → hM β) (h : Hp) : Option (β × Hp) := match x.1 h with
  | none => none
  | some (a, h1) => (k a).1 h1
theorem mbf_inv {α β : Type} {x : hM α} {k : α → hM β} {h h' : Hp} {b : β} (e : mbf x k h = some (b, h')) : ∃ a h1, x.1 h = some (a, h1) ∧ (k a).1 h1 = some (b, h') := by
  unfold mbf at e
  cases hx : x.1 h with
  | none => rw [hx] at e; cases e
  | some q => rw [hx] at e; exact ⟨q.1, q.2, rfl, e⟩
def mb {α β : Type} (x : hM α) (k : α → hM β) : hM β := ⟨mbf x k, fun h b h' e => by
  obtain ⟨a, h1, e1, e2⟩ := mbf_inv e
  exact (x.2 _ _ _ e1).tr ((k a).2 _ _ _ e2)⟩
def mi {α : Type} (c : Prop) [Decidable c] (x y : hM α) : hM α := ⟨fun h => if c then x.1 h else y.1 h, fun h b h' e => by
  have e : (if c then x.1 h else y.1 h) = some (b, h') := e
  by_cases hc : c
  · rw [if_pos hc] at e; exact x.2 _ _ _ e
  · rw [if_neg hc] at e; exact y.2 _ _ _ e⟩
/-- a reading -/
def mrd {α : Type} (f : Hp → Option α) : hM α := ⟨fun h => (f h).map (fun a => (a, h)), fun h b h' e => by
  obtain ⟨a, -, e2⟩ := Option.map_eq_some_iff.mp e
  cases e2
  exact hle.rf h⟩
theorem mret_inv {α : Type} {a b : α} {h h' : Hp} (e : (mret a).1 h = some (b, h')) : b = a ∧ h' = h := by cases e; exact ⟨rfl, rfl⟩
theorem mfail_inv {α : Type} {b : α} {h h' : Hp} {P : Prop} (e : (mfail : hM α).1 h = some (b, h')) : P := by cases e
theorem mb_inv {α β : Type} {x : hM α} {k : α → hM β} {h h' he : Hp} {b : β} (e : (mb x k).1 h = some (b, h')) (l : hle h' he) : ∃ a h1, x.1 h = some (a, h1) ∧ (k a).1 h1 = some (b, h') ∧ hle h1 he := by
  obtain ⟨a, h1, e1, e2⟩ := mbf_inv e
  exact ⟨a, h1, e1, e2, ((k a).2 _ _ _ e2).tr l⟩
theorem mi_pos {α : Type} {c : Prop} [Decidable c] {x y : hM α} {h : Hp} {r : Option (α × Hp)} (hc : c) (e : (mi c x y).1 h = r) : x.1 h = r := by
  have e : (if c then x.1 h else y.1 h) = r := e
  rwa [if_pos hc] at e
theorem mi_neg {α : Type} {c : Prop} [Decidable c] {x y : hM α} {h : Hp} {r : Option (α × Hp)} (hc : ¬ c) (e : (mi c x y).1 h = r) : y.1 h = r := by
  have e : (if c then x.1 h else y.1 h) = r := e
  rwa [if_neg hc] at e
theorem mrd_inv {α : Type} {f : Hp → Option α} {b : α} {h h' : Hp} (e : (mrd f).1 h = some (b, h')) : f h = some b ∧ h' = h := by
  obtain ⟨a, e1, e2⟩ := Option.map_eq_some_iff.mp e
  cases e2
  exact ⟨e1, rfl⟩
/-- evaluation -/
theorem mb_ev {α β : Type} {x : hM α} {k : α → hM β} {h h1 : Hp} {a : α} (e : x.1 h = some (a, h1)) : (mb x k).1 h = (k a).1 h1 := by
  show mbf x k h = _
  unfold mbf
  rw [e]
theorem mret_ev {α : Type} (a : α) (h : Hp) : (mret a).1 h = some (a, h) := rfl
theorem mb_ret {α β : Type} (a : α) (k : α → hM β) (h : Hp) : (mb (mret a) k).1 h = (k a).1 h := rfl
theorem mi_t {α : Type} {c : Prop} [Decidable c] (x y : hM α) (h : Hp) (hc : c) : (mi c x y).1 h = x.1 h := if_pos hc
theorem mi_f {α : Type} {c : Prop} [Decidable c] (x y : hM α) (h : Hp) (hc : ¬ c) : (mi c x y).1 h = y.1 h := if_neg hc
theorem mi_if {α : Type} {c : Prop} [Decidable c] (x y : hM α) (h : Hp) : (mi c x y).1 h = if c then x.1 h else y.1 h := rfl
theorem mrd_ev {α : Type} {f : Hp → Option α} {h : Hp} {a : α} (e : f h = some a) : (mrd f).1 h = some (a, h) := by
  show (f h).map _ = _
  rw [e]; rfl
/-- the machine's rests -/
def jrem (x y : Int32) : Int32 := x - x / y * y
def jreml (x y : Int64) : Int64 := x - x / y * y
def jushr (x y : Int32) : Int32 := (x.toUInt32 >>> (y.toUInt32 &&& Int32.toUInt32 31)).toInt32
def jlshl (x : Int64) (y : Int32) : Int64 := x <<< (y.toInt64 &&& 63)
def ji2c (x : Int32) : Int32 := (x.toUInt32 % 65536).toInt32
/-- fields -/
def hF (a ci k : Nat) (h : Hp) : Option Value := match h.1 a with
  | some (.inr (c, fs)) => if c = ci then fs[k]? else none
  | _ => none
def vI (v : Value) : Option Int32 := match v with
  | .int x => some x
  | _ => none
def vL (v : Value) : Option Int64 := match v with
  | .long x => some x
  | _ => none
def vR (v : Value) : Option Nat := match v with
  | .ref x => some x
  | _ => none
def vQ (v : Value) : Option (Option Nat) := match v with
  | .ref x => some (some x)
  | .null => some none
  | _ => none
theorem vI_inv {v : Value} {x : Int32} (e : vI v = some x) : v = .int x := by cases v <;> simp_all [vI]
theorem vL_inv {v : Value} {x : Int64} (e : vL v = some x) : v = .long x := by cases v <;> simp_all [vL]
theorem vR_inv {v : Value} {x : Nat} (e : vR v = some x) : v = .ref x := by cases v <;> simp_all [vR]
theorem vQ_inv {v : Value} {x : Option Nat} (e : vQ v = some x) : v = va_rf x := by cases v <;> simp_all [vQ, va_rf] <;> (subst e; rfl)
def gI (a ci k : Nat) : hM Int32 := mrd fun h => (hF a ci k h).bind vI
def gL (a ci k : Nat) : hM Int64 := mrd fun h => (hF a ci k h).bind vL
def gR (a ci k : Nat) : hM Nat := mrd fun h => (hF a ci k h).bind vR
def gQ (a ci k : Nat) : hM (Option Nat) := mrd fun h => (hF a ci k h).bind vQ
/-- the number of an object's class -/
def gC (a : Nat) : hM Nat := mrd fun h => match h.1 a with
  | some (.inr (c, _)) => some c
  | _ => none
/-- null is none of ours -/
def mnn (q : Option Nat) : hM Nat := match q with
  | some a => mret a
  | none => mfail
def hset (h : Hp) (a : Nat) (e : hE) : Hp := (fun x => if x = a then some e else h.1 x, h.2)
theorem hset_le {h : Hp} {a : Nat} {e e0 : hE} (h0 : h.1 a = some e0) (hk : hkd e = hkd e0) : hle h (hset h a e) := ⟨Nat.le_refl _, Nat.le_refl _, rfl, fun x e1 h1 => by
  by_cases hx : x = a
  · subst hx
    rw [h0] at h1
    cases h1
    exact ⟨e, if_pos rfl, hk⟩
  · exact ⟨e1, (if_neg hx).trans h1, rfl⟩⟩
def pFf (a ci k : Nat) (v : Value) (h : Hp) : Option (Unit × Hp) := match h.1 a with
  | some (.inr (c, fs)) => if c = ci ∧ k < fs.length ∧ h.2.2.2.1 ≤ a then some ((), hset h a (.inr (c, fs.set k v))) else none
  | _ => none
theorem pFf_inv {a ci k : Nat} {v : Value} {h h' : Hp} {u : Unit} (e : pFf a ci k v h = some (u, h')) : ∃ fs, h.1 a = some (.inr (ci, fs)) ∧ k < fs.length ∧ h.2.2.2.1 ≤ a ∧ h' = hset h a (.inr (ci, fs.set k v)) := by
  unfold pFf at e
  split at e
  · rename_i c fs hh
    by_cases hc : c = ci ∧ k < fs.length ∧ h.2.2.2.1 ≤ a
    · rw [if_pos hc] at e
      cases e
      obtain ⟨rfl, h1, h2⟩ := hc
      exact ⟨fs, hh, h1, h2, rfl⟩
    · rw [if_neg hc] at e; cases e
  · cases e
def pF (a ci k : Nat) (v : Value) : hM Unit := ⟨pFf a ci k v, fun h u h' e => by
  obtain ⟨fs, h1, h2, h3, rfl⟩ := pFf_inv e
  exact hset_le h1 (by simp [hkd])⟩
def pI (a ci k : Nat) (x : Int32) : hM Unit := pF a ci k (.int x)
def pL (a ci k : Nat) (x : Int64) : hM Unit := pF a ci k (.long x)
def pR (a ci k : Nat) (x : Nat) : hM Unit := pF a ci k (.ref x)
def pQ (a ci k : Nat) (x : Option Nat) : hM Unit := pF a ci k (va_rf x)
/-- a field of a small type takes what fits it -/
def pN (ty : FieldType) (a ci k : Nat) (x : Int32) : hM Unit := mi (narrow ty (.int x) = .int x ∧ fits ty (.int x) = true) (pF a ci k (.int x)) mfail
/-- arrays -/
def hA (a kd : Nat) (h : Hp) : Option vp_A := match h.1 a with
  | some (.inl (k, x)) => if k = kd then some x else none
  | _ => none
def xin {α : Type} (i : Int32) (n : Nat) (f : Nat → α) : Option α := if i < 0 ∨ n ≤ i.toNatClampNeg then none else some (f i.toNatClampNeg)
def xI (i : Int32) (x : vp_A) : Option Int32 := match x.2 with
  | .inl f => xin i x.1 f
  | _ => none
def xL (i : Int32) (x : vp_A) : Option Int64 := match x.2 with
  | .inr (.inl f) => xin i x.1 f
  | _ => none
def xQ (i : Int32) (x : vp_A) : Option (Option Nat) := match x.2 with
  | .inr (.inr (.inr (.inr f))) => xin i x.1 f
  | _ => none
def aI (kd a : Nat) (i : Int32) : hM Int32 := mrd fun h => (hA a kd h).bind (xI i)
def aL (kd a : Nat) (i : Int32) : hM Int64 := mrd fun h => (hA a kd h).bind (xL i)
def aQ (kd a : Nat) (i : Int32) : hM (Option Nat) := mrd fun h => (hA a kd h).bind (xQ i)
def aR (kd a : Nat) (i : Int32) : hM Nat := mb (aQ kd a i) mnn
def alen (kd a : Nat) : hM Int32 := mrd fun h => (hA a kd h).map (fun x => Int32.ofNat x.1)
/-- what an array of a kind keeps of an int -/
def hnk (kd : Nat) (x : Int32) : Int32 := match kd with
  | 0 => vp_nar .byte x
  | 1 => x
  | 2 => vp_nar .boolean x
  | 3 => vp_nar .char x
  | _ => vp_nar .short x
def sIf (kd a : Nat) (i x : Int32) (h : Hp) : Option (Unit × Hp) := match h.1 a with
  | some (.inl (k, n, .inl f)) => if k = kd ∧ ¬ (i < 0 ∨ n ≤ i.toNatClampNeg) ∧ h.2.2.2.1 ≤ a then some ((), hset h a (.inl (k, n, .inl (upd f i.toNatClampNeg (hnk kd x))))) else none
  | _ => none
theorem sIf_inv {kd a : Nat} {i x : Int32} {h h' : Hp} {u : Unit} (e : sIf kd a i x h = some (u, h')) : ∃ n f, h.1 a = some (.inl (kd, n, .inl f)) ∧ vp_in i n ∧ h.2.2.2.1 ≤ a ∧ h' = hset h a (.inl (kd, n, .inl (upd f i.toNatClampNeg (hnk kd x)))) := by
  unfold sIf at e
  split at e
  · rename_i k n f hh
    by_cases hc : k = kd ∧ ¬ (i < 0 ∨ n ≤ i.toNatClampNeg) ∧ h.2.2.2.1 ≤ a
    · rw [if_pos hc] at e
      cases e
      obtain ⟨rfl, h1, h2⟩ := hc
      exact ⟨n, f, hh, h1, h2, rfl⟩
    · rw [if_neg hc] at e; cases e
  · cases e
def sI (kd a : Nat) (i x : Int32) : hM Unit := ⟨sIf kd a i x, fun h u h' e => by
  obtain ⟨n, f, h1, -, -, rfl⟩ := sIf_inv e
  exact hset_le h1 rfl⟩
def sLf (kd a : Nat) (i : Int32) (x : Int64) (h : Hp) : Option (Unit × Hp) := match h.1 a with
  | some (.inl (k, n, .inr (.inl f))) => if k = kd ∧ ¬ (i < 0 ∨ n ≤ i.toNatClampNeg) ∧ h.2.2.2.1 ≤ a then some ((), hset h a (.inl (k, n, .inr (.inl (vp_updL f i.toNatClampNeg x))))) else none
  | _ => none
theorem sLf_inv {kd a : Nat} {i : Int32} {x : Int64} {h h' : Hp} {u : Unit} (e : sLf kd a i x h = some (u, h')) : ∃ n f, h.1 a = some (.inl (kd, n, .inr (.inl f))) ∧ vp_in i n ∧ h.2.2.2.1 ≤ a ∧ h' = hset h a (.inl (kd, n, .inr (.inl (vp_updL f i.toNatClampNeg x)))) := by
  unfold sLf at e
  split at e
  · rename_i k n f hh
    by_cases hc : k = kd ∧ ¬ (i < 0 ∨ n ≤ i.toNatClampNeg) ∧ h.2.2.2.1 ≤ a
    · rw [if_pos hc] at e
      cases e
      obtain ⟨rfl, h1, h2⟩ := hc
      exact ⟨n, f, hh, h1, h2, rfl⟩
    · rw [if_neg hc] at e; cases e
  · cases e
def sL (kd a : Nat) (i : Int32) (x : Int64) : hM Unit := ⟨sLf kd a i x, fun h u h' e => by
  obtain ⟨n, f, h1, -, -, rfl⟩ := sLf_inv e
  exact hset_le h1 rfl⟩
/-- a reference into an array of class number ec's objects (kd: its kind): the object stands in the picture -/
def sRf (kd ec a : Nat) (i : Int32) (x : Nat) (h : Hp) : Option (Unit × Hp) := match h.1 a, h.1 x with
  | some (.inl (k, n, .inr (.inr (.inr (.inr f))))), some (.inr (c, _)) => if k = kd ∧ c = ec ∧ ¬ (i < 0 ∨ n ≤ i.toNatClampNeg) ∧ h.2.2.2.1 ≤ a then some ((), hset h a (.inl (k, n, .inr (.inr (.inr (.inr (va_up f i.toNatClampNeg (some x)))))))) else none
  | _, _ => none
theorem sRf_inv {kd ec a : Nat} {i : Int32} {x : Nat} {h h' : Hp} {u : Unit} (e : sRf kd ec a i x h = some (u, h')) : ∃ n f fs, h.1 a = some (.inl (kd, n, .inr (.inr (.inr (.inr f))))) ∧ h.1 x = some (.inr (ec, fs)) ∧ vp_in i n ∧ h.2.2.2.1 ≤ a ∧ h' = hset h a (.inl (kd, n, .inr (.inr (.inr (.inr (va_up f i.toNatClampNeg (some x))))))) := by
  unfold sRf at e
  split at e
  · rename_i k n f c fs hh hx
    by_cases hc : k = kd ∧ c = ec ∧ ¬ (i < 0 ∨ n ≤ i.toNatClampNeg) ∧ h.2.2.2.1 ≤ a
    · rw [if_pos hc] at e
      cases e
      obtain ⟨rfl, rfl, h1, h2⟩ := hc
      exact ⟨n, f, fs, hh, hx, h1, h2, rfl⟩
    · rw [if_neg hc] at e; cases e
  · cases e
def sR (kd ec a : Nat) (i : Int32) (x : Nat) : hM Unit := ⟨sRf kd ec a i x, fun h u h' e => by
  obtain ⟨n, f, fs, h1, -, -, -, rfl⟩ := sRf_inv e
  exact hset_le h1 rfl⟩
/-- new cells -/
def hnew (h : Hp) (e : hE) (n : Nat) : Hp := (fun x => if x = h.2.1 then some e else h.1 x, h.2.1 + 1, h.2.2.1 + n, h.2.2.2)
def mnewf (e : hE) (n : Nat) (h : Hp) : Option (Nat × Hp) := match h.1 h.2.1 with
  | none => some (h.2.1, hnew h e n)
  | some _ => none
theorem mnewf_inv {e : hE} {n a : Nat} {h h' : Hp} (q : mnewf e n h = some (a, h')) : a = h.2.1 ∧ h' = hnew h e n ∧ h.1 h.2.1 = none := by
  unfold mnewf at q
  split at q
  · rename_i hh
    cases q
    exact ⟨rfl, rfl, hh⟩
  · cases q
theorem hnew_le {h : Hp} {e : hE} {n : Nat} (h0 : h.1 h.2.1 = none) : hle h (hnew h e n) := ⟨Nat.le_succ _, Nat.le_add_right _ _, rfl, fun x e1 h1 => by
  by_cases hx : x = h.2.1
  · subst hx; rw [h0] at h1; cases h1
  · exact ⟨e1, (if_neg hx).trans h1, rfl⟩⟩
def mnew (e : hE) (n : Nat) : hM Nat := ⟨mnewf e n, fun h a h' q => by
  obtain ⟨-, rfl, h0⟩ := mnewf_inv q
  exact hnew_le h0⟩
def newO (ci n : Nat) (fs : List Value) : hM Nat := mnew (.inr (ci, fs)) n
def a0 (kd : Nat) : (Nat → Int32) ⊕ (Nat → Int64) ⊕ (Nat → UInt32) ⊕ (Nat → UInt64) ⊕ (Nat → Option Nat) := match kd with
  | 0 => .inl fun _ => 0
  | 1 => .inl fun _ => 0
  | 2 => .inl fun _ => 0
  | 3 => .inl fun _ => 0
  | 4 => .inl fun _ => 0
  | 5 => .inr (.inl fun _ => 0)
  | _ => .inr (.inr (.inr (.inr fun _ => none)))
def newA (kd : Nat) (n : Int32) : hM Nat := mi (¬ n < 0 ∧ n.toNatClampNeg ≤ 65536) (mnew (.inl (kd, n.toNatClampNeg, a0 kd)) n.toNatClampNeg) mfail
/-- x, of an object of class number ci -/
def matf {α : Type} (a ci : Nat) (x : hM α) (h : Hp) : Option (α × Hp) := match h.1 a with
  | some (.inr (c, _)) => if c = ci then x.1 h else none
  | _ => none
theorem matf_inv {α : Type} {a ci : Nat} {x : hM α} {h : Hp} {r : α × Hp} (e : matf a ci x h = some r) : (∃ fs, h.1 a = some (.inr (ci, fs))) ∧ x.1 h = some r := by
  unfold matf at e
  split at e
  · rename_i c fs hh
    by_cases hc : c = ci
    · rw [if_pos hc] at e
      subst hc
      exact ⟨⟨fs, hh⟩, e⟩
    · rw [if_neg hc] at e; cases e
  · cases e
def mat {α : Type} (a ci : Nat) (x : hM α) : hM α := ⟨matf a ci x, fun _ _ _ e => x.2 _ _ _ (matf_inv e).2⟩
theorem mat_ev {α : Type} {a ci : Nat} (x : hM α) {h : Hp} {fs : List Value} (e : h.1 a = some (.inr (ci, fs))) : (mat a ci x).1 h = x.1 h := by
  show matf a ci x h = _
  unfold matf
  rw [e]
  exact if_pos rfl
theorem mat_inv {α β : Type} {a ci : Nat} {x : hM α} {k : α → hM β} {h h' : Hp} {b : β} (e : (mb (mat a ci x) k).1 h = some (b, h')) : (∃ fs, h.1 a = some (.inr (ci, fs))) ∧ (mb x k).1 h = some (b, h') := by
  obtain ⟨y, h1, e1, e2, -⟩ := mb_inv e (hle.rf h')
  obtain ⟨e3, e4⟩ := matf_inv e1
  exact ⟨e3, (mb_ev e4).trans e2⟩
/-- a run that ends with an answer, or goes on -/
def mbs {β γ δ : Type} (x : hM (β ⊕ γ)) (k : β → hM δ) (j : γ → δ) : hM δ := mb x (fun o => match o with
  | .inl b => k b
  | .inr c => mret (j c))
theorem mbs_inv {β γ δ : Type} {x : hM (β ⊕ γ)} {k : β → hM δ} {j : γ → δ} {h hr he : Hp} {v : δ} (hf : (mbs x k j).1 h = some (v, hr)) (hl : hle hr he) : ∃ o h1, x.1 h = some (o, h1) ∧ hle h1 he ∧ (∀ b, o = .inl b → (k b).1 h1 = some (v, hr)) ∧ (∀ c, o = .inr c → (mret (j c)).1 h1 = some (v, hr)) := by
  obtain ⟨o, h1, e1, e2, l1⟩ := mb_inv hf hl
  refine ⟨o, h1, e1, l1, fun b e => ?_, fun c e => ?_⟩
  · subst e; exact e2
  · subst e; exact e2
theorem mbs_l {β γ δ : Type} {x : hM (β ⊕ γ)} {k : β → hM δ} {j : γ → δ} {h h1 : Hp} {b : β} (e : x.1 h = some (.inl b, h1)) : (mbs x k j).1 h = (k b).1 h1 := mb_ev e
theorem mbs_r {β γ δ : Type} {x : hM (β ⊕ γ)} {k : β → hM δ} {j : γ → δ} {h h1 : Hp} {c : γ} (e : x.1 h = some (.inr c, h1)) : (mbs x k j).1 h = some (j c, h1) := mb_ev e
theorem mret_up {β γ : Type} {x : γ} {h h1 he : Hp} {o : β ⊕ γ} {z : γ} (hf : (mret (Sum.inr x) : hM (β ⊕ γ)).1 h = some (o, h1)) (hret : ∀ c, o = Sum.inr c → (mret c).1 h1 = some (z, he)) : (mret x).1 h = some (z, he) := by
  obtain ⟨rfl, rfl⟩ := mret_inv hf
  exact hret x rfl
theorem mbs_up {β β2 γ : Type} {h1 h2 he : Hp} {o : β ⊕ γ} {o2 : β2 ⊕ γ} {z : γ} (hr : ∀ c, o = Sum.inr c → (mret (Sum.inr c) : hM (β2 ⊕ γ)).1 h1 = some (o2, h2)) (hret : ∀ c, o2 = Sum.inr c → (mret c).1 h2 = some (z, he)) : ∀ c, o = Sum.inr c → (mret c).1 h1 = some (z, he) := fun c e => mret_up (hr c e) hret
/-- divisions -/
def mdiv (x y : Int32) : hM Int32 := mi (y = 0) mfail (mret (x / y))
def mrem (x y : Int32) : hM Int32 := mi (y = 0) mfail (mret (jrem x y))
def mdivl (x y : Int64) : hM Int64 := mi (y = 0) mfail (mret (x / y))
def mreml (x y : Int64) : hM Int64 := mi (y = 0) mfail (mret (jreml x y))
/-- an answer of a small type -/
def mrt (ty : FieldType) (x : Int32) : hM Int32 := mi (narrow ty (.int x) = .int x) (mret x) mfail
/-- a constant's address -/
def mcn (k : Nat) : hM Nat := mrd fun h => some (h.2.2.2.2 k)
/-- how often a loop may run -/
def FU : Nat := 100000
theorem mrt_ret {β : Type} {ty : FieldType} {x : Int32} {h h1 he : Hp} {o : β ⊕ Int32} {z : Int32} (hf : (mb (mrt ty x) (fun c => mret (Sum.inr c)) : hM (β ⊕ Int32)).1 h = some (o, h1)) (hret : ∀ c, o = Sum.inr c → (mret c).1 h1 = some (z, he)) : (mrt ty x).1 h = some (z, he) := by
  obtain ⟨y, h2, e1, e2, -⟩ := mb_inv hf (hle.rf h1)
  by_cases hc : narrow ty (.int x) = .int x
  · obtain ⟨rfl, rfl⟩ := mret_inv (mi_pos hc e1)
    exact (mi_t _ _ _ hc).trans (mret_up e2 hret)
  · exact mfail_inv (mi_neg hc e1)
