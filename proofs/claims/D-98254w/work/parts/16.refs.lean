/-! PART 16: Math; references stored; casts; texts copied; statics -/
set_option maxRecDepth 100000
def jmx (a b : Int32) : Int32 := if a < b then b else a
def jmn (a b : Int32) : Int32 := if b < a then b else a
def jab (a : Int32) : Int32 := if 0 ≤ a then a else 0 - a
def jmxL (a b : Int64) : Int64 := if b < a then a else b
def jmnL (a b : Int64) : Int64 := if b < a then b else a
def jabL (a : Int64) : Int64 := if 0 < a then a else -a
/-- which kinds may be stored into an array of references -/
def stOk (t v : Nat) : Prop := (t = 5 ∧ v = 104) ∨ (t = 6 ∧ (106 ≤ v ∧ v ≤ 110)) ∨ (t = 7 ∧ ((106 ≤ v ∧ v ≤ 111) ∨ v = 314))
theorem as_self (vm : Vm) (c : ClassId) : vm.assignable c c = true := by
  first | (show vm.assignableAux _ c c = true; unfold Vm.assignableAux; simp)
theorem cast_of {U : State} {C E : String} {c e : ClassId} (h : va_Nw (.castable C E) U) (hc : U.vm.findClass C = some c) (he : U.vm.findClass E = some e) : U.vm.assignable c e = true := by
  obtain ⟨c0, t0, f1, f2, f3⟩ := Cond.castable_spec (va_Nw.use (A := #[]) rfl h)
  cases hc.symm.trans f1
  cases he.symm.trans f2
  exact f3
section RO
variable {x : CT} {G : GT} {cc : ByteArray} {nL : Nat} {own : String} {ret : Option FieldType} {R0 : Room} {Qf : State → Prop} {ce sl : Nat} {s : PS} {pc : Nat} {lv lv' : List (Nat × Value)} {st rest : List Value} {a : Nat} {i : Int32}
theorem r_mmax (X : Cx x G cc nL own ret R0) {index : Nat} (q1 : Cond.methodLink own index Lib.Math.max.name ∈ lw_all) (q2 : Cond.static Lib.Math.max.name ∈ lw_all) (q3 : Cond.initialized "java/lang/Math" ∈ lw_all) (q4 : Cond.code Lib.Math.max.name Lib.Math.max.code 2 (some .int) ∈ lw_all) (hf : 1 ≤ R0.frames) (hl : 21 ≤ R0.locals) (hr : (rest.map fun v => v.category).sum ≤ 8) (hce : ce ≤ R0.cells ∧ sl ≤ R0.slots) {u v : Int32} (hd : decode cc pc = .ok (.invokestatic index, 3)) (kk : WB x G nL Qf ce sl s (pc + 3) lv (.int (jmx u v) :: rest)) : WB x G nL Qf ce sl s pc lv (.int v :: .int u :: rest) := by
  intro H locs ls g1 g2 g3
  have hR := X.2.2.2.1
  exact va_mmax X.1.1 X.1.2.1 (by rw [X.1.2.2.1]; exact g3.1.symm) X.1.2.2.2.1 (X.1.2.2.2.2 _ q1) (X.1.2.2.2.2 _ q2) (X.1.2.2.2.2 _ q3) (X.1.2.2.2.2 _ q4) (by rw [hR]; exact hf) (by rw [hR]; omega) (by rw [hR]; exact hce.1) (by rw [hR]; exact hce.2) hd (kk H locs ls g1 g2 g3)
theorem r_mmin (X : Cx x G cc nL own ret R0) {index : Nat} (q1 : Cond.methodLink own index Lib.Math.min.name ∈ lw_all) (q2 : Cond.static Lib.Math.min.name ∈ lw_all) (q3 : Cond.initialized "java/lang/Math" ∈ lw_all) (q4 : Cond.code Lib.Math.min.name Lib.Math.min.code 2 (some .int) ∈ lw_all) (hf : 1 ≤ R0.frames) (hl : 21 ≤ R0.locals) (hr : (rest.map fun v => v.category).sum ≤ 8) (hce : ce ≤ R0.cells ∧ sl ≤ R0.slots) {u v : Int32} (hd : decode cc pc = .ok (.invokestatic index, 3)) (kk : WB x G nL Qf ce sl s (pc + 3) lv (.int (jmn u v) :: rest)) : WB x G nL Qf ce sl s pc lv (.int v :: .int u :: rest) := by
  intro H locs ls g1 g2 g3
  have hR := X.2.2.2.1
  exact va_mmin X.1.1 X.1.2.1 (by rw [X.1.2.2.1]; exact g3.1.symm) X.1.2.2.2.1 (X.1.2.2.2.2 _ q1) (X.1.2.2.2.2 _ q2) (X.1.2.2.2.2 _ q3) (X.1.2.2.2.2 _ q4) (by rw [hR]; exact hf) (by rw [hR]; omega) (by rw [hR]; exact hce.1) (by rw [hR]; exact hce.2) hd (kk H locs ls g1 g2 g3)
theorem r_mabs (X : Cx x G cc nL own ret R0) {index : Nat} (q1 : Cond.methodLink own index Lib.Math.abs.name ∈ lw_all) (q2 : Cond.static Lib.Math.abs.name ∈ lw_all) (q3 : Cond.initialized "java/lang/Math" ∈ lw_all) (q4 : Cond.code Lib.Math.abs.name Lib.Math.abs.code 1 (some .int) ∈ lw_all) (hf : 1 ≤ R0.frames) (hl : 21 ≤ R0.locals) (hr : (rest.map fun v => v.category).sum ≤ 8) (hce : ce ≤ R0.cells ∧ sl ≤ R0.slots) {u : Int32} (hd : decode cc pc = .ok (.invokestatic index, 3)) (kk : WB x G nL Qf ce sl s (pc + 3) lv (.int (jab u) :: rest)) : WB x G nL Qf ce sl s pc lv (.int u :: rest) := by
  intro H locs ls g1 g2 g3
  have hR := X.2.2.2.1
  exact va_mabs X.1.1 X.1.2.1 (by rw [X.1.2.2.1]; exact g3.1.symm) X.1.2.2.2.1 (X.1.2.2.2.2 _ q1) (X.1.2.2.2.2 _ q2) (X.1.2.2.2.2 _ q3) (X.1.2.2.2.2 _ q4) (by rw [hR]; exact hf) (by rw [hR]; omega) (by rw [hR]; exact hce.1) (by rw [hR]; exact hce.2) hd (kk H locs ls g1 g2 g3)
theorem r_mmaxL (X : Cx x G cc nL own ret R0) {index : Nat} (q1 : Cond.methodLink own index Lib.MathLoose.max_long.x ∈ lw_all) (q2 : Cond.static Lib.MathLoose.max_long.x ∈ lw_all) (q3 : Cond.initialized "java/lang/Math" ∈ lw_all) (q4 : Cond.code Lib.MathLoose.max_long.x Lib.MathLoose.max_long.code 4 (some .long) ∈ lw_all) (hf : 1 ≤ R0.frames) (hl : 25 ≤ R0.locals) (hr : (rest.map fun v => v.category).sum ≤ 8) (hce : ce ≤ R0.cells ∧ sl ≤ R0.slots) {u v : Int64} (hd : decode cc pc = .ok (.invokestatic index, 3)) (kk : WB x G nL Qf ce sl s (pc + 3) lv (.long (jmxL u v) :: rest)) : WB x G nL Qf ce sl s pc lv (.long v :: .long u :: rest) := by
  intro H locs ls g1 g2 g3
  have hR := X.2.2.2.1
  exact va_mmax_long X.1.1 X.1.2.1 (by rw [X.1.2.2.1]; exact g3.1.symm) X.1.2.2.2.1 (X.1.2.2.2.2 _ q1) (X.1.2.2.2.2 _ q2) (X.1.2.2.2.2 _ q3) (X.1.2.2.2.2 _ q4) (by rw [hR]; exact hf) (by rw [hR]; omega) (by rw [hR]; exact hce.1) (by rw [hR]; exact hce.2) hd (kk H locs ls g1 g2 g3)
theorem r_mminL (X : Cx x G cc nL own ret R0) {index : Nat} (q1 : Cond.methodLink own index Lib.MathLoose.min_long.x ∈ lw_all) (q2 : Cond.static Lib.MathLoose.min_long.x ∈ lw_all) (q3 : Cond.initialized "java/lang/Math" ∈ lw_all) (q4 : Cond.code Lib.MathLoose.min_long.x Lib.MathLoose.min_long.code 4 (some .long) ∈ lw_all) (hf : 1 ≤ R0.frames) (hl : 25 ≤ R0.locals) (hr : (rest.map fun v => v.category).sum ≤ 8) (hce : ce ≤ R0.cells ∧ sl ≤ R0.slots) {u v : Int64} (hd : decode cc pc = .ok (.invokestatic index, 3)) (kk : WB x G nL Qf ce sl s (pc + 3) lv (.long (jmnL u v) :: rest)) : WB x G nL Qf ce sl s pc lv (.long v :: .long u :: rest) := by
  intro H locs ls g1 g2 g3
  have hR := X.2.2.2.1
  exact va_mmin_long X.1.1 X.1.2.1 (by rw [X.1.2.2.1]; exact g3.1.symm) X.1.2.2.2.1 (X.1.2.2.2.2 _ q1) (X.1.2.2.2.2 _ q2) (X.1.2.2.2.2 _ q3) (X.1.2.2.2.2 _ q4) (by rw [hR]; exact hf) (by rw [hR]; omega) (by rw [hR]; exact hce.1) (by rw [hR]; exact hce.2) hd (kk H locs ls g1 g2 g3)
theorem r_mabsL (X : Cx x G cc nL own ret R0) {index : Nat} (q1 : Cond.methodLink own index Lib.MathLoose.abs_long.x ∈ lw_all) (q2 : Cond.static Lib.MathLoose.abs_long.x ∈ lw_all) (q3 : Cond.initialized "java/lang/Math" ∈ lw_all) (q4 : Cond.code Lib.MathLoose.abs_long.x Lib.MathLoose.abs_long.code 2 (some .long) ∈ lw_all) (hf : 1 ≤ R0.frames) (hl : 25 ≤ R0.locals) (hr : (rest.map fun v => v.category).sum ≤ 8) (hce : ce ≤ R0.cells ∧ sl ≤ R0.slots) {u : Int64} (hd : decode cc pc = .ok (.invokestatic index, 3)) (kk : WB x G nL Qf ce sl s (pc + 3) lv (.long (jabL u) :: rest)) : WB x G nL Qf ce sl s pc lv (.long u :: rest) := by
  intro H locs ls g1 g2 g3
  have hR := X.2.2.2.1
  exact va_mabs_long X.1.1 X.1.2.1 (by rw [X.1.2.2.1]; exact g3.1.symm) X.1.2.2.2.1 (X.1.2.2.2.2 _ q1) (X.1.2.2.2.2 _ q2) (X.1.2.2.2.2 _ q3) (X.1.2.2.2.2 _ q4) (by rw [hR]; exact hf) (by rw [hR]; omega) (by rw [hR]; exact hce.1) (by rw [hR]; exact hce.2) hd (kk H locs ls g1 g2 g3)
/-- an object's cell, by its kind -/
def ObAt (x : CT) (H : Heap) (a : Nat) (C : String) : Prop := ∃ cell : Cell, H[a]? = some cell ∧ (∀ q, cell.vm ≠ .statics q) ∧ cell.vm.isStatics = false ∧ (xs x).vm.findClass C = some cell.cls ∧ ∃ k, (xs x).vm.classes[cell.cls]? = some k
theorem obj_at (X : Cx x G cc nL own ret R0) {H : Heap} (g1 : Rel G s H) {ci : Nat} {q : vw_C} (hT : gT s a = 100 + ci) (hc : clT[ci]? = some q) : ObAt x H a q.1 := by
  obtain ⟨cell, q1, q2, q3, q4⟩ := g1.2.2.2.2.2.2.1 a ci _ hT hc
  obtain ⟨hS, hfc, kC, hkC, hkind⟩ := (cx_K X).1 ci _ hc
  exact ⟨cell, q1, (fun q h => by rw [q3] at h; cases h), by rw [q3]; rfl, by rw [q2]; exact hfc, kC, by rw [q2]; exact hkC⟩
/-- what was there at the start, as it is now -/
theorem ob_old (X : Cx x G cc nL own ret R0) {H : Heap} (ho : Old G H) {E : String} (h : va_O E a (kF G) (k0 G) (k0 G).heap) : ObAt x H a E := by
  have hz := X.2.2.2.2.1.2.2.1
  obtain ⟨cell, h1, h2, h3, h4⟩ := (h.moved X.2.2.2.2.2.1.alike).kept (H1 := H) (fun q _ hq => ho q (Nat.lt_of_not_le hq))
  obtain ⟨k, hk, -⟩ := Vm.findClass_spec h3
  exact ⟨cell, h1, (fun q h => by rw [h] at h2; cases h2), h2, h3, k, hk⟩
theorem old_int (X : Cx x G cc nL own ret R0) {H : Heap} (r : Rel G s H) (h : gT s a = 314) : va_O "java/lang/Integer" a (kF G) (k0 G) (k0 G).heap := (X.2.2.2.2.1.2.2.2.1.2.2.2.1 a (by rw [(r.2.2.2.2.2.2.2.2.1 a (by omega)).1]; exact h)).1
theorem of_old (X : Cx x G cc nL own ret R0) {H : Heap} (ho : Old G H) {o n d : String} {v : Value} (h : va_OF o n d v a (kF G) (k0 G) (k0 G).heap) : va_OF o n d v a (kF G) (xs x) H :=
  (h.moved X.2.2.2.2.2.1.alike).kept (fun q _ hq => ho q (Nat.lt_of_not_le hq))
theorem ta_old (X : Cx x G cc nL own ret R0) {H : Heap} (ho : Old G H) {ty : FieldType} {n : Nat} {f : Nat → Value} (h : va_T ty a n f (kF G) (k0 G) (k0 G).heap) : va_T ty a n f (kF G) (xs x) H :=
  (h.moved X.2.2.2.2.2.1.alike).kept (fun q _ hq => ho q (Nat.lt_of_not_le hq))
theorem r_aast0 (X : Cx x G cc nL own ret R0) {v : Nat} {C E : String} (h5 : 5 ≤ gT s a ∧ gT s a ≤ 9 ∧ gT s a ≠ 8) (hE : ety (gT s a) = .object E) (hv : ∀ H, Rel G s H → Old G H → ObAt x H v C) (hca : va_Nw (.castable C E) (xs x) ∨ C = E) (hin : vp_in i (gN s a)) (hw : kS G ≤ a) (hd : decode cc pc = .ok (.aastore, 1))
    (kk : ∀ s1 : PS, s1 = pR s a i.toNatClampNeg (some v) → WB x G nL Qf ce sl s1 (pc + 1) lv rest) : WB x G nL Qf ce sl s pc lv (.ref v :: .int i :: .ref a :: rest) := by
  intro H locs ls g1 g2 g3
  have c0 := g1.2.2.2.2.2.1 a h5.1 (by omega)
  have hA := ((cx_K X).2 (gT s a) _ (ty_at G (by omega))).2
  rw [if_neg (by omega), hE] at hA
  obtain ⟨kA', comp, a1, a2, a3, a4⟩ := hA
  obtain ⟨cell, b1, b2, -, b3, kC, b4⟩ := hv H g1 (old_of X g2)
  obtain ⟨kE, hkE, -⟩ := Vm.findClass_spec a3
  have hi : ¬ i < 0 := fun h => hin (Or.inl h)
  have has : (xs x).vm.assignable cell.cls comp = true := by
    rcases hca with h | h
    · exact cast_of h b3 a3
    · rw [h] at b3
      cases a3.symm.trans b3
      exact as_self _ _
  refine W.aast X.1.1 X.1.2.1 c0 (fun _ h => by cases h) (fun h => by cases h) a1 a2 rfl hkE ⟨hi, by rw [arrV_size]; exact lt_in hin⟩ b1 b2 b4 has rfl rfl hd fun H1 e z oq => ?_
  exact kk _ rfl H1 _ ls (rel_aast (v := some v) g1 h5.1 (by omega) h5.2.2 e z oq) (g2.put z oq hw) g3
theorem r_aast (X : Cx x G cc nL own ret R0) {v : Nat} (hk : stOk (gT s a) (gT s v)) (hin : vp_in i (gN s a)) (hw : kS G ≤ a) (hd : decode cc pc = .ok (.aastore, 1))
    (kk : ∀ s1 : PS, s1 = pR s a i.toNatClampNeg (some v) → WB x G nL Qf ce sl s1 (pc + 1) lv rest) : WB x G nL Qf ce sl s pc lv (.ref v :: .int i :: .ref a :: rest) := by
  have cw := fun {C E : String} (h : Cond.castable C E ∈ lw_tbl) => nw_C X.2.2.2.2.1 X.2.2.2.2.2.1 h
  rcases hk with ⟨h1, h2⟩ | ⟨h1, h2⟩ | ⟨h1, h2⟩
  · exact r_aast0 X (E := "AgainstFeather$Text") (by omega) (by rw [h1]; rfl) (fun H r o => obj_at X r (ci := 4) h2 rfl) (Or.inr rfl) hin hw hd kk
  · have h3 : gT s v = 106 ∨ gT s v = 107 ∨ gT s v = 108 ∨ gT s v = 109 ∨ gT s v = 110 := by omega
    rcases h3 with h | h | h | h | h
    · exact r_aast0 X (E := "AgainstFeather$Sum") (by omega) (by rw [h1]; rfl) (fun H r o => obj_at X r (ci := 6) h rfl) (Or.inl (cw q893)) hin hw hd kk
    · exact r_aast0 X (E := "AgainstFeather$Sum") (by omega) (by rw [h1]; rfl) (fun H r o => obj_at X r (ci := 7) h rfl) (Or.inl (cw q915)) hin hw hd kk
    · exact r_aast0 X (E := "AgainstFeather$Sum") (by omega) (by rw [h1]; rfl) (fun H r o => obj_at X r (ci := 8) h rfl) (Or.inl (cw q909)) hin hw hd kk
    · exact r_aast0 X (E := "AgainstFeather$Sum") (by omega) (by rw [h1]; rfl) (fun H r o => obj_at X r (ci := 9) h rfl) (Or.inl (cw q901)) hin hw hd kk
    · exact r_aast0 X (E := "AgainstFeather$Sum") (by omega) (by rw [h1]; rfl) (fun H r o => obj_at X r (ci := 10) h rfl) (Or.inl (cw q921)) hin hw hd kk
  · have h3 : gT s v = 106 ∨ gT s v = 107 ∨ gT s v = 108 ∨ gT s v = 109 ∨ gT s v = 110 ∨ gT s v = 111 ∨ gT s v = 314 := by omega
    rcases h3 with h | h | h | h | h | h | h
    · exact r_aast0 X (E := "java/lang/Object") (by omega) (by rw [h1]; rfl) (fun H r o => obj_at X r (ci := 6) h rfl) (Or.inl (cw q1999)) hin hw hd kk
    · exact r_aast0 X (E := "java/lang/Object") (by omega) (by rw [h1]; rfl) (fun H r o => obj_at X r (ci := 7) h rfl) (Or.inl (cw q2000)) hin hw hd kk
    · exact r_aast0 X (E := "java/lang/Object") (by omega) (by rw [h1]; rfl) (fun H r o => obj_at X r (ci := 8) h rfl) (Or.inl (cw q2001)) hin hw hd kk
    · exact r_aast0 X (E := "java/lang/Object") (by omega) (by rw [h1]; rfl) (fun H r o => obj_at X r (ci := 9) h rfl) (Or.inl (cw q2002)) hin hw hd kk
    · exact r_aast0 X (E := "java/lang/Object") (by omega) (by rw [h1]; rfl) (fun H r o => obj_at X r (ci := 10) h rfl) (Or.inl (cw q2003)) hin hw hd kk
    · exact r_aast0 X (E := "java/lang/Object") (by omega) (by rw [h1]; rfl) (fun H r o => obj_at X r (ci := 11) h rfl) (Or.inl (cw q2005)) hin hw hd kk
    · exact r_aast0 X (E := "java/lang/Object") (by omega) (by rw [h1]; rfl) (fun H r o => ob_old X o (old_int X r h)) (Or.inl (cw q2004)) hin hw hd kk
/-- System.arraycopy, references to objects that fit -/
theorem r_cpyA (X : Cx x G cc nL own ret R0) {index : Nat} (q1 : Cond.methodLink own index arraycopyName ∈ lw_all) (q2 : Cond.native arraycopyName ∈ lw_all) (q3 : Cond.static arraycopyName ∈ lw_all) (q4 : Cond.initialized "java/lang/System" ∈ lw_all) (t : Nat) {E : String} (h5 : 5 ≤ t ∧ t ≤ 9 ∧ t ≠ 8) (hE : ety t = .object E) {a0 : Nat} {sp dp n : Int32} (t0 : gT s a0 = t) (t1 : gT s a = t) (h1 : ¬ sp < 0) (h2 : ¬ dp < 0) (h3 : ¬ n < 0) (h4 : sp.toNatClampNeg + n.toNatClampNeg ≤ gN s a0) (h5' : dp.toNatClampNeg + n.toNatClampNeg ≤ gN s a) (hw : kS G ≤ a)
    (hel : ∀ H : Heap, Rel G s H → Old G H → ∀ k : Nat, k < n.toNatClampNeg → ∀ y : Nat, gR s a0 (sp.toNatClampNeg + k) = some y → ∃ C, ObAt x H y C ∧ (va_Nw (.castable C E) (xs x) ∨ C = E))
    (hf : 1 ≤ R0.frames) (hl : 8 + (nativeFrameWords "java/lang/System" "arraycopy" 5 + 11) ≤ R0.locals) (hr : (rest.map fun v => v.category).sum ≤ 8) (hd : decode cc pc = .ok (.invokestatic index, 3))
    (kk : ∀ s1 : PS, s1 = pCR s a0 a sp.toNatClampNeg dp.toNatClampNeg n.toNatClampNeg → WB x G nL Qf ce sl s1 (pc + 3) lv rest) : WB x G nL Qf ce sl s pc lv (.int n :: .int dp :: .ref a :: .int sp :: .ref a0 :: rest) := by
  intro H locs ls g1 g2 g3
  have hR := X.2.2.2.1
  have c0 := g1.2.2.2.2.2.1 a0 (by omega) (by omega)
  have c1 := g1.2.2.2.2.2.1 a (by omega) (by omega)
  rw [t0] at c0
  rw [t1] at c1
  have hA := cx_A X (t := t) (by omega) (by omega)
  obtain ⟨-, k0, hk0, cm0, hkk0⟩ := hA (gN s a0) (fun j => va_rf (gR s a0 j))
  obtain ⟨-, k1, hk1, cm1, hkk1⟩ := hA (gN s a) (fun j => va_rf (gR s a j))
  have hB := ((cx_K X).2 t _ (ty_at G (by omega))).2
  rw [if_neg (by omega), hE] at hB
  obtain ⟨kA', comp, b1, b2, b3, b4⟩ := hB
  have hal : a < H.size := (Array.getElem?_eq_some_iff.mp c1).1
  have e1 := va_copied (sp := sp.toNatClampNeg) (dp := dp.toNatClampNeg) (fun z => va_rf z) (kA G t) (kA G t) (n1 := gN s a) (gR s a0) (gR s a) h4
  refine W.of (H' := H.setIfInBounds a (arrV (kA G t) (gN s a) (fun j => va_rf (va_cpy (gR s a0) (gR s a) sp.toNatClampNeg dp.toNatClampNeg n.toNatClampNeg j)))) (locs' := locs ++ List.map (fun (q : Value × Nat) => (⟨a, dp.toNatClampNeg + q.snd⟩ : Loc)) ((arrV (kA G t) (gN s a0) (fun j => va_rf (gR s a0 j))).stretch sp.toNatClampNeg n.toNatClampNeg).zipIdx) (cells' := ce) (slots' := sl) (g2 := F0 (xm x) (pc + 3) ls rest) ?_ ?_
  · intro T hT Y
    obtain ⟨vm', Y', step⟩ := Y.arraycopy X.1.1 X.1.2.2.2.1 (X.1.2.2.2.2 _ q1) (X.1.2.2.2.2 _ q2) (X.1.2.2.2.2 _ q3) (X.1.2.2.2.2 _ q4) (src := a0) (dst := a) (srcPos := sp) (destPos := dp) (n := n) (by rw [hT]; exact c0) (by rw [hT]; exact c1) (fun _ h => by cases h) (fun _ h => by cases h) (fun h => by cases h) (fun h => by cases h) hk0 hk1 hkk0 hkk1 (by rw [hE]; rfl) h1 h2 h3
      (by rw [nn_of h1, nn_of h3, arrV_size]; omega) (by rw [nn_of h2, nn_of h3, arrV_size]; omega)
      (fun vm₁ hal' k hk => by
        have e : (arrV (kA G t) (gN s a0) (fun j => va_rf (gR s a0 j))).slots.getD (sp.toNatClampNeg + k) .null = va_rf (gR s a0 (sp.toNatClampNeg + k)) := by
          rw [Array.getD_eq_getD_getElem?, arrV_read _ _ (by omega)]
          rfl
        rw [e, hE]
        cases hy : gR s a0 (sp.toNatClampNeg + k) with
        | none => exact ⟨rfl, trivial⟩
        | some y =>
          obtain ⟨C, ⟨cell, u1, u2, -, u4, kC, u3⟩, hca⟩ := hel H g1 (old_of X g2) k hk y hy
          cases hk1.symm.trans b1
          have hcm : cm1 = comp := by
            have := hkk1.symm.trans b2
            rw [hE] at this
            injection this
          subst hcm
          obtain ⟨kE, hkE, -⟩ := Vm.findClass_spec b3
          obtain ⟨kC', hkC', -⟩ := hal'.2.2 _ _ u3
          obtain ⟨kE', hkE', -⟩ := hal'.2.2 _ _ hkE
          refine ⟨rfl, cell, (show T.heap[y]? = some cell by rw [hT]; exact u1), u2, ⟨kC', hkC'⟩, ⟨kE', hkE'⟩, ?_⟩
          show vm₁.assignable _ _ = true
          rw [hal'.assignable]
          rcases hca with h | h
          · exact cast_of h u4 b3
          · rw [h] at u4
            cases b3.symm.trans u4
            exact as_self _ _)
      (g := F0 (xm x) pc ls (.int n :: .int dp :: .ref a :: .int sp :: .ref a0 :: rest)) rfl (by rw [X.1.2.2.1]; exact g3.1) (rest := rest) rfl (by rw [X.1.2.1]; exact hd) (by rw [hR]; exact hf) (by rw [hR]; show 2 * 0 + _ + _ ≤ _; omega)
    refine ⟨_, ?_, Y', step⟩
    rw [show copied _ _ sp dp n = _ from e1, ← hT]
    rfl
  · have oq : ∀ q : Nat, q ≠ a → (H.setIfInBounds a (arrV (kA G t) (gN s a) (fun j => va_rf (va_cpy (gR s a0) (gR s a) sp.toNatClampNeg dp.toNatClampNeg n.toNatClampNeg j))))[q]? = H[q]? := fun q hq => by simp [Array.getElem?_setIfInBounds, Ne.symm hq]
    refine kk _ rfl _ _ ls (rel_pCR g1 (by omega) (by rw [t1]; simp [Array.getElem?_setIfInBounds, hal]) (by simp) oq) ⟨by simp; exact g2.1, fun q u1 u2 => ?_, fun q hq => ?_⟩ g3
    · rw [oq q (fun e => u2 (by rw [e]; exact hw))]
      exact g2.2.1 q u1 u2
    · rcases List.mem_append.mp hq with h | h
      · exact g2.2.2 q h
      · obtain ⟨z, -, hz⟩ := List.mem_map.mp h
        rw [← hz]
        exact hw
theorem r_cpyT (X : Cx x G cc nL own ret R0) {index : Nat} (q1 : Cond.methodLink own index arraycopyName ∈ lw_all) (q2 : Cond.native arraycopyName ∈ lw_all) (q3 : Cond.static arraycopyName ∈ lw_all) (q4 : Cond.initialized "java/lang/System" ∈ lw_all) {a0 : Nat} {sp dp n : Int32} (t0 : gT s a0 = 5) (t1 : gT s a = 5) (h1 : ¬ sp < 0) (h2 : ¬ dp < 0) (h3 : ¬ n < 0) (h4 : sp.toNatClampNeg + n.toNatClampNeg ≤ gN s a0) (h5 : dp.toNatClampNeg + n.toNatClampNeg ≤ gN s a) (hw : kS G ≤ a)
    (hel : ∀ i : Nat, i < n.toNatClampNeg → ∀ y : Nat, gR s a0 (sp.toNatClampNeg + i) = some y → gT s y = 104)
    (hf : 1 ≤ R0.frames) (hl : 8 + (nativeFrameWords "java/lang/System" "arraycopy" 5 + 11) ≤ R0.locals) (hr : (rest.map fun v => v.category).sum ≤ 8) (hd : decode cc pc = .ok (.invokestatic index, 3))
    (kk : ∀ s1 : PS, s1 = pCR s a0 a sp.toNatClampNeg dp.toNatClampNeg n.toNatClampNeg → WB x G nL Qf ce sl s1 (pc + 3) lv rest) : WB x G nL Qf ce sl s pc lv (.int n :: .int dp :: .ref a :: .int sp :: .ref a0 :: rest) :=
  r_cpyA X q1 q2 q3 q4 5 (E := "AgainstFeather$Text") (by decide) rfl t0 t1 h1 h2 h3 h4 h5 hw (fun H r o k hk y hy => ⟨_, obj_at X r (ci := 4) (hel k hk y hy) rfl, Or.inr rfl⟩) hf hl hr hd kk
/-- the same for an ArrayList's elements -/
theorem r_cpyO (X : Cx x G cc nL own ret R0) {index : Nat} (q1 : Cond.methodLink own index arraycopyName ∈ lw_all) (q2 : Cond.native arraycopyName ∈ lw_all) (q3 : Cond.static arraycopyName ∈ lw_all) (q4 : Cond.initialized "java/lang/System" ∈ lw_all) {a0 : Nat} {sp dp n : Int32} (t0 : gT s a0 = 7) (t1 : gT s a = 7) (h1 : ¬ sp < 0) (h2 : ¬ dp < 0) (h3 : ¬ n < 0) (h4 : sp.toNatClampNeg + n.toNatClampNeg ≤ gN s a0) (h5 : dp.toNatClampNeg + n.toNatClampNeg ≤ gN s a) (hw : kS G ≤ a)
    (hel : ∀ i : Nat, i < n.toNatClampNeg → ∀ y : Nat, gR s a0 (sp.toNatClampNeg + i) = some y → stOk 7 (gT s y))
    (hf : 1 ≤ R0.frames) (hl : 8 + (nativeFrameWords "java/lang/System" "arraycopy" 5 + 11) ≤ R0.locals) (hr : (rest.map fun v => v.category).sum ≤ 8) (hd : decode cc pc = .ok (.invokestatic index, 3))
    (kk : ∀ s1 : PS, s1 = pCR s a0 a sp.toNatClampNeg dp.toNatClampNeg n.toNatClampNeg → WB x G nL Qf ce sl s1 (pc + 3) lv rest) : WB x G nL Qf ce sl s pc lv (.int n :: .int dp :: .ref a :: .int sp :: .ref a0 :: rest) := by
  have cw := fun {C E : String} (h : Cond.castable C E ∈ lw_tbl) => nw_C X.2.2.2.2.1 X.2.2.2.2.2.1 h
  refine r_cpyA X q1 q2 q3 q4 7 (E := "java/lang/Object") (by decide) rfl t0 t1 h1 h2 h3 h4 h5 hw (fun H r o k hk y hy => ?_) hf hl hr hd kk
  have h6 := hel k hk y hy
  have h7 : gT s y = 106 ∨ gT s y = 107 ∨ gT s y = 108 ∨ gT s y = 109 ∨ gT s y = 110 ∨ gT s y = 111 ∨ gT s y = 314 := by
    rcases h6 with ⟨h, -⟩ | ⟨h, -⟩ | ⟨-, h⟩ <;> omega
  rcases h7 with h | h | h | h | h | h | h
  · exact ⟨_, obj_at X r (ci := 6) h rfl, Or.inl (cw q1999)⟩
  · exact ⟨_, obj_at X r (ci := 7) h rfl, Or.inl (cw q2000)⟩
  · exact ⟨_, obj_at X r (ci := 8) h rfl, Or.inl (cw q2001)⟩
  · exact ⟨_, obj_at X r (ci := 9) h rfl, Or.inl (cw q2002)⟩
  · exact ⟨_, obj_at X r (ci := 10) h rfl, Or.inl (cw q2003)⟩
  · exact ⟨_, obj_at X r (ci := 11) h rfl, Or.inl (cw q2005)⟩
  · exact ⟨_, ob_old X o (old_int X r h), Or.inl (cw q2004)⟩
end RO
