/-! PART 14: rows that make cells, and copies -/
set_option maxRecDepth 100000
/-- a run of places copied from one cell to another -/
def pC (s : PS) (a0 a sp dp n : Nat) : PS := (fun x y => if x = a then va_cpy (s.1 a0) (s.1 a) sp dp n y else s.1 x y, s.2)
def pCR (s : PS) (a0 a sp dp n : Nat) : PS := (s.1, s.2.1, fun x y => if x = a then va_cpy (s.2.2.1 a0) (s.2.2.1 a) sp dp n y else s.2.2.1 x y, s.2.2.2)
theorem gI_pC (s : PS) (a0 a sp dp n x y : Nat) : gI (pC s a0 a sp dp n) x y = if x = a ∧ dp ≤ y ∧ y < dp + n then gI s a0 (sp + (y - dp)) else gI s x y := by
  show (if x = a then va_cpy (s.1 a0) (s.1 a) sp dp n y else s.1 x y) = _
  unfold va_cpy gI
  by_cases h : x = a
  · subst h; simp
  · simp [h]
theorem gL_pC (s : PS) (a0 a sp dp n : Nat) : gL (pC s a0 a sp dp n) = gL s := rfl
theorem gR_pC (s : PS) (a0 a sp dp n : Nat) : gR (pC s a0 a sp dp n) = gR s := rfl
theorem gT_pC (s : PS) (a0 a sp dp n : Nat) : gT (pC s a0 a sp dp n) = gT s := rfl
theorem gN_pC (s : PS) (a0 a sp dp n : Nat) : gN (pC s a0 a sp dp n) = gN s := rfl
theorem gZ_pC (s : PS) (a0 a sp dp n : Nat) : gZ (pC s a0 a sp dp n) = gZ s := rfl
theorem gR_pCR (s : PS) (a0 a sp dp n x y : Nat) : gR (pCR s a0 a sp dp n) x y = if x = a ∧ dp ≤ y ∧ y < dp + n then gR s a0 (sp + (y - dp)) else gR s x y := by
  show (if x = a then va_cpy (s.2.2.1 a0) (s.2.2.1 a) sp dp n y else s.2.2.1 x y) = _
  unfold va_cpy gR
  by_cases h : x = a
  · subst h; simp
  · simp [h]
theorem gI_pCR (s : PS) (a0 a sp dp n : Nat) : gI (pCR s a0 a sp dp n) = gI s := rfl
theorem gL_pCR (s : PS) (a0 a sp dp n : Nat) : gL (pCR s a0 a sp dp n) = gL s := rfl
theorem gT_pCR (s : PS) (a0 a sp dp n : Nat) : gT (pCR s a0 a sp dp n) = gT s := rfl
theorem gN_pCR (s : PS) (a0 a sp dp n : Nat) : gN (pCR s a0 a sp dp n) = gN s := rfl
theorem gZ_pCR (s : PS) (a0 a sp dp n : Nat) : gZ (pCR s a0 a sp dp n) = gZ s := rfl
theorem nn_of {z : Int32} (hz : ¬ z < 0) : z.toInt = (z.toNatClampNeg : Int) := by
  have h1 := Int32.not_lt.mp hz
  have hz0 : (0 : Int) ≤ z.toInt := by simpa using Int32.le_iff_toInt_le.mp h1
  show z.toInt = ((z.toInt.toNat : Nat) : Int)
  omega
section RN
variable {x : CT} {G : GT} {cc : ByteArray} {nL : Nat} {own : String} {ret : Option FieldType} {R0 : Room} {Qf : State → Prop} {ce sl : Nat} {s : PS} {pc : Nat} {lv lv' : List (Nat × Value)} {st rest : List Value} {a : Nat} {i : Int32}
theorem r_objinit (X : Cx x G cc nL own ret R0) {idx : Nat} (h1 : Cond.methodLink own idx Lib.objectInit ∈ lw_all) (h2 : Cond.instanceMethod Lib.objectInit ∈ lw_all) (h3 : Cond.code Lib.objectInit ⟨#[0xb1]⟩ 1 none ∈ lw_all) (hf : 1 ≤ R0.frames) (hl : 20 ≤ R0.locals) (hr : (rest.map fun v => v.category).sum ≤ 8) (hd : decode cc pc = .ok (.invokespecial idx, 3)) (kk : WB x G nL Qf ce sl s (pc + 3) lv rest) : WB x G nL Qf ce sl s pc lv (.ref a :: rest) := by
  intro H locs ls g1 g2 g3
  have hR := X.2.2.2.1
  refine W.objInit X.1.1 X.1.2.1 X.1.2.2.2.1 (X.1.2.2.2.2 _ h1) (X.1.2.2.2.2 _ h2) (X.1.2.2.2.2 _ h3) rfl (by rw [X.1.2.2.1]; exact g3.1) rfl hd (by rw [hR]; exact hf) ?_ (kk H locs ls g1 g2 g3)
  rw [hR]
  show 2 * 0 + _ + 12 ≤ _
  omega
theorem r_new (X : Cx x G cc nL own ret R0) (ci : Nat) {C : String} {T : u_T} {N index : Nat} (hin : ∀ w ∈ u_ws C T N, w ∈ lw_all) (hty : ∀ k, k < N → parseFieldDescriptor (T k).2.2.1 = some (tyT ci k)) (hc : clT[ci]? = some (C, T, N)) (hcl : Cond.classLink own index C ∈ lw_all) (hinst : Cond.instantiable C N ∈ lw_all) (hini : Cond.initialized C ∈ lw_all) (hdf : ∀ (k : Nat) (z : Nat), defaultValue (tyT ci k) = oVal (tyT ci k) ((fun _ _ => 0), (fun _ _ => 0), (fun _ _ => none), (fun _ => (0, 0)), 0) z k) (hce : ce + 1 ≤ R0.cells ∧ sl + N ≤ R0.slots) (hd : decode cc pc = .ok (.new index, 3))
    (kk : ∀ z : Nat, z = gZ s → kS G ≤ z → (∀ q, gT s q ≠ 0 → q < z) → ∀ s1 : PS, s1 = pNew s (100 + ci) 0 → WB x G nL Qf (ce + 1) (sl + N) s1 (pc + 3) lv (.ref z :: rest)) : WB x G nL Qf ce sl s pc lv rest := by
  intro H locs ls g1 g2 g3
  have hR := X.2.2.2.1
  have hKn := (cx_K X).1 ci _ hc
  refine W.newcK X.1.1 X.1.2.1 X.1.2.2.2.1 (X.1.2.2.2.2 _ hcl) (X.1.2.2.2.2 _ hinst) (X.1.2.2.2.2 _ hini) rfl hd (by rw [hR]; exact hce.1) (by rw [hR]; exact hce.2) hKn.2.1 rfl fun H1 kC hkC e1 z1 o1 => ?_
  have hz := g1.1
  refine kk H.size hz.symm g1.2.1 g1.2.2.1 _ rfl H1 _ ls (rel_new g1 z1 o1 (fun _ c => by omega) (fun c => by omega) (fun _ c => by omega) (fun c2 q2 e2 e3 => ?_) (fun c2 k e2 => ?_) (by have := clt_lt hc; omega) (fun _ c h => by cases e1.symm.trans h; exact ⟨rfl, rfl⟩)) ⟨by rw [z1]; exact Nat.le_succ_of_le g2.1, fun q h1 h2 => (o1 q (Nat.lt_of_lt_of_le h1 g2.1)).trans (g2.2.1 q h1 h2), g2.2.2⟩ g3
  · have : c2 = ci := by omega
    subst this
    cases hc.symm.trans e3
    exact u_born (tyT c2) X.1.2.2.2.2 hin hKn hkC e1 hty
  · have : c2 = ci := by omega
    subst this
    exact oF_new hz (hdf k H.size)
theorem df_of {ci : Nat} (h : ∀ k, match tyT ci k with | .int => True | .long => True | .boolean => True | .object _ => True | .array _ => True | _ => False) (k z : Nat) : defaultValue (tyT ci k) = oVal (tyT ci k) ((fun _ _ => 0), (fun _ _ => 0), (fun _ _ => none), (fun _ => (0, 0)), 0) z k := by
  have hk := h k
  revert hk
  cases tyT ci k <;> intro hk <;> first | rfl | exact hk.elim
/-- an array of numbers -/
theorem r_newa (X : Cx x G cc nL own ret R0) (t : Nat) (atype : ArrayType) (ht : 1 ≤ t ∧ t ≤ 4) (hty : newarray.typeOf atype = ety t) (harr : Cond.arrayClass (ety t) ∈ lw_all) {n : Int32} {k : Nat} (hk : n.toNatClampNeg = k) (hn : ¬ n < 0) (hb : k * componentBytes (ety t) ≤ 536870912) (hce : ce + 1 ≤ R0.cells ∧ sl + k ≤ R0.slots) (hd : decode cc pc = .ok (.newarray atype, 2))
    (kk : ∀ z : Nat, z = gZ s → kS G ≤ z → (∀ q, gT s q ≠ 0 → q < z) → ∀ s1 : PS, s1 = pNew s t k → WB x G nL Qf (ce + 1) (sl + k) s1 (pc + 2) lv (.ref z :: rest)) : WB x G nL Qf ce sl s pc lv (.int n :: rest) := by
  intro H locs ls g1 g2 g3
  have hR := X.2.2.2.1
  have hA := ((cx_K X).2 t _ (ty_at G (by omega))).2
  rw [if_neg (by omega)] at hA
  refine va_newaK X.1.1 X.1.2.1 (by rw [hty]; exact X.1.2.2.2.2 _ harr) rfl hd rfl hn hk (by rw [hty]; exact hb) (by rw [hR]; exact hce.1) (by rw [hR]; exact hce.2) rfl fun H1 cA e1 z1 o1 _ hNm => ?_
  have hcA : cA = kA G t := by
    rw [hty] at hNm
    have h4 : t = 1 ∨ t = 2 ∨ t = 3 ∨ t = 4 := by omega
    rcases h4 with h | h | h | h <;> subst h <;> exact Option.some.inj (hNm.symm.trans hA)
  rw [hcA, hty] at e1
  have h4 : t = 1 ∨ t = 2 ∨ t = 3 ∨ t = 4 := by omega
  refine kk H.size g1.1.symm g1.2.1 g1.2.2.1 _ rfl H1 _ ls (rel_new g1 z1 o1 (fun c1 c2 => ?_) (fun c => ?_) (fun c => by omega) (fun c2 q2 e2 e3 => by omega) (fun c2 k e2 => by omega) (by omega) (fun c => by omega)) ⟨by rw [z1]; exact Nat.le_succ_of_le g2.1, fun q h1 h2 => (o1 q (Nat.lt_of_lt_of_le h1 g2.1)).trans (g2.2.1 q h1 h2), g2.2.2⟩ g3
  · rcases h4 with h | h | h | h <;> subst h <;> first | exact e1 | omega
  · subst c; exact e1
/-- an array of references to objects -/
theorem r_newo (X : Cx x G cc nL own ret R0) (t : Nat) {C : String} {index : Nat} (ht : 5 ≤ t ∧ t ≤ 9) (hty : ety t = .object C) (hcl : Cond.classLink own index C ∈ lw_all) (hover : (Cond.arrayOver (.object C)).before (xa x) (xs x) = true) {n : Int32} {k : Nat} (hk : n.toNatClampNeg = k) (hn : ¬ n < 0) (hb : k * 4 ≤ 536870912) (hce : ce + 1 ≤ R0.cells ∧ sl + k ≤ R0.slots) (hd : decode cc pc = .ok (.anewarray index, 3))
    (kk : ∀ z : Nat, z = gZ s → kS G ≤ z → (∀ q, gT s q ≠ 0 → q < z) → ∀ s1 : PS, s1 = pNew s t k → WB x G nL Qf (ce + 1) (sl + k) s1 (pc + 3) lv (.ref z :: rest)) : WB x G nL Qf ce sl s pc lv (.int n :: rest) := by
  intro H locs ls g1 g2 g3
  have hR := X.2.2.2.1
  have hA := ((cx_K X).2 t _ (ty_at G (by omega))).2
  rw [if_neg (by omega), hty] at hA
  obtain ⟨kA', comp', a1, a2, a3, a4⟩ := hA
  subst hk
  refine W.anew X.1.1 X.1.2.1 X.1.2.2.2.1 (X.1.2.2.2.2 _ hcl) hover rfl hd rfl hn hb (by rw [hR]; exact hce.1) (by rw [hR]; exact hce.2) fun cA kA2 comp f1 f2 f3 f4 => ?_
  generalize hH1 : H.push ({ cls := cA, slots := Array.replicate n.toNatClampNeg .null, vm := .none } : Cell) = H1
  have z1 : H1.size = H.size + 1 := by rw [← hH1, Array.size_push]
  have hcA : cA = kA G t := Option.some.inj (f1.symm.trans a4)
  have e1 : H1[H.size]? = some (arrV (kA G t) n.toNatClampNeg (fun _ => .null)) := by rw [← hH1, Array.getElem?_push_size, ← arrV_new, hcA]
  have o1 : ∀ q : Nat, q < H.size → H1[q]? = H[q]? := fun q hq => by rw [← hH1, Array.getElem?_push, if_neg (Nat.ne_of_lt hq)]
  exact kk H.size g1.1.symm g1.2.1 g1.2.2.1 _ rfl H1 _ ls (rel_new g1 z1 o1 (fun c1 c2 => by omega) (fun c => by omega) (fun _ _ => e1) (fun c2 q2 e2 e3 => by omega) (fun c2 k e2 => by omega) (by omega) (fun c => by omega)) ⟨by rw [z1]; exact Nat.le_succ_of_le g2.1, fun q h1 h2 => (o1 q (Nat.lt_of_lt_of_le h1 g2.1)).trans (g2.2.1 q h1 h2), g2.2.2⟩ g3
theorem rel_pC {H H1 : Heap} {a0 sp dp n : Nat} (h : Rel G s H) (t0 : 1 ≤ gT s a ∧ gT s a ≤ 3) (e : H1[a]? = some (arrV (kA G (gT s a)) (gN s a) (fun j => .int (va_cpy (gI s a0) (gI s a) sp dp n j)))) (z : H1.size = H.size) (oq : ∀ q, q ≠ a → H1[q]? = H[q]?) : Rel G (pC s a0 a sp dp n) H1 := by
  have hI : ∀ q k, q ≠ a → gI (pC s a0 a sp dp n) q k = gI s q k := fun q k hq => by rw [gI_pC, if_neg (fun c => hq c.1)]
  refine rel_upd h z oq rfl rfl rfl hI (fun _ _ _ => rfl) (fun _ _ _ => rfl) (fun _ _ => ?_) (fun c => by omega) (fun c => by omega) (fun ci q c => by omega) (fun c => c) (by omega) (fun c => by omega)
  rw [e]
  congr 2
  funext j
  rw [gI_pC]
  unfold va_cpy
  simp
theorem rel_pCR {H H1 : Heap} {a0 sp dp n : Nat} (h : Rel G s H) (t0 : 5 ≤ gT s a ∧ gT s a < 100 ∧ gT s a ≠ 8) (e : H1[a]? = some (arrV (kA G (gT s a)) (gN s a) (fun j => va_rf (va_cpy (gR s a0) (gR s a) sp dp n j)))) (z : H1.size = H.size) (oq : ∀ q, q ≠ a → H1[q]? = H[q]?) : Rel G (pCR s a0 a sp dp n) H1 := by
  have hI : ∀ q k, q ≠ a → gR (pCR s a0 a sp dp n) q k = gR s q k := fun q k hq => by rw [gR_pCR, if_neg (fun c => hq c.1)]
  refine rel_upd h z oq rfl rfl rfl (fun _ _ _ => rfl) (fun _ _ _ => rfl) hI (fun _ _ => by omega) (fun c => by omega) (fun _ _ => ?_) (fun ci q c => by omega) (fun c => ⟨c.1, fun j q hq k' r hr => ?_⟩) (by omega) (fun c => by omega)
  · rw [e]
    congr 2
    funext j
    rw [gR_pCR]
    unfold va_cpy
    simp
  · obtain ⟨t, ht, n', hn⟩ := ly_own q (List.mem_of_getElem? hq)
    have h1 := (c.1 _ _ hn).1
    have hne : kB G + q.1 ≠ a := by
      intro e2
      rw [e2] at h1
      simp only [List.mem_cons, List.not_mem_nil, or_false] at ht
      rcases ht with e1 | e1 | e1 | e1 <;> subst e1 <;> simp at h1 <;> omega
    rw [hI _ _ hne]
    exact c.2 j q hq k' r hr
/-- System.arraycopy, ints -/
theorem r_cpyI (X : Cx x G cc nL own ret R0) {index : Nat} (q1 : Cond.methodLink own index arraycopyName ∈ lw_all) (q2 : Cond.native arraycopyName ∈ lw_all) (q3 : Cond.static arraycopyName ∈ lw_all) (q4 : Cond.initialized "java/lang/System" ∈ lw_all) {a0 : Nat} {sp dp n : Int32} (t0 : gT s a0 = 1) (t1 : gT s a = 1) (h1 : ¬ sp < 0) (h2 : ¬ dp < 0) (h3 : ¬ n < 0) (h4 : sp.toNatClampNeg + n.toNatClampNeg ≤ gN s a0) (h5 : dp.toNatClampNeg + n.toNatClampNeg ≤ gN s a) (hw : kS G ≤ a) (hf : 1 ≤ R0.frames) (hl : 8 + (nativeFrameWords "java/lang/System" "arraycopy" 5 + 11) ≤ R0.locals) (hr : (rest.map fun v => v.category).sum ≤ 8) (hd : decode cc pc = .ok (.invokestatic index, 3))
    (kk : ∀ s1 : PS, s1 = pC s a0 a sp.toNatClampNeg dp.toNatClampNeg n.toNatClampNeg → WB x G nL Qf ce sl s1 (pc + 3) lv rest) : WB x G nL Qf ce sl s pc lv (.int n :: .int dp :: .ref a :: .int sp :: .ref a0 :: rest) := by
  intro H locs ls g1 g2 g3
  have hR := X.2.2.2.1
  have c0 := g1.2.2.2.1 a0 (by omega) (by omega)
  have c1 := g1.2.2.2.1 a (by omega) (by omega)
  rw [t0] at c0
  have c1' := c1
  rw [t1] at c1
  have hA := cx_A X (t := 1) (by decide) (by decide)
  obtain ⟨-, k0, hk0, cm0, hkk0⟩ := hA (gN s a0) (fun j => .int (gI s a0 j))
  obtain ⟨-, k1, hk1, cm1, hkk1⟩ := hA (gN s a) (fun j => .int (gI s a j))
  have hal : a < H.size := (Array.getElem?_eq_some_iff.mp c1).1
  have e1 := va_copied (sp := sp.toNatClampNeg) (dp := dp.toNatClampNeg) (fun z => Value.int z) (kA G 1) (kA G 1) (n1 := gN s a) (gI s a0) (gI s a) h4
  refine W.of (H' := H.setIfInBounds a (arrV (kA G 1) (gN s a) (fun j => .int (va_cpy (gI s a0) (gI s a) sp.toNatClampNeg dp.toNatClampNeg n.toNatClampNeg j)))) (locs' := locs ++ List.map (fun (q : Value × Nat) => (⟨a, dp.toNatClampNeg + q.snd⟩ : Loc)) ((arrV (kA G 1) (gN s a0) (fun j => .int (gI s a0 j))).stretch sp.toNatClampNeg n.toNatClampNeg).zipIdx) (cells' := ce) (slots' := sl) (g2 := F0 (xm x) (pc + 3) ls rest) ?_ ?_
  · intro T hT Y
    obtain ⟨vm', Y', step⟩ := Y.arraycopy X.1.1 X.1.2.2.2.1 (X.1.2.2.2.2 _ q1) (X.1.2.2.2.2 _ q2) (X.1.2.2.2.2 _ q3) (X.1.2.2.2.2 _ q4) (src := a0) (dst := a) (srcPos := sp) (destPos := dp) (n := n) (by rw [hT]; exact c0) (by rw [hT]; exact c1) (fun _ h => by cases h) (fun _ h => by cases h) (fun h => by cases h) (fun h => by cases h) hk0 hk1 hkk0 hkk1 (by simp [refKind, ety]) h1 h2 h3
      (by rw [nn_of h1, nn_of h3, arrV_size]; omega) (by rw [nn_of h2, nn_of h3, arrV_size]; omega)
      (fun vm₁ _ i hi => by
        have e : (arrV (kA G 1) (gN s a0) (fun j => .int (gI s a0 j))).slots.getD (sp.toNatClampNeg + i) .null = .int (gI s a0 (sp.toNatClampNeg + i)) := by
          rw [Array.getD_eq_getD_getElem?, arrV_read _ _ (by omega)]
          rfl
        rw [e]
        exact ⟨rfl, trivial⟩)
      (g := F0 (xm x) pc ls (.int n :: .int dp :: .ref a :: .int sp :: .ref a0 :: rest)) rfl (by rw [X.1.2.2.1]; exact g3.1) (rest := rest) rfl (by rw [X.1.2.1]; exact hd) (by rw [hR]; exact hf) (by rw [hR]; show 2 * 0 + _ + _ ≤ _; omega)
    refine ⟨_, ?_, Y', step⟩
    rw [show copied _ _ sp dp n = _ from e1, ← hT]
    rfl
  · have oq : ∀ q : Nat, q ≠ a → (H.setIfInBounds a (arrV (kA G 1) (gN s a) (fun j => .int (va_cpy (gI s a0) (gI s a) sp.toNatClampNeg dp.toNatClampNeg n.toNatClampNeg j))))[q]? = H[q]? := fun q hq => by simp [Array.getElem?_setIfInBounds, Ne.symm hq]
    refine kk _ rfl _ _ ls (rel_pC g1 (by omega) (by rw [t1]; simp [Array.getElem?_setIfInBounds, hal]) (by simp) oq) ⟨by simp; exact g2.1, fun q u1 u2 => ?_, fun q hq => ?_⟩ g3
    · rw [oq q (fun e => u2 (by rw [e]; exact hw))]
      exact g2.2.1 q u1 u2
    · rcases List.mem_append.mp hq with h | h
      · exact g2.2.2 q h
      · obtain ⟨z, -, hz⟩ := List.mem_map.mp h
        rw [← hz]
        exact hw
end RN
