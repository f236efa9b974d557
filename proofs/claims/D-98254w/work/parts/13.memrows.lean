/-! PART 13: rows over the memory; returns; calls -/
set_option maxRecDepth 100000
section RM
variable {x : CT} {G : GT} {cc : ByteArray} {nL : Nat} {own : String} {ret : Option FieldType} {R0 : Room} {Qf : State → Prop} {ce sl : Nat} {s : PS} {pc : Nat} {lv lv' : List (Nat × Value)} {st rest : List Value} {a : Nat} {i : Int32}
theorem lt_in {n : Nat} (h : vp_in i n) : i.toNatClampNeg < n := Nat.not_le.mp fun q => h (Or.inr q)
theorem r_iald (X : Cx x G cc nL own ret R0) (hT : gT s a = 1) (hin : vp_in i (gN s a)) (hd : decode cc pc = .ok (.iaload, 1)) (kk : WB x G nL Qf ce sl s (pc + 1) lv (.int (gI s a i.toNatClampNeg) :: rest)) : WB x G nL Qf ce sl s pc lv (.int i :: .ref a :: rest) := by
  intro H locs ls h1 h2 h3
  have hc := h1.2.2.2.1 a (by omega) (by omega)
  exact W.iald (v := .int (gI s a i.toNatClampNeg)) X.1.1 X.1.2.1 hc (by rw [hT]; exact (cx_A X (t := 1) (by decide) (by decide)) _ _) (fun q => by cases q) (by rw [arrV_size]; exact hin) (by rw [arrV_read _ _ (lt_in hin)]) rfl rfl hd (kk H locs ls h1 h2 h3)
theorem r_bald (X : Cx x G cc nL own ret R0) (hT : gT s a = 2) (hin : vp_in i (gN s a)) (hd : decode cc pc = .ok (.baload, 1)) (kk : WB x G nL Qf ce sl s (pc + 1) lv (.int (gI s a i.toNatClampNeg) :: rest)) : WB x G nL Qf ce sl s pc lv (.int i :: .ref a :: rest) := by
  intro H locs ls h1 h2 h3
  have hc := h1.2.2.2.1 a (by omega) (by omega)
  exact W.bald (v := .int (gI s a i.toNatClampNeg)) X.1.1 X.1.2.1 hc (by rw [hT]; exact (cx_A X (t := 2) (by decide) (by decide)) _ _) (fun q => by cases q) (by rw [arrV_size]; exact hin) (by rw [arrV_read _ _ (lt_in hin)]) rfl rfl hd (kk H locs ls h1 h2 h3)
theorem r_zald (X : Cx x G cc nL own ret R0) (hT : gT s a = 3) (hin : vp_in i (gN s a)) (hd : decode cc pc = .ok (.baload, 1)) (kk : WB x G nL Qf ce sl s (pc + 1) lv (.int (gI s a i.toNatClampNeg) :: rest)) : WB x G nL Qf ce sl s pc lv (.int i :: .ref a :: rest) := by
  intro H locs ls h1 h2 h3
  have hc := h1.2.2.2.1 a (by omega) (by omega)
  exact W.zald (v := .int (gI s a i.toNatClampNeg)) X.1.1 X.1.2.1 hc (by rw [hT]; exact (cx_A X (t := 3) (by decide) (by decide)) _ _) (fun q => by cases q) (by rw [arrV_size]; exact hin) (by rw [arrV_read _ _ (lt_in hin)]) rfl rfl hd (kk H locs ls h1 h2 h3)
theorem r_lald (X : Cx x G cc nL own ret R0) (hT : gT s a = 4) (hin : vp_in i (gN s a)) (hd : decode cc pc = .ok (.laload, 1)) (kk : WB x G nL Qf ce sl s (pc + 1) lv (.long (gL s a i.toNatClampNeg) :: rest)) : WB x G nL Qf ce sl s pc lv (.int i :: .ref a :: rest) := by
  intro H locs ls h1 h2 h3
  have hc := h1.2.2.2.2.1 a hT
  exact W.lald (v := .long (gL s a i.toNatClampNeg)) X.1.1 X.1.2.1 hc ((cx_A X (t := 4) (by decide) (by decide)) _ _) (fun q => by cases q) (by rw [arrV_size]; exact hin) (by rw [arrV_read _ _ (lt_in hin)]) rfl rfl hd (kk H locs ls h1 h2 h3)
theorem r_aald (X : Cx x G cc nL own ret R0) (h5 : 5 ≤ gT s a) (h9 : gT s a ≤ 10) (hin : vp_in i (gN s a)) (hd : decode cc pc = .ok (.aaload, 1)) (kk : WB x G nL Qf ce sl s (pc + 1) lv (va_rf (gR s a i.toNatClampNeg) :: rest)) : WB x G nL Qf ce sl s pc lv (.int i :: .ref a :: rest) := by
  intro H locs ls h1 h2 h3
  have hc := h1.2.2.2.2.2.1 a h5 (by omega)
  have hA := cx_A X (t := gT s a) (by omega) (by omega)
  have hr : (ety (gT s a)).isReference = true := by
    have h : gT s a = 5 ∨ gT s a = 6 ∨ gT s a = 7 ∨ gT s a = 8 ∨ gT s a = 9 ∨ gT s a = 10 := by omega
    rcases h with h | h | h | h | h | h <;> rw [h] <;> rfl
  exact W.aald (v := va_rf (gR s a i.toNatClampNeg)) X.1.1 X.1.2.1 hc (hA _ _) hr (fun q => by cases q) (by rw [arrV_size]; exact hin) (by rw [arrV_read _ _ (lt_in hin)]) rfl rfl hd (kk H locs ls h1 h2 h3)
theorem r_alen (X : Cx x G cc nL own ret R0) (h1' : 1 ≤ gT s a) (h9 : gT s a ≤ 10) (hd : decode cc pc = .ok (.arraylength, 1)) (kk : WB x G nL Qf ce sl s (pc + 1) lv (.int (nI (gN s a)) :: rest)) : WB x G nL Qf ce sl s pc lv (.ref a :: rest) := by
  intro H locs ls h1 h2 h3
  have hA := cx_A X (t := gT s a) (by omega) (by omega)
  by_cases h4 : gT s a ≤ 3
  · exact W.alen (n := nI (gN s a)) X.1.1 X.1.2.1 (h1.2.2.2.1 a h1' h4) (hA _ _) (by rw [arrV_size] <;> rfl) rfl rfl hd (kk H locs ls h1 h2 h3)
  · by_cases h5 : gT s a = 4
    · rw [h5] at hA
      exact W.alen (n := nI (gN s a)) X.1.1 X.1.2.1 (h1.2.2.2.2.1 a h5) (hA _ _) (by rw [arrV_size] <;> rfl) rfl rfl hd (kk H locs ls h1 h2 h3)
    · exact W.alen (n := nI (gN s a)) X.1.1 X.1.2.1 (h1.2.2.2.2.2.1 a (by omega) (by omega)) (hA _ _) (by rw [arrV_size] <;> rfl) rfl rfl hd (kk H locs ls h1 h2 h3)
theorem r_iast (X : Cx x G cc nL own ret R0) {v : Int32} (hT : gT s a = 1) (hin : vp_in i (gN s a)) (hw : kS G ≤ a) (hd : decode cc pc = .ok (.iastore, 1)) (kk : ∀ s1 : PS, s1 = pI s a i.toNatClampNeg v → WB x G nL Qf ce sl s1 (pc + 1) lv rest) : WB x G nL Qf ce sl s pc lv (.int v :: .int i :: .ref a :: rest) := by
  intro H locs ls h1 h2 h3
  have hc := h1.2.2.2.1 a (by omega) (by omega)
  refine W.iast X.1.1 X.1.2.1 hc (by rw [hT]; exact (cx_A X (t := 1) (by decide) (by decide)) _ _) (fun q => by cases q) (by rw [arrV_size]; exact hin) rfl rfl hd fun H1 e z oq => ?_
  exact kk _ rfl H1 _ ls (rel_iast h1 (by omega) (by omega) e z oq) (h2.put z oq hw) h3
theorem r_bast (X : Cx x G cc nL own ret R0) {v : Int32} (hT : gT s a = 2) (hin : vp_in i (gN s a)) (hw : kS G ≤ a) (hd : decode cc pc = .ok (.bastore, 1)) (kk : ∀ s1 : PS, s1 = pI s a i.toNatClampNeg v.toInt8.toInt32 → WB x G nL Qf ce sl s1 (pc + 1) lv rest) : WB x G nL Qf ce sl s pc lv (.int v :: .int i :: .ref a :: rest) := by
  intro H locs ls h1 h2 h3
  have hc := h1.2.2.2.1 a (by omega) (by omega)
  refine W.bast X.1.1 X.1.2.1 hc (by rw [hT]; exact (cx_A X (t := 2) (by decide) (by decide)) _ _) (fun q => by cases q) (by rw [arrV_size]; exact hin) rfl rfl hd fun H1 e z oq => ?_
  exact kk _ rfl H1 _ ls (rel_iast h1 (by omega) (by omega) e z oq) (h2.put z oq hw) h3
theorem r_zast (X : Cx x G cc nL own ret R0) {v : Int32} (hT : gT s a = 3) (hv : v = 0 ∨ v = 1) (hin : vp_in i (gN s a)) (hw : kS G ≤ a) (hd : decode cc pc = .ok (.bastore, 1)) (kk : ∀ s1 : PS, s1 = pI s a i.toNatClampNeg v → WB x G nL Qf ce sl s1 (pc + 1) lv rest) : WB x G nL Qf ce sl s pc lv (.int v :: .int i :: .ref a :: rest) := by
  intro H locs ls h1 h2 h3
  have hc := h1.2.2.2.1 a (by omega) (by omega)
  refine W.zast X.1.1 X.1.2.1 hc (by rw [hT]; exact (cx_A X (t := 3) (by decide) (by decide)) _ _) (fun q => by cases q) (by rw [arrV_size]; exact hin) rfl rfl hd fun H1 e z oq => ?_
  rw [show narrow .boolean (.int v) = .int v by rcases hv with rfl | rfl <;> rfl] at e
  exact kk _ rfl H1 _ ls (rel_iast h1 (by omega) (by omega) e z oq) (h2.put z oq hw) h3
theorem r_last (X : Cx x G cc nL own ret R0) {v : Int64} (hT : gT s a = 4) (hin : vp_in i (gN s a)) (hw : kS G ≤ a) (hd : decode cc pc = .ok (.lastore, 1)) (kk : ∀ s1 : PS, s1 = pL s a i.toNatClampNeg v → WB x G nL Qf ce sl s1 (pc + 1) lv rest) : WB x G nL Qf ce sl s pc lv (.long v :: .int i :: .ref a :: rest) := by
  intro H locs ls h1 h2 h3
  have hc := h1.2.2.2.2.1 a hT
  refine W.last X.1.1 X.1.2.1 hc ((cx_A X (t := 4) (by decide) (by decide)) _ _) (fun q => by cases q) (by rw [arrV_size]; exact hin) rfl rfl hd fun H1 e z oq => ?_
  exact kk _ rfl H1 _ ls (rel_last h1 hT e z oq) (h2.put z oq hw) h3
/-- a field is read: the word of the link is the class's own or a nest mate's -/
theorem r_getf (X : Cx x G cc nL own ret R0) (ci k : Nat) {C ref : String} {T : u_T} {N index : Nat} (hin : ∀ w ∈ u_ws C T N, w ∈ lw_all) (hc : clT[ci]? = some (C, T, N)) (hk : k < N) (hlink : Cond.fieldLink own index ref (T k).2.1 (T k).2.2.1 ∈ lw_all) (hsame : (T k).1 = ref) (hT : gT s a = 100 + ci) (hd : decode cc pc = .ok (.getfield index, 3)) (kk : WB x G nL Qf ce sl s (pc + 3) lv (oF s a ci k :: rest)) : WB x G nL Qf ce sl s pc lv (.ref a :: rest) := by
  intro H locs ls h1 h2 h3
  obtain ⟨cell, q1, q2, q3, q4⟩ := h1.2.2.2.2.2.2.1 a ci _ hT hc
  obtain ⟨hS, hfc, kC, hkC, hkind⟩ := (cx_K X).1 ci _ hc
  obtain ⟨cf, kf, fi, f, hi, hsl⟩ := hS k hk
  have hl := X.1.2.2.2.2 _ hlink
  rw [← hsame] at hl
  refine W.getf X.1.1 X.1.2.1 X.1.2.2.2.1 hl hi (u_facts hfc hkC (u_lays X.1.2.2.2.2 hin hk) hi).1 q1 (by rw [q3]; exact fun h => by cases h) (v := oF s a ci k) ?_ rfl rfl hd (kk H locs ls h1 h2 h3)
  rw [hsl, q4 k hk]
theorem r_getS (X : Cx x G cc nL own ret R0) (ci k : Nat) {C ref : String} {T : u_T} {N index : Nat} (hin : ∀ w ∈ u_ws C T N, w ∈ lw_all) (hc : clT[ci]? = some (C, T, N)) (hk : k < N) (hlink : Cond.fieldLink own index ref (T k).2.1 (T k).2.2.1 ∈ lw_all) (hsame : Cond.sameField ref (T k).1 (T k).2.1 (T k).2.2.1 ∈ lw_all) (hT : gT s a = 100 + ci) (hd : decode cc pc = .ok (.getfield index, 3)) (kk : WB x G nL Qf ce sl s (pc + 3) lv (oF s a ci k :: rest)) : WB x G nL Qf ce sl s pc lv (.ref a :: rest) := by
  intro H locs ls h1 h2 h3
  obtain ⟨cell, q1, q2, q3, q4⟩ := h1.2.2.2.2.2.2.1 a ci _ hT hc
  obtain ⟨hS, hfc, kC, hkC, hkind⟩ := (cx_K X).1 ci _ hc
  obtain ⟨cf, kf, fi, f, hi, hsl⟩ := hS k hk
  have hl := X.1.2.2.2.2 _ hlink
  refine W.getf X.1.1 X.1.2.1 X.1.2.2.2.1 hl (u_same (X.1.2.2.2.2 _ hsame) _ hi) (u_facts hfc hkC (u_lays X.1.2.2.2.2 hin hk) hi).1 q1 (by rw [q3]; exact fun h => by cases h) (v := oF s a ci k) ?_ rfl rfl hd (kk H locs ls h1 h2 h3)
  rw [hsl, q4 k hk]
theorem r_getN (X : Cx x G cc nL own ret R0) (ci k : Nat) {C ref host : String} {T : u_T} {N index : Nat} (hin : ∀ w ∈ u_ws C T N, w ∈ lw_all) (hc : clT[ci]? = some (C, T, N)) (hk : k < N) (hlink : Cond.fieldLinkNest own index ref (T k).2.1 (T k).2.2.1 host ∈ lw_tbl) (hsame : (T k).1 = ref) (hT : gT s a = 100 + ci) (hd : decode cc pc = .ok (.getfield index, 3)) (kk : WB x G nL Qf ce sl s (pc + 3) lv (oF s a ci k :: rest)) : WB x G nL Qf ce sl s pc lv (.ref a :: rest) := by
  intro H locs ls h1 h2 h3
  obtain ⟨cell, q1, q2, q3, q4⟩ := h1.2.2.2.2.2.2.1 a ci _ hT hc
  obtain ⟨hS, hfc, kC, hkC, hkind⟩ := (cx_K X).1 ci _ hc
  obtain ⟨cf, kf, fi, f, hi, hsl⟩ := hS k hk
  have hl := nw_F X.2.2.2.2.1 X.2.2.2.2.2.1 hlink (xa x)
  rw [← hsame] at hl
  refine va_Wgetf X.1.1 X.1.2.1 X.1.2.2.2.1 hl hi (u_facts hfc hkC (u_lays X.1.2.2.2.2 hin hk) hi).1 q1 (by rw [q3]; exact fun h => by cases h) (v := oF s a ci k) ?_ rfl rfl hd (kk H locs ls h1 h2 h3)
  rw [hsl, q4 k hk]
theorem clt_lt {ci : Nat} {q : vw_C} (h : clT[ci]? = some q) : ci < 15 := (List.getElem?_eq_some_iff.mp h).1
/-- a field's store, before it is said how the memory holds it -/
theorem r_put0 (X : Cx x G cc nL own ret R0) (ci k : Nat) {C ref : String} {T : u_T} {N index : Nat} (hin : ∀ w ∈ u_ws C T N, w ∈ lw_all) (ty0 : Nat → FieldType) (hty : ∀ k, k < N → parseFieldDescriptor (T k).2.2.1 = some (ty0 k)) (hnm : ∀ a, a < N → ∀ b, b < N → a ≠ b → (T a).2.1 ≠ (T b).2.1) (hc : clT[ci]? = some (C, T, N)) (hk : k < N) (hlink : Cond.fieldLink own index ref (T k).2.1 (T k).2.2.1 ∈ lw_all) (hsame : (T k).1 = ref) (hfin : (T k).2.2.2 = false) {v : Value} (hn : narrow (ty0 k) v = v) (hfit : fits (ty0 k) v = true) (hT : gT s a = 100 + ci) (hd : decode cc pc = .ok (.putfield index, 3)) {H : Heap} {locs : List Loc} {ls : Array Slot} (h1 : Rel G s H)
    (kk : ∀ (H1 : Heap) (n : Nat), H1.size = H.size → (∀ q, q ≠ a → H1[q]? = H[q]?) → (t_OB a ((kD G).1 ci) N ((kD G).2 ci) H1 (updV (oF s a ci) k v) ∧ Mn H1 a) → W (xp x) (xl x) (xe x) (xR x) (xs x) (xm x) (xa x) (xb x) (xM x) (xc x) H1 (locs ++ [⟨a, n⟩]) ce sl Qf (F0 (xm x) (pc + 3) ls rest)) : W (xp x) (xl x) (xe x) (xR x) (xs x) (xm x) (xa x) (xb x) (xM x) (xc x) H locs ce sl Qf (F0 (xm x) pc ls (v :: .ref a :: rest)) := by
  have hap := va_apart (own := own) X.1.2.2.2.2 hin ty0 hty hnm (cx_K X) hc
  obtain ⟨cell, q1, q2, q3, q4⟩ := h1.2.2.2.2.2.2.1 a ci _ hT hc
  obtain ⟨hS, hfc, kC, hkC, hkind⟩ := (cx_K X).1 ci _ hc
  obtain ⟨cf, kf, fi, f, hi, hsl⟩ := hS k hk
  have hl := X.1.2.2.2.2 _ hlink
  rw [← hsame] at hl
  have hlay := X.1.2.2.2.2 _ (hin _ (u_in_lay hk))
  unfold u_lay at hlay
  rw [if_neg (by rw [hfin]; decide)] at hlay
  have hst := (u_facts hfc hkC (u_lays X.1.2.2.2.2 hin hk) hi).1
  have h6 := u_store hfc hkC hkind hlay hi (hty k hk) hn hfit
  refine W.putK X.1.1 X.1.2.1 (f := f) ⟨X.1.2.2.2.1, hl, ⟨_, _, _, hi⟩, hst⟩ (by rw [q2]; exact h6) q1 q3 (by rw [hsl]; exact k2_hasslot (q4 k hk)) rfl rfl hd fun H' e1 e2 e3 => ?_
  rw [hsl] at e1
  exact kk H' _ e2 e3 ⟨⟨_, e1, q2, q3, t_set q4 hap hk v⟩, fun c hc9 => by cases e1.symm.trans hc9; exact (id (h1.2.2.2.2.2.2.2.2.2 a (by omega) (by have := clt_lt hc; omega) cell q1) : cell.monitor.owner = none ∧ cell.monitor.count = 0)⟩
theorem r_put0S (X : Cx x G cc nL own ret R0) (ci k : Nat) {C ref : String} {T : u_T} {N index : Nat} (hin : ∀ w ∈ u_ws C T N, w ∈ lw_all) (ty0 : Nat → FieldType) (hty : ∀ k, k < N → parseFieldDescriptor (T k).2.2.1 = some (ty0 k)) (hnm : ∀ a, a < N → ∀ b, b < N → a ≠ b → (T a).2.1 ≠ (T b).2.1) (hc : clT[ci]? = some (C, T, N)) (hk : k < N) (hlink : Cond.fieldLink own index ref (T k).2.1 (T k).2.2.1 ∈ lw_all) (hsame : Cond.sameField ref (T k).1 (T k).2.1 (T k).2.2.1 ∈ lw_all) (hfin : (T k).2.2.2 = false) {v : Value} (hn : narrow (ty0 k) v = v) (hfit : fits (ty0 k) v = true) (hT : gT s a = 100 + ci) (hd : decode cc pc = .ok (.putfield index, 3)) {H : Heap} {locs : List Loc} {ls : Array Slot} (h1 : Rel G s H)
    (kk : ∀ (H1 : Heap) (n : Nat), H1.size = H.size → (∀ q, q ≠ a → H1[q]? = H[q]?) → (t_OB a ((kD G).1 ci) N ((kD G).2 ci) H1 (updV (oF s a ci) k v) ∧ Mn H1 a) → W (xp x) (xl x) (xe x) (xR x) (xs x) (xm x) (xa x) (xb x) (xM x) (xc x) H1 (locs ++ [⟨a, n⟩]) ce sl Qf (F0 (xm x) (pc + 3) ls rest)) : W (xp x) (xl x) (xe x) (xR x) (xs x) (xm x) (xa x) (xb x) (xM x) (xc x) H locs ce sl Qf (F0 (xm x) pc ls (v :: .ref a :: rest)) := by
  have hap := va_apart (own := own) X.1.2.2.2.2 hin ty0 hty hnm (cx_K X) hc
  obtain ⟨cell, q1, q2, q3, q4⟩ := h1.2.2.2.2.2.2.1 a ci _ hT hc
  obtain ⟨hS, hfc, kC, hkC, hkind⟩ := (cx_K X).1 ci _ hc
  obtain ⟨cf, kf, fi, f, hi, hsl⟩ := hS k hk
  have hl := X.1.2.2.2.2 _ hlink
  have hlay := X.1.2.2.2.2 _ (hin _ (u_in_lay hk))
  unfold u_lay at hlay
  rw [if_neg (by rw [hfin]; decide)] at hlay
  have hst := (u_facts hfc hkC (u_lays X.1.2.2.2.2 hin hk) hi).1
  have h6 := u_store hfc hkC hkind hlay hi (hty k hk) hn hfit
  refine W.putK X.1.1 X.1.2.1 (f := f) ⟨X.1.2.2.2.1, hl, ⟨_, _, _, u_same (X.1.2.2.2.2 _ hsame) _ hi⟩, hst⟩ (by rw [q2]; exact h6) q1 q3 (by rw [hsl]; exact k2_hasslot (q4 k hk)) rfl rfl hd fun H' e1 e2 e3 => ?_
  rw [hsl] at e1
  exact kk H' _ e2 e3 ⟨⟨_, e1, q2, q3, t_set q4 hap hk v⟩, fun c hc9 => by cases e1.symm.trans hc9; exact (id (h1.2.2.2.2.2.2.2.2.2 a (by omega) (by have := clt_lt hc; omega) cell q1) : cell.monitor.owner = none ∧ cell.monitor.count = 0)⟩
theorem r_put0N (X : Cx x G cc nL own ret R0) (ci k : Nat) {C ref host : String} {T : u_T} {N index : Nat} (hin : ∀ w ∈ u_ws C T N, w ∈ lw_all) (ty0 : Nat → FieldType) (hty : ∀ k, k < N → parseFieldDescriptor (T k).2.2.1 = some (ty0 k)) (hnm : ∀ a, a < N → ∀ b, b < N → a ≠ b → (T a).2.1 ≠ (T b).2.1) (hc : clT[ci]? = some (C, T, N)) (hk : k < N) (hlink : Cond.fieldLinkNest own index ref (T k).2.1 (T k).2.2.1 host ∈ lw_tbl) (hsame : (T k).1 = ref) (hfin : (T k).2.2.2 = false) {v : Value} (hn : narrow (ty0 k) v = v) (hfit : fits (ty0 k) v = true) (hT : gT s a = 100 + ci) (hd : decode cc pc = .ok (.putfield index, 3)) {H : Heap} {locs : List Loc} {ls : Array Slot} (h1 : Rel G s H)
    (kk : ∀ (H1 : Heap) (n : Nat), H1.size = H.size → (∀ q, q ≠ a → H1[q]? = H[q]?) → (t_OB a ((kD G).1 ci) N ((kD G).2 ci) H1 (updV (oF s a ci) k v) ∧ Mn H1 a) → W (xp x) (xl x) (xe x) (xR x) (xs x) (xm x) (xa x) (xb x) (xM x) (xc x) H1 (locs ++ [⟨a, n⟩]) ce sl Qf (F0 (xm x) (pc + 3) ls rest)) : W (xp x) (xl x) (xe x) (xR x) (xs x) (xm x) (xa x) (xb x) (xM x) (xc x) H locs ce sl Qf (F0 (xm x) pc ls (v :: .ref a :: rest)) := by
  have hap := va_apart (own := own) X.1.2.2.2.2 hin ty0 hty hnm (cx_K X) hc
  obtain ⟨cell, q1, q2, q3, q4⟩ := h1.2.2.2.2.2.2.1 a ci _ hT hc
  obtain ⟨hS, hfc, kC, hkC, hkind⟩ := (cx_K X).1 ci _ hc
  obtain ⟨cf, kf, fi, f, hi, hsl⟩ := hS k hk
  have hl := nw_F X.2.2.2.2.1 X.2.2.2.2.2.1 hlink (xa x)
  rw [← hsame] at hl
  have hlay := X.1.2.2.2.2 _ (hin _ (u_in_lay hk))
  unfold u_lay at hlay
  rw [if_neg (by rw [hfin]; decide)] at hlay
  have hst := (u_facts hfc hkC (u_lays X.1.2.2.2.2 hin hk) hi).1
  have h6 := u_store hfc hkC hkind hlay hi (hty k hk) hn hfit
  refine va_WputK X.1.1 X.1.2.1 (f := f) X.1.2.2.2.1 hl hi hst (by rw [q2]; exact h6) q1 q3 (by rw [hsl]; exact k2_hasslot (q4 k hk)) rfl rfl hd fun H' e1 e2 e3 => ?_
  rw [hsl] at e1
  exact kk H' _ e2 e3 ⟨⟨_, e1, q2, q3, t_set q4 hap hk v⟩, fun c hc9 => by cases e1.symm.trans hc9; exact (id (h1.2.2.2.2.2.2.2.2.2 a (by omega) (by have := clt_lt hc; omega) cell q1) : cell.monitor.owner = none ∧ cell.monitor.count = 0)⟩
theorem r_put0F (X : Cx x G cc nL own ret R0) (hin2 : (xM x).name = "<init>") (ci k : Nat) {C : String} {T : u_T} {N index : Nat} (hin : ∀ w ∈ u_ws C T N, w ∈ lw_all) (ty0 : Nat → FieldType) (hty : ∀ k, k < N → parseFieldDescriptor (T k).2.2.1 = some (ty0 k)) (hnm : ∀ a, a < N → ∀ b, b < N → a ≠ b → (T a).2.1 ≠ (T b).2.1) (hc : clT[ci]? = some (C, T, N)) (hk : k < N) (hlink : Cond.fieldLink own index own (T k).2.1 (T k).2.2.1 ∈ lw_all) (hsame : (T k).1 = own) (hfin : (T k).2.2.2 = true) {v : Value} (hn : narrow (ty0 k) v = v) (hfit : fits (ty0 k) v = true) (hT : gT s a = 100 + ci) (hd : decode cc pc = .ok (.putfield index, 3)) {H : Heap} {locs : List Loc} {ls : Array Slot} (h1 : Rel G s H)
    (kk : ∀ (H1 : Heap) (n : Nat), H1.size = H.size → (∀ q, q ≠ a → H1[q]? = H[q]?) → (t_OB a ((kD G).1 ci) N ((kD G).2 ci) H1 (updV (oF s a ci) k v) ∧ Mn H1 a) → W (xp x) (xl x) (xe x) (xR x) (xs x) (xm x) (xa x) (xb x) (xM x) (xc x) H1 (locs ++ [⟨a, n⟩]) ce sl Qf (F0 (xm x) (pc + 3) ls rest)) : W (xp x) (xl x) (xe x) (xR x) (xs x) (xm x) (xa x) (xb x) (xM x) (xc x) H locs ce sl Qf (F0 (xm x) pc ls (v :: .ref a :: rest)) := by
  have hap := va_apart (own := own) X.1.2.2.2.2 hin ty0 hty hnm (cx_K X) hc
  obtain ⟨cell, q1, q2, q3, q4⟩ := h1.2.2.2.2.2.2.1 a ci _ hT hc
  obtain ⟨hS, hfc, kC, hkC, hkind⟩ := (cx_K X).1 ci _ hc
  obtain ⟨cf, kf, fi, f, hi, hsl⟩ := hS k hk
  have hl := X.1.2.2.2.2 _ hlink
  have hlay := X.1.2.2.2.2 _ (hin _ (u_in_lay hk))
  unfold u_lay at hlay
  rw [if_pos hfin] at hlay
  have hst := (u_facts hfc hkC (u_lays X.1.2.2.2.2 hin hk) hi).1
  have hcf : (xm x).cls = cf := by
    obtain ⟨_, _, c', _, _, _, -, -, hf', -, -, -, hown2, -⟩ := Cond.laysFinal_spec hlay
    have e1 : c' = cf := by have := hi.symm.trans hf'; simp at this; exact this.1.symm
    rw [hsame] at hown2
    rw [← e1]; exact Option.some.inj (X.1.2.2.2.1.symm.trans hown2)
  have h6 := u_fits hfc hkC hkind (Or.inr hlay) hi (hty k hk) hn hfit
  rw [hsame] at hi
  refine W.putFinK X.1.1 X.1.2.1 X.1.2.2.2.1 hl hi hst hcf hin2 (by rw [q2]; exact h6) q1 q3 (by rw [hsl]; exact k2_hasslot (q4 k hk)) rfl rfl hd fun H' e1 e2 e3 => ?_
  rw [hsl] at e1
  exact kk H' _ e2 e3 ⟨⟨_, e1, q2, q3, t_set q4 hap hk v⟩, fun c hc9 => by cases e1.symm.trans hc9; exact (id (h1.2.2.2.2.2.2.2.2.2 a (by omega) (by have := clt_lt hc; omega) cell q1) : cell.monitor.owner = none ∧ cell.monitor.count = 0)⟩
theorem oF_pI {s : PS} {a ci k : Nat} {v : Int32} (h : ∀ (s : PS) (a : Nat), oVal (tyT ci k) s a k = .int (gI s a k)) (j : Nat) : updV (oF s a ci) k (.int v) j = oF (pI s a k v) a ci j := by
  unfold updV
  by_cases hj : j = k
  · subst hj
    rw [if_pos rfl]
    show _ = oVal _ _ _ _
    rw [h, gI_pI, if_pos ⟨rfl, rfl⟩]
  · rw [if_neg hj]
    unfold oF oVal
    split
    · rfl
    · rfl
    · rfl
    · rw [gI_pI, if_neg (fun c => hj c.2)]
theorem oF_pL {s : PS} {a ci k : Nat} {v : Int64} (h : ∀ (s : PS) (a : Nat), oVal (tyT ci k) s a k = .long (gL s a k)) (j : Nat) : updV (oF s a ci) k (.long v) j = oF (pL s a k v) a ci j := by
  unfold updV
  by_cases hj : j = k
  · subst hj
    rw [if_pos rfl]
    show _ = oVal _ _ _ _
    rw [h, gL_pL, if_pos ⟨rfl, rfl⟩]
  · rw [if_neg hj]
    unfold oF oVal
    split
    · rw [gL_pL, if_neg (fun c => hj c.2)]
    · rfl
    · rfl
    · rfl
theorem oF_pR {s : PS} {a ci k : Nat} {v : Option Nat} (h : ∀ (s : PS) (a : Nat), oVal (tyT ci k) s a k = va_rf (gR s a k)) (j : Nat) : updV (oF s a ci) k (va_rf v) j = oF (pR s a k v) a ci j := by
  unfold updV
  by_cases hj : j = k
  · subst hj
    rw [if_pos rfl]
    show _ = oVal _ _ _ _
    rw [h, gR_pR, if_pos ⟨rfl, rfl⟩]
  · rw [if_neg hj]
    unfold oF oVal
    split
    · rfl
    · rw [gR_pR, if_neg (fun c => hj c.2)]
    · rw [gR_pR, if_neg (fun c => hj c.2)]
    · rfl
theorem rel_putI {ci k : Nat} {v : Int32} {q : vw_C} {H H1 : Heap} (h : Rel G s H) (hT : gT s a = 100 + ci) (hc : clT[ci]? = some q) (hk : ∀ (s : PS) (a : Nat), oVal (tyT ci k) s a k = .int (gI s a k)) (z : H1.size = H.size) (oq : ∀ q, q ≠ a → H1[q]? = H[q]?) (e : t_OB a ((kD G).1 ci) q.2.2 ((kD G).2 ci) H1 (updV (oF s a ci) k (.int v)) ∧ Mn H1 a) : Rel G (pI s a k v) H1 := by
  refine rel_upd h z oq rfl rfl rfl (fun q j hq => by rw [gI_pI, if_neg (fun c => hq c.1)]) (fun _ _ _ => rfl) (fun _ _ _ => rfl) (fun _ c => by omega) (fun c => by omega) (fun _ c => by omega) (fun c2 q2 e1 e2 => ?_) (fun c => c) (by have := clt_lt hc; omega) (fun _ _ => e.2)
  have : c2 = ci := by omega
  subst this
  cases hc.symm.trans e2
  exact e.1.to (fun j _ => oF_pI hk j)
theorem rel_putL {ci k : Nat} {v : Int64} {q : vw_C} {H H1 : Heap} (h : Rel G s H) (hT : gT s a = 100 + ci) (hc : clT[ci]? = some q) (hk : ∀ (s : PS) (a : Nat), oVal (tyT ci k) s a k = .long (gL s a k)) (z : H1.size = H.size) (oq : ∀ q, q ≠ a → H1[q]? = H[q]?) (e : t_OB a ((kD G).1 ci) q.2.2 ((kD G).2 ci) H1 (updV (oF s a ci) k (.long v)) ∧ Mn H1 a) : Rel G (pL s a k v) H1 := by
  refine rel_upd h z oq rfl rfl rfl (fun _ _ _ => rfl) (fun q j hq => by rw [gL_pL, if_neg (fun c => hq c.1)]) (fun _ _ _ => rfl) (fun _ c => by omega) (fun c => by omega) (fun _ c => by omega) (fun c2 q2 e1 e2 => ?_) (fun c => c) (by have := clt_lt hc; omega) (fun _ _ => e.2)
  have : c2 = ci := by omega
  subst this
  cases hc.symm.trans e2
  exact e.1.to (fun j _ => oF_pL hk j)
theorem rel_putR {ci k : Nat} {v : Option Nat} {q : vw_C} {H H1 : Heap} (h : Rel G s H) (hT : gT s a = 100 + ci) (h3 : 3 ≤ ci ∨ kP G ≠ 1) (hc : clT[ci]? = some q) (hk : ∀ (s : PS) (a : Nat), oVal (tyT ci k) s a k = va_rf (gR s a k)) (z : H1.size = H.size) (oq : ∀ q, q ≠ a → H1[q]? = H[q]?) (e : t_OB a ((kD G).1 ci) q.2.2 ((kD G).2 ci) H1 (updV (oF s a ci) k (va_rf v)) ∧ Mn H1 a) : Rel G (pR s a k v) H1 := by
  rcases h3 with h3 | h3
  · refine rel_upd h z oq rfl rfl rfl (fun _ _ _ => rfl) (fun _ _ _ => rfl) (fun q j hq => by rw [gR_pR, if_neg (fun c => hq c.1)]) (fun _ c => by omega) (fun c => by omega) (fun _ c => by omega) (fun c2 q2 e1 e2 => ?_) (fun c => c.pR ⟨by omega, by omega, by omega, by omega⟩ k v) (by have := clt_lt hc; omega) (fun _ _ => e.2)
    have : c2 = ci := by omega
    subst this
    cases hc.symm.trans e2
    exact e.1.to (fun j _ => oF_pR hk j)
  · obtain ⟨e1, e2, e3, e4, e5, e6, e7, e8, e9, e10⟩ := h
    have hR : ∀ q j, q ≠ a → gR (pR s a k v) q j = gR s q j := fun q j hq => by rw [gR_pR, if_neg (fun c => hq c.1)]
    have old := clt_lt hc
    refine ⟨by rw [z]; exact e1, by rw [z]; exact e2, fun q hq => by rw [z]; exact e3 q hq, fun q g1 g2 => ?_, fun q g1 => ?_, fun q g1 g2 => ?_, fun q c2 q2 g1 g2 => ?_, fun c => absurd c h3, fun q hq => ?_, fun q g1 g2 => ?_⟩
    · have hq : q ≠ a := fun c => by subst c; rw [gT_pR] at g2; omega
      rw [oq q hq]; exact e4 q g1 g2
    · have hq : q ≠ a := fun c => by subst c; rw [gT_pR] at g1; omega
      rw [oq q hq]; exact e5 q g1
    · have hq : q ≠ a := fun c => by subst c; rw [gT_pR] at g2; omega
      rw [oq q hq, e6 q g1 g2]
      simp only [gT_pR, gN_pR, gR_pR, hq, false_and, if_false]
    · by_cases hq : q = a
      · subst hq
        have : c2 = ci := by rw [gT_pR] at g1; omega
        subst this
        cases hc.symm.trans g2
        exact e.1.to (fun j _ => oF_pR hk j)
      · rw [oF_ne (s := s) (s' := pR s a k v) (fun _ => rfl) (fun _ => rfl) (fun j => hR q j hq)]
        exact (e7 q c2 q2 g1 g2).kept (oq q hq)
    · have ne : q ≠ a := fun h => by rw [gT_pR, h] at hq; omega
      obtain ⟨c1, c2, c3, c4⟩ := e9 q hq
      exact ⟨c1, c2, c3, fun k => by rw [hR q k ne]; exact c4 k⟩
    · by_cases hq : q = a
      · rw [hq]; exact e.2
      · exact (e10 q g1 g2).kept (oq q hq)

/-! the layout's rows -/
theorem r_ialdL (X : Cx x G cc nL own ret R0) (hph : kP G = 1) (j n : Nat) (ht : ly_T[j]? = some (1, n)) {k : Nat} (hk : i.toNatClampNeg = k) (hin : vp_in i n) (hd : decode cc pc = .ok (.iaload, 1)) (kk : WB x G nL Qf ce sl s (pc + 1) lv (.int (gI s (kB G + j) k) :: rest)) : WB x G nL Qf ce sl s pc lv (.int i :: .ref (kB G + j) :: rest) := by
  subst hk
  exact lay_get hph fun h _ => r_iald X (h.1 _ _ ht).1 (by rw [(h.1 _ _ ht).2]; exact hin) hd kk
theorem r_baldL (X : Cx x G cc nL own ret R0) (hph : kP G = 1) (j n : Nat) (ht : ly_T[j]? = some (2, n)) {k : Nat} (hk : i.toNatClampNeg = k) (hin : vp_in i n) (hd : decode cc pc = .ok (.baload, 1)) (kk : WB x G nL Qf ce sl s (pc + 1) lv (.int (gI s (kB G + j) k) :: rest)) : WB x G nL Qf ce sl s pc lv (.int i :: .ref (kB G + j) :: rest) := by
  subst hk
  exact lay_get hph fun h _ => r_bald X (h.1 _ _ ht).1 (by rw [(h.1 _ _ ht).2]; exact hin) hd kk
theorem r_zaldL (X : Cx x G cc nL own ret R0) (hph : kP G = 1) (j n : Nat) (ht : ly_T[j]? = some (3, n)) {k : Nat} (hk : i.toNatClampNeg = k) (hin : vp_in i n) (hd : decode cc pc = .ok (.baload, 1)) (kk : WB x G nL Qf ce sl s (pc + 1) lv (.int (gI s (kB G + j) k) :: rest)) : WB x G nL Qf ce sl s pc lv (.int i :: .ref (kB G + j) :: rest) := by
  subst hk
  exact lay_get hph fun h _ => r_zald X (h.1 _ _ ht).1 (by rw [(h.1 _ _ ht).2]; exact hin) hd kk
theorem r_laldL (X : Cx x G cc nL own ret R0) (hph : kP G = 1) (j n : Nat) (ht : ly_T[j]? = some (4, n)) {k : Nat} (hk : i.toNatClampNeg = k) (hin : vp_in i n) (hd : decode cc pc = .ok (.laload, 1)) (kk : WB x G nL Qf ce sl s (pc + 1) lv (.long (gL s (kB G + j) k) :: rest)) : WB x G nL Qf ce sl s pc lv (.int i :: .ref (kB G + j) :: rest) := by
  subst hk
  exact lay_get hph fun h _ => r_lald X (h.1 _ _ ht).1 (by rw [(h.1 _ _ ht).2]; exact hin) hd kk
/-- a reference out of an array that the layout does not fill (texts) -/
theorem r_aaldL (X : Cx x G cc nL own ret R0) (hph : kP G = 1) (j t n : Nat) (ht : ly_T[j]? = some (t, n)) (h5 : 5 ≤ t ∧ t ≤ 9) {k : Nat} (hk : i.toNatClampNeg = k) (hin : vp_in i n) (hd : decode cc pc = .ok (.aaload, 1)) (kk : WB x G nL Qf ce sl s (pc + 1) lv (va_rf (gR s (kB G + j) k) :: rest)) : WB x G nL Qf ce sl s pc lv (.int i :: .ref (kB G + j) :: rest) := by
  subst hk
  exact lay_get hph fun h _ => r_aald X (by rw [(h.1 _ _ ht).1]; exact h5.1) (by rw [(h.1 _ _ ht).1]; exact Nat.le_succ_of_le h5.2) (by rw [(h.1 _ _ ht).2]; exact hin) hd kk
/-- a row of a grid of the layout -/
theorem r_aaldG (X : Cx x G cc nL own ret R0) (hph : kP G = 1) (e j n o : Nat) {l : List (Option Nat)} (ht : ly_T[j]? = some (8, n)) (hr : ly_R[e]? = some (j, l)) (hl : ∀ q, q < n → l[q]? = some (some (o + q))) {k : Nat} (hk : i.toNatClampNeg = k) (hin : vp_in i n) (hd : decode cc pc = .ok (.aaload, 1)) (kk : WB x G nL Qf ce sl s (pc + 1) lv (.ref (kB G + (o + k)) :: rest)) : WB x G nL Qf ce sl s pc lv (.int i :: .ref (kB G + j) :: rest) := by
  subst hk
  exact lay_get hph fun h _ => r_aald X (by rw [(h.1 _ _ ht).1]; show 5 ≤ 8; decide) (by rw [(h.1 _ _ ht).1]; show 8 ≤ 10; decide) (by rw [(h.1 _ _ ht).2]; exact hin) hd (by rw [h.2 _ _ hr _ _ (hl _ (lt_in hin))]; exact kk)
theorem r_alenL (X : Cx x G cc nL own ret R0) (hph : kP G = 1) (j t n : Nat) (ht : ly_T[j]? = some (t, n)) (h5 : 1 ≤ t ∧ t ≤ 9) (hd : decode cc pc = .ok (.arraylength, 1)) (kk : WB x G nL Qf ce sl s (pc + 1) lv (.int (nI n) :: rest)) : WB x G nL Qf ce sl s pc lv (.ref (kB G + j) :: rest) := by
  exact lay_get hph fun h _ => r_alen X (by rw [(h.1 _ _ ht).1]; exact h5.1) (by rw [(h.1 _ _ ht).1]; exact Nat.le_succ_of_le h5.2) hd (by rw [(h.1 _ _ ht).2]; exact kk)
theorem r_iastL (X : Cx x G cc nL own ret R0) (hph : kP G = 1) (j n : Nat) {v : Int32} (ht : ly_T[j]? = some (1, n)) {k : Nat} (hk : i.toNatClampNeg = k) (hin : vp_in i n) (hd : decode cc pc = .ok (.iastore, 1)) (kk : ∀ s1 : PS, s1 = pI s (kB G + j) k v → WB x G nL Qf ce sl s1 (pc + 1) lv rest) : WB x G nL Qf ce sl s pc lv (.int v :: .int i :: .ref (kB G + j) :: rest) := by
  subst hk
  exact lay_get hph fun h hb => r_iast X (h.1 _ _ ht).1 (by rw [(h.1 _ _ ht).2]; exact hin) (Nat.le_trans hb (Nat.le_add_right _ _)) hd kk
theorem r_bastL (X : Cx x G cc nL own ret R0) (hph : kP G = 1) (j n : Nat) {v : Int32} (ht : ly_T[j]? = some (2, n)) {k : Nat} (hk : i.toNatClampNeg = k) (hin : vp_in i n) (hd : decode cc pc = .ok (.bastore, 1)) (kk : ∀ s1 : PS, s1 = pI s (kB G + j) k v.toInt8.toInt32 → WB x G nL Qf ce sl s1 (pc + 1) lv rest) : WB x G nL Qf ce sl s pc lv (.int v :: .int i :: .ref (kB G + j) :: rest) := by
  subst hk
  exact lay_get hph fun h hb => r_bast X (h.1 _ _ ht).1 (by rw [(h.1 _ _ ht).2]; exact hin) (Nat.le_trans hb (Nat.le_add_right _ _)) hd kk
theorem r_zastL (X : Cx x G cc nL own ret R0) (hph : kP G = 1) (j n : Nat) {v : Int32} (ht : ly_T[j]? = some (3, n)) (hv : v = 0 ∨ v = 1) {k : Nat} (hk : i.toNatClampNeg = k) (hin : vp_in i n) (hd : decode cc pc = .ok (.bastore, 1)) (kk : ∀ s1 : PS, s1 = pI s (kB G + j) k v → WB x G nL Qf ce sl s1 (pc + 1) lv rest) : WB x G nL Qf ce sl s pc lv (.int v :: .int i :: .ref (kB G + j) :: rest) := by
  subst hk
  exact lay_get hph fun h hb => r_zast X (h.1 _ _ ht).1 hv (by rw [(h.1 _ _ ht).2]; exact hin) (Nat.le_trans hb (Nat.le_add_right _ _)) hd kk
theorem r_lastL (X : Cx x G cc nL own ret R0) (hph : kP G = 1) (j n : Nat) {v : Int64} (ht : ly_T[j]? = some (4, n)) {k : Nat} (hk : i.toNatClampNeg = k) (hin : vp_in i n) (hd : decode cc pc = .ok (.lastore, 1)) (kk : ∀ s1 : PS, s1 = pL s (kB G + j) k v → WB x G nL Qf ce sl s1 (pc + 1) lv rest) : WB x G nL Qf ce sl s pc lv (.long v :: .int i :: .ref (kB G + j) :: rest) := by
  subst hk
  exact lay_get hph fun h hb => r_last X (h.1 _ _ ht).1 (by rw [(h.1 _ _ ht).2]; exact hin) (Nat.le_trans hb (Nat.le_add_right _ _)) hd kk
/-! the ends of a method -/
def QfI (x : CT) (G : GT) (mc ms : Nat) (Q : Int32 → PS → Prop) : State → Prop := MQ (xb x) (va_Qi Q (fun u t => Wr G u t) (kF G)) (xa x) (xs x) mc ms (kF G)
def QfL (x : CT) (G : GT) (mc ms : Nat) (Q : Int64 → PS → Prop) : State → Prop := MQ (xb x) (va_Ql Q (fun u t => Wr G u t) (kF G)) (xa x) (xs x) mc ms (kF G)
def QfV (x : CT) (G : GT) (mc ms : Nat) (Q : PS → Prop) : State → Prop := MQ (xb x) (va_Qv Q (fun u t => Wr G u t) (kF G)) (xa x) (xs x) mc ms (kF G)
def QfA (x : CT) (G : GT) (mc ms : Nat) (Q : Nat → PS → Prop) : State → Prop := MQ (xb x) (va_Qr (fun u : Nat × PS => Q u.1 u.2) (fun u a t => a = u.1 ∧ Wr G u.2 t) (kF G)) (xa x) (xs x) mc ms (kF G)
theorem old_of (X : Cx x G cc nL own ret R0) {H : Heap} {locs : List Loc} (h : va_S (kF G) (xs x).heap H locs) : Old G H := fun q hq => by
  rw [h.2.1 q (Nat.lt_of_lt_of_le hq X.2.2.2.2.2.2.1) (fun c => by have : kS G ≤ q := c; omega)]
  exact X.2.2.2.2.2.2.2 q hq
theorem wr_end (X : Cx x G cc nL own ret R0) {H : Heap} {locs : List Loc} {t : State} (h : Rel G s H) (h2 : va_S (kF G) (xs x).heap H locs) (ht : t.heap = H) (hW : (xs x).WarmedH t.vm) : Wr G s t := ⟨by rw [ht]; exact h, State.WarmedH.trans X.2.2.2.2.2.1 hW, by rw [ht]; exact old_of X h2⟩
theorem r_iret (X : Cx x G cc nL own (some .int) R0) {mc ms : Nat} {Q : Int32 → PS → Prop} {v : Int32} (hQ : Q v s) (hc : ce ≤ mc) (hs : sl ≤ ms) (hd : decode cc pc = .ok (.ireturn, 1)) : WB x G nL (QfI x G mc ms Q) ce sl s pc lv [.int v] := by
  intro H locs ls h1 h2 h3
  refine W.widen (k := mc) (n := ms) hc hs ?_
  exact W.iret X.1.1 X.1.2.1 X.2.2.1 (fun t ht hW => ⟨⟨v, s, rfl, hQ, wr_end X h1 h2 ht hW⟩, h2.F ht⟩) h2.2.2 hd X.2.1
theorem r_zret (X : Cx x G cc nL own (some .boolean) R0) {mc ms : Nat} {Q : Int32 → PS → Prop} {v : Int32} (hv : v = 0 ∨ v = 1) (hQ : Q v s) (hc : ce ≤ mc) (hs : sl ≤ ms) (hd : decode cc pc = .ok (.ireturn, 1)) : WB x G nL (QfI x G mc ms (fun r u => (r = 0 ∨ r = 1) ∧ Q r u)) ce sl s pc lv [.int v] := by
  intro H locs ls h1 h2 h3
  refine W.widen (k := mc) (n := ms) hc hs ?_
  exact W.zret X.1.1 X.1.2.1 X.2.2.1 (by rcases hv with rfl | rfl <;> rfl) (fun t ht hW => ⟨⟨v, s, rfl, ⟨hv, hQ⟩, wr_end X h1 h2 ht hW⟩, h2.F ht⟩) h2.2.2 hd X.2.1
theorem r_lret (X : Cx x G cc nL own (some .long) R0) {mc ms : Nat} {Q : Int64 → PS → Prop} {v : Int64} (hQ : Q v s) (hc : ce ≤ mc) (hs : sl ≤ ms) (hd : decode cc pc = .ok (.lreturn, 1)) : WB x G nL (QfL x G mc ms Q) ce sl s pc lv [.long v] := by
  intro H locs ls h1 h2 h3
  refine W.widen (k := mc) (n := ms) hc hs ?_
  exact W.lret X.1.1 X.1.2.1 X.2.2.1 (fun t ht hW => ⟨⟨v, s, rfl, hQ, wr_end X h1 h2 ht hW⟩, h2.F ht⟩) h2.2.2 hd X.2.1
theorem r_vret (X : Cx x G cc nL own none R0) {mc ms : Nat} {Q : PS → Prop} (hQ : Q s) (hc : ce ≤ mc) (hs : sl ≤ ms) (hd : decode cc pc = .ok (.return_, 1)) : WB x G nL (QfV x G mc ms Q) ce sl s pc lv [] := by
  intro H locs ls h1 h2 h3
  refine W.widen (k := mc) (n := ms) hc hs ?_
  exact W.vret X.1.1 X.1.2.1 X.2.2.1 (fun t ht hW => ⟨⟨s, rfl, hQ, wr_end X h1 h2 ht hW⟩, h2.F ht⟩) h2.2.2 hd X.2.1
theorem r_aret {rt : FieldType} (X : Cx x G cc nL own (some rt) R0) (hrt : (∃ n, rt = .object n) ∨ ∃ t, rt = .array t) {mc ms : Nat} {Q : Nat → PS → Prop} (hQ : Q a s) (hc : ce ≤ mc) (hs : sl ≤ ms) (hd : decode cc pc = .ok (.areturn, 1)) : WB x G nL (QfA x G mc ms Q) ce sl s pc lv [.ref a] := by
  intro H locs ls h1 h2 h3
  refine W.widen (k := mc) (n := ms) hc hs ?_
  exact W.aret X.1.1 X.1.2.1 X.2.2.1 hrt (Or.inr ⟨a, rfl⟩) (fun t ht hW => ⟨⟨(a, s), a, rfl, hQ, rfl, wr_end X h1 h2 ht hW⟩, h2.F ht⟩) h2.2.2 hd X.2.1
/-! the start of a method -/
theorem cx_of {p : Program} {l : Launch} {e : Env} {s0 : State} {m : MethodId} {args : Array Value} {below : List Frame} {meth : Method} {c : Code} {s₁ : State} {y : MethodName} {rm : Room} (g : GK G) (B : BodyLoose p l y (headSpec (ws_ y cc nL ret) rm) cc nL ret e s0 m args below meth c s₁) (hml : c.maxLocals = nL) (hy : y.cls = own) (hw : Wr G s s0) : Cx (p, l, e, (headSpec (ws_ y cc nL ret) rm).room, s0, m, args, below, meth, c) G cc nL own ret rm := by
  have hts := atoms_spec (ws := ws_ y cc nL ret) B.pre
  subst hy
  exact ⟨⟨B.exec, B.bytes, hml, findClass_of_methodNamed B.named, fun w h => hts w (List.mem_cons_of_mem _ h)⟩, B.notSynchronized, B.returns, rfl, g, hw.2.1, hw.1.2.1, hw.2.2⟩
theorem wb_of {p : Program} {l : Launch} {e : Env} {R : Room} {s0 : State} {m : MethodId} {args : Array Value} {below : List Frame} {meth : Method} {c : Code} (vs : List Value) (h : (lg_sl vs).length ≤ nL) (hw : Rel G s s0.heap) (hlv : lv_args 0 vs = lv) (kk : WB (p, l, e, R, s0, m, args, below, meth, c) G nL Qf ce sl s 0 lv []) : W p l e R s0 m args below meth c s0.heap [] ce sl Qf (entryFrame m vs.toArray nL) := by
  have hl := lv_entry vs (n := nL) h
  rw [lg_entry_eq]
  rw [hlv] at hl
  exact kk _ _ _ hw va_S.rf hl
/-! calls -/
theorem wr_blind {As : List Value} : FrameBlind (va_Pc As (Wr G s)) := fun a U g mk h => ⟨h.1, h.2.1, h.2.2.1, h.2.2.2⟩
theorem wr_pre (X : Cx x G cc nL own ret R0) {H : Heap} (h : Rel G s H) (ho : Old G H) (As : List Value) : ∀ U : State, U.heap = H → (xs x).WarmedH U.vm → va_Pc As (Wr G s) As.toArray U := fun U h1 h2 => ⟨rfl, by rw [h1]; exact h, State.WarmedH.trans X.2.2.2.2.2.1 h2, by rw [h1]; exact ho⟩
theorem rm_cats {l : List Value} (h : l.length ≤ 4) : (l.map fun v => v.category).sum ≤ 8 := by
  have h1 : ∀ l : List Value, (l.map fun v => v.category).sum ≤ 2 * l.length := by
    intro l
    induction l with
    | nil => simp
    | cons v l ih =>
      simp only [List.map_cons, List.sum_cons, List.length_cons]
      rcases lv_cat v with h | h <;> omega
  have := h1 l
  omega
section CA
variable {y : MethodName} {bytes : ByteArray} {maxL mc ms n index : Nat} {rt : Option FieldType} {ws : List Cond} {rm : Room} {As : List Value} {ci : Nat} {b : Nat} {Qa : Array Value → State → Outcome → State → Prop} {C : String} {q : vw_C}
/-- what a call through an object leaves to be shown -/
theorem r_runV (X : Cx x G cc nL own ret R0) (hM : Met (xl x) y ws rm (va_Pc (.ref b :: As) (Wr G s)) Qa mc ms (kF G)) (cw : CallW R0 (xs x) (xa x) own C index y bytes maxL rt ws rm mc ms n) (hT : gT s b = 100 + ci) (hc : clT[ci]? = some q) (hC : q.1 = C) (hn : As.length = n) (hst : st = As.reverse ++ .ref b :: rest) (hr : (rest.map fun v => v.category).sum ≤ 8) (hd : decode cc pc = .ok (.invokevirtual index, 3)) (hf : ce + mc ≤ R0.cells ∧ sl + ms ≤ R0.slots) {H : Heap} {locs : List Loc} {ls : Array Slot} (h1 : Rel G s H) (ho : Old G H) (h3 : lv_has ls nL lv) :
    va_Run (xp x) (xl x) (xe x) (xR x) (xs x) (xm x) (xa x) (xb x) (xM x) (xc x) H locs ce sl mc ms (F0 (xm x) pc ls st) rest (Qa (Value.ref b :: As).toArray) (kF G) := by
  obtain ⟨cell, q1, q2, q3, q4⟩ := h1.2.2.2.2.2.2.1 b ci _ hT hc
  obtain ⟨hS, hfc, kC, hkC, hkind⟩ := (cx_K X).1 ci _ hc
  have hR := X.2.2.2.1
  refine va_runV (C := C) X.1 hM (by rw [hR]; exact cw) ⟨wr_blind, ⟨cell, q1, by rw [q3]; rfl, by rw [← hC, q2]; exact hfc⟩, wr_pre X h1 ho _⟩ rfl hn h3.1 hst (lv_room hr) hd (by rw [hR]; exact hf)
theorem r_runVN {host : String} (X : Cx x G cc nL own ret R0) (hM : Met (xl x) y ws rm (va_Pc (.ref b :: As) (Wr G s)) Qa mc ms (kF G)) (cw : va_CN R0 (xs x) (xa x) own index y host bytes maxL rt ws rm mc ms n) (hin : (Cond.instanceMethod y).before (xa x) (xs x) = true) (hsel : (Cond.selects C y y).before (xa x) (xs x) = true) (hT : gT s b = 100 + ci) (hc : clT[ci]? = some q) (hC : q.1 = C) (hn : As.length = n) (hst : st = As.reverse ++ .ref b :: rest) (hr : (rest.map fun v => v.category).sum ≤ 8) (hd : decode cc pc = .ok (.invokevirtual index, 3)) (hf : ce + mc ≤ R0.cells ∧ sl + ms ≤ R0.slots) {H : Heap} {locs : List Loc} {ls : Array Slot} (h1 : Rel G s H) (ho : Old G H) (h3 : lv_has ls nL lv) :
    va_Run (xp x) (xl x) (xe x) (xR x) (xs x) (xm x) (xa x) (xb x) (xM x) (xc x) H locs ce sl mc ms (F0 (xm x) pc ls st) rest (Qa (Value.ref b :: As).toArray) (kF G) := by
  obtain ⟨cell, q1, q2, q3, q4⟩ := h1.2.2.2.2.2.2.1 b ci _ hT hc
  obtain ⟨hS, hfc, kC, hkC, hkind⟩ := (cx_K X).1 ci _ hc
  have hR := X.2.2.2.1
  refine va_runVN (C := C) X.1 hM (by rw [hR]; exact ⟨cw, hin, hsel⟩) ⟨wr_blind, ⟨cell, q1, by rw [q3]; rfl, by rw [← hC, q2]; exact hfc⟩, wr_pre X h1 ho _⟩ rfl hn h3.1 hst (lv_room hr) hd (by rw [hR]; exact hf)
theorem r_runSN {host : String} (X : Cx x G cc nL own ret R0) (hM : Met (xl x) y ws rm (va_Pc As (Wr G s)) Qa mc ms (kF G)) (cw : va_CN R0 (xs x) (xa x) own index y host bytes maxL rt ws rm mc ms n) (hin : (Cond.static y).before (xa x) (xs x) = true) (hn : As.length = n) (hst : st = As.reverse ++ rest) (hr : (rest.map fun v => v.category).sum ≤ 8) (hd : decode cc pc = .ok (.invokestatic index, 3)) (hf : ce + mc ≤ R0.cells ∧ sl + ms ≤ R0.slots) {H : Heap} {locs : List Loc} {ls : Array Slot} (h1 : Rel G s H) (ho : Old G H) (h3 : lv_has ls nL lv) :
    va_Run (xp x) (xl x) (xe x) (xR x) (xs x) (xm x) (xa x) (xb x) (xM x) (xc x) H locs ce sl mc ms (F0 (xm x) pc ls st) rest (Qa As.toArray) (kF G) := by
  have hR := X.2.2.2.1
  exact va_runSN X.1 hM (by rw [hR]; exact ⟨cw, hin, trivial⟩) ⟨wr_blind, wr_pre X h1 ho _⟩ rfl hn h3.1 hst (lv_room hr) hd (by rw [hR]; exact hf)
theorem r_runS (X : Cx x G cc nL own ret R0) (hM : Met (xl x) y ws rm (va_Pc As (Wr G s)) Qa mc ms (kF G)) (cw : CallB R0 (xs x) (xa x) own index y bytes maxL rt ws rm mc ms n ∧ (Cond.static y).before (xa x) (xs x) = true) (hn : As.length = n) (hst : st = As.reverse ++ rest) (hr : (rest.map fun v => v.category).sum ≤ 8) (hd : decode cc pc = .ok (.invokestatic index, 3)) (hf : ce + mc ≤ R0.cells ∧ sl + ms ≤ R0.slots) {H : Heap} {locs : List Loc} {ls : Array Slot} (h1 : Rel G s H) (ho : Old G H) (h3 : lv_has ls nL lv) :
    va_Run (xp x) (xl x) (xe x) (xR x) (xs x) (xm x) (xa x) (xb x) (xM x) (xc x) H locs ce sl mc ms (F0 (xm x) pc ls st) rest (Qa As.toArray) (kF G) := by
  have hR := X.2.2.2.1
  exact va_runS X.1 hM (by rw [hR]; exact cw) ⟨wr_blind, wr_pre X h1 ho _⟩ rfl hn h3.1 hst (lv_room hr) hd (by rw [hR]; exact hf)
theorem r_runI (X : Cx x G cc nL own ret R0) (hM : Met (xl x) y ws rm (va_Pc (.ref b :: As) (Wr G s)) Qa mc ms (kF G)) (cw : CallB R0 (xs x) (xa x) own index y bytes maxL none ws rm mc ms n ∧ y.name = "<init>" ∧ (Cond.instanceMethod y).before (xa x) (xs x) = true) (hn : As.length = n) (hst : st = As.reverse ++ .ref b :: rest) (hr : (rest.map fun v => v.category).sum ≤ 8) (hd : decode cc pc = .ok (.invokespecial index, 3)) (hf : ce + mc ≤ R0.cells ∧ sl + ms ≤ R0.slots) {H : Heap} {locs : List Loc} {ls : Array Slot} (h1 : Rel G s H) (ho : Old G H) (h3 : lv_has ls nL lv) :
    va_Run (xp x) (xl x) (xe x) (xR x) (xs x) (xm x) (xa x) (xb x) (xM x) (xc x) H locs ce sl mc ms (F0 (xm x) pc ls st) rest (Qa (Value.ref b :: As).toArray) (kF G) := by
  have hR := X.2.2.2.1
  exact va_runI X.1 hM (by rw [hR]; exact cw) ⟨wr_blind, wr_pre X h1 ho _⟩ rfl hn h3.1 hst (lv_room hr) hd (by rw [hR]; exact hf)
/-- what a call's run gives: the rest goes on -/
def RunOk (x : CT) (G : GT) (nL ce sl mc ms : Nat) (s : PS) (pc : Nat) (lv : List (Nat × Value)) (st rest : List Value) (Qa : State → Outcome → State → Prop) : Prop :=
  ∀ (H : Heap) (locs : List Loc) (ls : Array Slot), Rel G s H → Old G H → lv_has ls nL lv → va_Run (xp x) (xl x) (xe x) (xR x) (xs x) (xm x) (xa x) (xb x) (xM x) (xc x) H locs ce sl mc ms (F0 (xm x) pc ls st) rest Qa (kF G)
theorem r_ci (X : Cx x G cc nL own ret R0) {ar : Array Value} {Q : Int32 → PS → Prop} (hr : RunOk x G nL ce sl mc ms s pc lv st rest (va_Qi Q (fun u t => Wr G u t) (kF G) ar)) (kk : ∀ (r : Int32) (u : PS), Q r u → WB x G nL Qf (ce + mc) (sl + ms) u (pc + 3) lv (.int r :: rest)) : WB x G nL Qf ce sl s pc lv st := by
  intro H locs ls h1 h2 h3
  refine va_calli (hr H locs ls h1 (old_of X h2) h3) h2 (fun q _ h => h) (fun q h => h) (fun r u t H1 locs1 ht hvm hp hB hz hk hS => ?_)
  exact kk r u hp H1 locs1 ls (by rw [← ht]; exact hB.1) hS h3
theorem r_cl (X : Cx x G cc nL own ret R0) {ar : Array Value} {Q : Int64 → PS → Prop} (hr : RunOk x G nL ce sl mc ms s pc lv st rest (va_Ql Q (fun u t => Wr G u t) (kF G) ar)) (kk : ∀ (r : Int64) (u : PS), Q r u → WB x G nL Qf (ce + mc) (sl + ms) u (pc + 3) lv (.long r :: rest)) : WB x G nL Qf ce sl s pc lv st := by
  intro H locs ls h1 h2 h3
  refine va_calll (hr H locs ls h1 (old_of X h2) h3) h2 (fun q _ h => h) (fun q h => h) (fun r u t H1 locs1 ht hvm hp hB hz hk hS => ?_)
  exact kk r u hp H1 locs1 ls (by rw [← ht]; exact hB.1) hS h3
theorem r_cv (X : Cx x G cc nL own ret R0) {ar : Array Value} {Q : PS → Prop} (hr : RunOk x G nL ce sl mc ms s pc lv st rest (va_Qv Q (fun u t => Wr G u t) (kF G) ar)) (kk : ∀ (u : PS), Q u → WB x G nL Qf (ce + mc) (sl + ms) u (pc + 3) lv rest) : WB x G nL Qf ce sl s pc lv st := by
  intro H locs ls h1 h2 h3
  refine va_callv (hr H locs ls h1 (old_of X h2) h3) h2 (fun q _ h => h) (fun q h => h) (fun u t H1 locs1 ht hvm hp hB hz hk hS => ?_)
  exact kk u hp H1 locs1 ls (by rw [← ht]; exact hB.1) hS h3
theorem r_ca (X : Cx x G cc nL own ret R0) {ar : Array Value} {Q : Nat → PS → Prop} (hr : RunOk x G nL ce sl mc ms s pc lv st rest (va_Qr (fun u : Nat × PS => Q u.1 u.2) (fun u a t => a = u.1 ∧ Wr G u.2 t) (kF G) ar)) (kk : ∀ (r : Nat) (u : PS), Q r u → WB x G nL Qf (ce + mc) (sl + ms) u (pc + 3) lv (.ref r :: rest)) : WB x G nL Qf ce sl s pc lv st := by
  intro H locs ls h1 h2 h3
  refine va_callr (hr H locs ls h1 (old_of X h2) h3) h2 (fun q _ h => h) (fun q h => h) (fun u a t H1 locs1 ht hvm hp hB hz hk hS => ?_)
  obtain ⟨rfl, hB⟩ := hB
  exact kk u.1 u.2 hp H1 locs1 ls (by rw [← ht]; exact hB.1) hS h3
theorem r_okV (X : Cx x G cc nL own ret R0) (hM : Met (xl x) y ws rm (va_Pc (.ref b :: As) (Wr G s)) Qa mc ms (kF G)) (cw : CallW R0 (xs x) (xa x) own C index y bytes maxL rt ws rm mc ms n) (ci : Nat) (hT : gT s b = 100 + ci) (hc : clT[ci]? = some q) (hC : q.1 = C) (hn : As.length = n) (hst : st = As.reverse ++ .ref b :: rest) (hr : (rest.map fun v => v.category).sum ≤ 8) (hd : decode cc pc = .ok (.invokevirtual index, 3)) (hf : ce + mc ≤ R0.cells ∧ sl + ms ≤ R0.slots) : RunOk x G nL ce sl mc ms s pc lv st rest (Qa (Value.ref b :: As).toArray) := fun H locs ls h1 ho h3 => r_runV X hM cw hT hc hC hn hst hr hd hf h1 ho h3
theorem r_okVL (X : Cx x G cc nL own ret R0) (hM : Met (xl x) y ws rm (va_Pc (.ref (kB G + b) :: As) (Wr G s)) Qa mc ms (kF G)) (cw : CallW R0 (xs x) (xa x) own C index y bytes maxL rt ws rm mc ms n) (hph : kP G = 1) (ci : Nat) (ht : ly_T[b]? = some (100 + ci, 0)) (hc : clT[ci]? = some q) (hC : q.1 = C) (hn : As.length = n) (hst : st = As.reverse ++ .ref (kB G + b) :: rest) (hr : (rest.map fun v => v.category).sum ≤ 8) (hd : decode cc pc = .ok (.invokevirtual index, 3)) (hf : ce + mc ≤ R0.cells ∧ sl + ms ≤ R0.slots) : RunOk x G nL ce sl mc ms s pc lv st rest (Qa (Value.ref (kB G + b) :: As).toArray) := fun H locs ls h1 ho h3 => r_runV X hM cw ((h1.2.2.2.2.2.2.2.1 hph).1.1 _ _ ht).1 hc hC hn hst hr hd hf h1 ho h3
theorem r_okVN {host : String} (X : Cx x G cc nL own ret R0) (hM : Met (xl x) y ws rm (va_Pc (.ref b :: As) (Wr G s)) Qa mc ms (kF G)) (cw : va_CN R0 (xs x) (xa x) own index y host bytes maxL rt ws rm mc ms n ∧ (Cond.instanceMethod y).before (xa x) (xs x) = true ∧ (Cond.selects C y y).before (xa x) (xs x) = true) (ci : Nat) (hT : gT s b = 100 + ci) (hc : clT[ci]? = some q) (hC : q.1 = C) (hn : As.length = n) (hst : st = As.reverse ++ .ref b :: rest) (hr : (rest.map fun v => v.category).sum ≤ 8) (hd : decode cc pc = .ok (.invokevirtual index, 3)) (hf : ce + mc ≤ R0.cells ∧ sl + ms ≤ R0.slots) : RunOk x G nL ce sl mc ms s pc lv st rest (Qa (Value.ref b :: As).toArray) := fun H locs ls h1 ho h3 => r_runVN X hM cw.1 cw.2.1 cw.2.2 hT hc hC hn hst hr hd hf h1 ho h3
theorem r_okVNL {host : String} (X : Cx x G cc nL own ret R0) (hM : Met (xl x) y ws rm (va_Pc (.ref (kB G + b) :: As) (Wr G s)) Qa mc ms (kF G)) (cw : va_CN R0 (xs x) (xa x) own index y host bytes maxL rt ws rm mc ms n ∧ (Cond.instanceMethod y).before (xa x) (xs x) = true ∧ (Cond.selects C y y).before (xa x) (xs x) = true) (hph : kP G = 1) (ci : Nat) (ht : ly_T[b]? = some (100 + ci, 0)) (hc : clT[ci]? = some q) (hC : q.1 = C) (hn : As.length = n) (hst : st = As.reverse ++ .ref (kB G + b) :: rest) (hr : (rest.map fun v => v.category).sum ≤ 8) (hd : decode cc pc = .ok (.invokevirtual index, 3)) (hf : ce + mc ≤ R0.cells ∧ sl + ms ≤ R0.slots) : RunOk x G nL ce sl mc ms s pc lv st rest (Qa (Value.ref (kB G + b) :: As).toArray) := fun H locs ls h1 ho h3 => r_runVN X hM cw.1 cw.2.1 cw.2.2 ((h1.2.2.2.2.2.2.2.1 hph).1.1 _ _ ht).1 hc hC hn hst hr hd hf h1 ho h3
theorem r_okS (X : Cx x G cc nL own ret R0) (hM : Met (xl x) y ws rm (va_Pc As (Wr G s)) Qa mc ms (kF G)) (cw : CallB R0 (xs x) (xa x) own index y bytes maxL rt ws rm mc ms n ∧ (Cond.static y).before (xa x) (xs x) = true) (hn : As.length = n) (hst : st = As.reverse ++ rest) (hr : (rest.map fun v => v.category).sum ≤ 8) (hd : decode cc pc = .ok (.invokestatic index, 3)) (hf : ce + mc ≤ R0.cells ∧ sl + ms ≤ R0.slots) : RunOk x G nL ce sl mc ms s pc lv st rest (Qa As.toArray) := fun H locs ls h1 ho h3 => r_runS X hM cw hn hst hr hd hf h1 ho h3
theorem r_okSN {host : String} (X : Cx x G cc nL own ret R0) (hM : Met (xl x) y ws rm (va_Pc As (Wr G s)) Qa mc ms (kF G)) (cw : va_CN R0 (xs x) (xa x) own index y host bytes maxL rt ws rm mc ms n ∧ (Cond.static y).before (xa x) (xs x) = true) (hn : As.length = n) (hst : st = As.reverse ++ rest) (hr : (rest.map fun v => v.category).sum ≤ 8) (hd : decode cc pc = .ok (.invokestatic index, 3)) (hf : ce + mc ≤ R0.cells ∧ sl + ms ≤ R0.slots) : RunOk x G nL ce sl mc ms s pc lv st rest (Qa As.toArray) := fun H locs ls h1 ho h3 => r_runSN X hM cw.1 cw.2 hn hst hr hd hf h1 ho h3
theorem r_okI (X : Cx x G cc nL own ret R0) (hM : Met (xl x) y ws rm (va_Pc (.ref b :: As) (Wr G s)) Qa mc ms (kF G)) (cw : CallB R0 (xs x) (xa x) own index y bytes maxL none ws rm mc ms n ∧ y.name = "<init>" ∧ (Cond.instanceMethod y).before (xa x) (xs x) = true) (hn : As.length = n) (hst : st = As.reverse ++ .ref b :: rest) (hr : (rest.map fun v => v.category).sum ≤ 8) (hd : decode cc pc = .ok (.invokespecial index, 3)) (hf : ce + mc ≤ R0.cells ∧ sl + ms ≤ R0.slots) : RunOk x G nL ce sl mc ms s pc lv st rest (Qa (Value.ref b :: As).toArray) := fun H locs ls h1 ho h3 => r_runI X hM cw hn hst hr hd hf h1 ho h3
end CA
end RM
