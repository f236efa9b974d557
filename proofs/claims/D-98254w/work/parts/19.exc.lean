/-! PART 19: exceptions over the memory -/
set_option maxRecDepth 100000
/-- what a throwing method leaves: a Wrong at q, its world -/
def XW (G : GT) (E : Nat → PS → Prop) : Addr → String → State → State → Prop := fun q _ st t => ∃ u : PS, (gT u q = 105 ∧ E q u) ∧ Wr G u t ∧ va_F (kF G) st t
def Qx (x : CT) (G : GT) (mc ms : Nat) (Qa : Array Value → State → Outcome → State → Prop) (E : Nat → PS → Prop) : State → Prop := vx_MQ (xb x) Qa (XW G E) (xa x) (xs x) mc ms (kF G)
def WX (x : CT) (G : GT) (nL : Nat) (Qf : State → Prop) (ce sl : Nat) (s : PS) (pc : Nat) (lv : List (Nat × Value)) (st : List Value) (q : Nat) : Prop :=
  ∀ (H : Heap) (locs : List Loc) (ls : Array Slot), Rel G s H → va_S (kF G) (xs x).heap H locs → lv_has ls nL lv → vx_W (xp x) (xl x) (xe x) (xR x) (xs x) (xm x) (xa x) (xb x) (xM x) (xc x) H locs ce sl Qf (F0 (xm x) pc ls st) q
def RunX (x : CT) (G : GT) (nL ce sl mc ms : Nat) (s : PS) (pc : Nat) (lv : List (Nat × Value)) (st rest : List Value) (Qa : State → Outcome → State → Prop) (E : Nat → PS → Prop) : Prop :=
  ∀ (H : Heap) (locs : List Loc) (ls : Array Slot), Rel G s H → Old G H → lv_has ls nL lv → vx_Run (xp x) (xl x) (xe x) (xR x) (xs x) (xm x) (xa x) (xb x) (xM x) (xc x) H locs ce sl mc ms (F0 (xm x) pc ls st) rest Qa (XW G E) (kF G)
section XX
variable {x : CT} {G : GT} {cc : ByteArray} {nL : Nat} {own : String} {ret : Option FieldType} {R0 : Room} {Qf : State → Prop} {ce sl mc ms : Nat} {s : PS} {pc : Nat} {lv : List (Nat × Value)} {st rest : List Value} {q : Nat} {Qa : Array Value → State → Outcome → State → Prop} {E : Nat → PS → Prop}
theorem r_thr (k : WB x G nL (MQ (xb x) Qa (xa x) (xs x) mc ms (kF G)) ce sl s pc lv st) : WB x G nL (Qx x G mc ms Qa E) ce sl s pc lv st := fun H locs ls h1 h2 h3 => vx_ret (k H locs ls h1 h2 h3)
theorem r_athrow (X : Cx x G cc nL own ret R0) (hd : decode cc pc = .ok (.athrow, 1)) (k : WX x G nL Qf ce sl s pc lv rest q) : WB x G nL Qf ce sl s pc lv (.ref q :: rest) := fun H locs ls h1 h2 h3 => vx_athrow X.1.1 X.1.2.1 hd (k H locs ls h1 h2 h3)
theorem r_out (X : Cx x G cc nL own ret R0) (hnt : ∀ z ∈ (xc x).exceptionTable.toList, False) (hT : gT s q = 105) (hE : E q s) (hc : ce ≤ mc) (hs : sl ≤ ms) : WX x G nL (Qx x G mc ms Qa E) ce sl s pc lv st q := by
  intro H locs ls h1 h2 h3
  obtain ⟨cell, q1, q2, q3, q4⟩ := h1.2.2.2.2.2.2.1 q 5 _ hT rfl
  obtain ⟨hS, hfc, kC, hkC, hkind⟩ := (cx_K X).1 5 _ rfl
  exact vx_out (E := RX5) (fun z hz => (hnt z hz).elim) X.2.1 q1 q3 (by rw [q2]; exact hfc) (fun t ht hW => ⟨s, ⟨hT, hE⟩, wr_end X h1 h2 ht hW, h2.F ht⟩) h2.2.2 hc hs
theorem r_xi (X : Cx x G cc nL own ret R0) {ar : Array Value} {Q : Int32 → PS → Prop} (hr : RunX x G nL ce sl mc ms s pc lv st rest (va_Qi Q (fun u t => Wr G u t) (kF G) ar) E) (kx : ∀ (q : Nat) (u : PS), gT u q = 105 → E q u → WX x G nL Qf (ce + mc) (sl + ms) u pc lv rest q) (kk : ∀ (r : Int32) (u : PS), Q r u → WB x G nL Qf (ce + mc) (sl + ms) u (pc + 3) lv (.int r :: rest)) : WB x G nL Qf ce sl s pc lv st := by
  intro H locs ls h1 h2 h3 T hT Y
  rcases hr H locs ls h1 (old_of X h2) h3 T hT Y with ⟨v, st₀, t, T', L, h0, X', hL, e1, e2, ⟨⟨r, u, hv, hp, hb⟩, hF⟩, stp⟩ | ⟨q, st₀, t, T', L, E', ce', h0, X', hL, e1, e2, ⟨u, ⟨hp, hb⟩, hW, hF⟩, hce, hcv, hcl, stp⟩
  · cases hv
    obtain ⟨k1, k2, k3⟩ := vx_keep h0 e1 h2 (fun q _ h => h) (fun q h => h) hL hF
    obtain ⟨t2, a1, b1⟩ := kk r u hp T'.heap (locs ++ L) ls (by rw [e1]; exact hb.1) k3 h3 T' rfl X'
    exact ⟨t2, stp t2 a1, b1⟩
  · obtain ⟨k1, k2, k3⟩ := vx_keep h0 e1 h2 (fun q _ h => h) (fun q h => h) hL hF
    obtain ⟨t2, a1, b1⟩ := kx q u hp hb T'.heap (locs ++ L) ls (by rw [e1]; exact hW.1) k3 h3 T' rfl X'
    exact ⟨t2, stp.trans a1, b1⟩
theorem r_xv (X : Cx x G cc nL own ret R0) {ar : Array Value} {Q : PS → Prop} (hr : RunX x G nL ce sl mc ms s pc lv st rest (va_Qv Q (fun u t => Wr G u t) (kF G) ar) E) (kx : ∀ (q : Nat) (u : PS), gT u q = 105 → E q u → WX x G nL Qf (ce + mc) (sl + ms) u pc lv rest q) (kk : ∀ (u : PS), Q u → WB x G nL Qf (ce + mc) (sl + ms) u (pc + 3) lv rest) : WB x G nL Qf ce sl s pc lv st := by
  intro H locs ls h1 h2 h3 T hT Y
  rcases hr H locs ls h1 (old_of X h2) h3 T hT Y with ⟨v, st₀, t, T', L, h0, X', hL, e1, e2, ⟨⟨u, hv, hp, hb⟩, hF⟩, stp⟩ | ⟨q, st₀, t, T', L, E', ce', h0, X', hL, e1, e2, ⟨u, ⟨hp, hb⟩, hW, hF⟩, hce, hcv, hcl, stp⟩
  · cases hv
    obtain ⟨k1, k2, k3⟩ := vx_keep h0 e1 h2 (fun q _ h => h) (fun q h => h) hL hF
    obtain ⟨t2, a1, b1⟩ := kk u hp T'.heap (locs ++ L) ls (by rw [e1]; exact hb.1) k3 h3 T' rfl X'
    exact ⟨t2, stp t2 a1, b1⟩
  · obtain ⟨k1, k2, k3⟩ := vx_keep h0 e1 h2 (fun q _ h => h) (fun q h => h) hL hF
    obtain ⟨t2, a1, b1⟩ := kx q u hp hb T'.heap (locs ++ L) ls (by rw [e1]; exact hW.1) k3 h3 T' rfl X'
    exact ⟨t2, stp.trans a1, b1⟩
theorem r_xa (X : Cx x G cc nL own ret R0) {ar : Array Value} {Q : Nat → PS → Prop} (hr : RunX x G nL ce sl mc ms s pc lv st rest (va_Qr (fun u : Nat × PS => Q u.1 u.2) (fun u a t => a = u.1 ∧ Wr G u.2 t) (kF G) ar) E) (kx : ∀ (q : Nat) (u : PS), gT u q = 105 → E q u → WX x G nL Qf (ce + mc) (sl + ms) u pc lv rest q) (kk : ∀ (r : Nat) (u : PS), Q r u → WB x G nL Qf (ce + mc) (sl + ms) u (pc + 3) lv (.ref r :: rest)) : WB x G nL Qf ce sl s pc lv st := by
  intro H locs ls h1 h2 h3 T hT Y
  rcases hr H locs ls h1 (old_of X h2) h3 T hT Y with ⟨v, st₀, t, T', L, h0, X', hL, e1, e2, ⟨⟨u, a, hv, hp, hae, hb⟩, hF⟩, stp⟩ | ⟨q, st₀, t, T', L, E', ce', h0, X', hL, e1, e2, ⟨u, ⟨hp, hb⟩, hW, hF⟩, hce, hcv, hcl, stp⟩
  · cases hv
    subst hae
    obtain ⟨k1, k2, k3⟩ := vx_keep h0 e1 h2 (fun q _ h => h) (fun q h => h) hL hF
    obtain ⟨t2, a1, b1⟩ := kk u.1 u.2 hp T'.heap (locs ++ L) ls (by rw [e1]; exact hb.1) k3 h3 T' rfl X'
    exact ⟨t2, stp t2 a1, b1⟩
  · obtain ⟨k1, k2, k3⟩ := vx_keep h0 e1 h2 (fun q _ h => h) (fun q h => h) hL hF
    obtain ⟨t2, a1, b1⟩ := kx q u hp hb T'.heap (locs ++ L) ls (by rw [e1]; exact hW.1) k3 h3 T' rfl X'
    exact ⟨t2, stp.trans a1, b1⟩
section CX
variable {y : MethodName} {bytes : ByteArray} {maxL n index : Nat} {rt : Option FieldType} {ws : List Cond} {rm : Room} {As : List Value} {b : Nat} {C : String} {qc : vw_C} {hh : List (Nat × Nat × Nat × Nat)}
theorem r_okVX (X : Cx x G cc nL own ret R0) (hM : vx_Met (xl x) y ws rm (va_Pc (.ref b :: As) (Wr G s)) Qa (XW G E) mc ms (kF G)) (cw : CallW R0 (xs x) (xa x) own C index y bytes maxL rt ws rm mc ms n) (ci : Nat) (hT : gT s b = 100 + ci) (hc : clT[ci]? = some qc) (hC : qc.1 = C) (hn : As.length = n) (hst : st = As.reverse ++ .ref b :: rest) (hr : (rest.map fun v => v.category).sum ≤ 8) (hd : decode cc pc = .ok (.invokevirtual index, 3)) (hf : ce + mc ≤ R0.cells ∧ sl + ms ≤ R0.slots) : RunX x G nL ce sl mc ms s pc lv st rest (Qa (Value.ref b :: As).toArray) E := by
  intro H locs ls h1 ho h3
  obtain ⟨cell, q1, q2, q3, q4⟩ := h1.2.2.2.2.2.2.1 b ci _ hT hc
  obtain ⟨hS, hfc, kC, hkC, hkind⟩ := (cx_K X).1 ci _ hc
  have hR := X.2.2.2.1
  exact vx_runV (C := C) X.1 hM (by rw [hR]; exact cw) ⟨wr_blind, ⟨cell, q1, by rw [q3]; rfl, by rw [← hC, q2]; exact hfc⟩, wr_pre X h1 ho _⟩ rfl hn h3.1 hst (lv_room hr) hd (by rw [hR]; exact hf)
/-- a method with a table of its own, called through an object of the layout -/
theorem r_okWL (X : Cx x G cc nL own ret R0) (hM : Met (xl x) y ws rm (va_Pc (.ref (kB G + b) :: As) (Wr G s)) Qa mc ms (kF G)) (cw : vx_CVW R0 (xs x) (xa x) own C index y bytes maxL rt hh ws rm mc ms n) (hph : kP G = 1) (ci : Nat) (ht : ly_T[b]? = some (100 + ci, 0)) (hc : clT[ci]? = some qc) (hC : qc.1 = C) (hn : As.length = n) (hst : st = As.reverse ++ .ref (kB G + b) :: rest) (hr : (rest.map fun v => v.category).sum ≤ 8) (hd : decode cc pc = .ok (.invokevirtual index, 3)) (hf : ce + mc ≤ R0.cells ∧ sl + ms ≤ R0.slots) : RunOk x G nL ce sl mc ms s pc lv st rest (Qa (Value.ref (kB G + b) :: As).toArray) := by
  intro H locs ls h1 ho h3
  obtain ⟨cell, q1, q2, q3, q4⟩ := h1.2.2.2.2.2.2.1 (kB G + b) ci _ ((h1.2.2.2.2.2.2.2.1 hph).1.1 _ _ ht).1 hc
  obtain ⟨hS, hfc, kC, hkC, hkind⟩ := (cx_K X).1 ci _ hc
  have hR := X.2.2.2.1
  exact vx_runVW (C := C) X.1 hM (by rw [hR]; exact cw) ⟨wr_blind, ⟨cell, q1, by rw [q3]; rfl, by rw [← hC, q2]; exact hfc⟩, wr_pre X h1 ho _⟩ rfl hn h3.1 hst (lv_room hr) hd (by rw [hR]; exact hf)
end CX
/-- a Wrong that is caught by the table's first row -/
theorem r_catch (X : Cx x G cc nL own ret R0) {pc2 : Nat} {x0 : ExceptionTableEntry} {suf : List ExceptionTableEntry} (hsplit : (xc x).exceptionTable.toList = [] ++ x0 :: suf) (hx : covers x0 pc = true) (h0 : x0.catchType ≠ 0) (hlink : Cond.classLink own x0.catchType RX5 ∈ lw_all) (hcast : Cond.castable RX5 RX5 ∈ lw_tbl) (hpc : x0.handlerPc = pc2) (hT : gT s q = 105) (kk : WB x G nL Qf ce sl s pc2 lv [.ref q]) : WX x G nL Qf ce sl s pc lv st q := by
  subst hpc
  intro H locs ls h1 h2 h3
  obtain ⟨cell, q1, q2, q3, q4⟩ := h1.2.2.2.2.2.2.1 q 5 _ hT rfl
  obtain ⟨hS, hfc, kC, hkC, hkind⟩ := (cx_K X).1 5 _ rfl
  have hca : (Cond.castable RX5 RX5).before (xa x) (xs x) = true := va_Nw.use rfl (nw_C X.2.2.2.2.1 X.2.2.2.2.2.1 hcast)
  exact vx_catch X.1.2.2.2.1 [] x0 suf hsplit (fun z hz => nomatch hz) hx h0 (X.1.2.2.2.2 _ hlink) hca q1 q3 (by rw [q2]; exact hfc) (kk H locs ls h1 h2 h3)
end XX
/-- a method with a table that does not throw -/
theorem mx_ofH {l : Launch} {y : MethodName} {ws ws' : List Cond} {rm : Room} {Pc : Array Value → State → Prop} {Qc : Array Value → State → Outcome → State → Prop} {mc ms : Nat} {free : Addr → Prop} {cc : ByteArray} {maxL : Nat} {ret : Option FieldType} {hh : List (Nat × Nat × Nat × Nat)}
    (hy : plainName y.cls = true) (hw : ws = Cond.codeWith y cc maxL ret hh :: ws')
    (body : ∀ p e s m args below meth c s₁, BodyLoose p l y (headSpec ws rm) cc maxL ret e s m args below meth c s₁ → c.maxLocals = maxL → c.exceptionTable.toList = tableOf hh → Pc args s →
      W p l e (headSpec ws rm).room s m args below meth c s.heap [] 0 0 (MQ below Qc args s mc ms free) (entryFrame m args maxL)) : Met l y ws rm Pc Qc mc ms free := by
  refine MetFree.of_bodyS (code := cc) (maxLocals := maxL) (ret := ret) hy ?_ ?_
  · intro args s m h hn
    obtain ⟨m9, meth, c, hn9, h1, h2, h3, h4, -, h5, h6, -⟩ := Cond.codeWith_spec (atoms_spec (ws := ws) h _ (by rw [hw]; exact List.mem_cons_self))
    cases hn.symm.trans hn9
    exact ⟨meth, c, h1, h2, h3, h4, h5, h6⟩
  · intro p e s m args below meth c s₁ B hml hP _
    have hh0 : s₁.heap = s.heap := by rw [B.state]; rfl
    have ht := vx_table (x := y) B (atoms_spec (ws := ws) B.pre _ (by rw [hw]; exact List.mem_cons_self) : (Cond.codeWith y cc maxL ret hh).before args s = true)
    obtain ⟨t, a1, o, b1, b2, b3⟩ := body p e s m args below meth c s₁ B hml ht hP s₁ hh0 (Stand.of_body B)
    exact ⟨t, o, a1, b1, b2, b3⟩
def wsH_ (y : MethodName) (cc : ByteArray) (nL : Nat) (ret : Option FieldType) (hh : List (Nat × Nat × Nat × Nat)) : List Cond := Cond.codeWith y cc nL ret hh :: lw_all
theorem cx_ofH {p : Program} {l : Launch} {e : Env} {s0 : State} {m : MethodId} {args : Array Value} {below : List Frame} {meth : Method} {c : Code} {s₁ : State} {y : MethodName} {rm : Room} {G : GT} {cc : ByteArray} {nL : Nat} {ret : Option FieldType} {own : String} {s : PS} {hh : List (Nat × Nat × Nat × Nat)} (g : GK G) (B : BodyLoose p l y (headSpec (wsH_ y cc nL ret hh) rm) cc nL ret e s0 m args below meth c s₁) (hml : c.maxLocals = nL) (hy : y.cls = own) (hw : Wr G s s0) : Cx (p, l, e, (headSpec (wsH_ y cc nL ret hh) rm).room, s0, m, args, below, meth, c) G cc nL own ret rm := by
  have hts := atoms_spec (ws := wsH_ y cc nL ret hh) B.pre
  subst hy
  exact ⟨⟨B.exec, B.bytes, hml, findClass_of_methodNamed B.named, fun w h => hts w (List.mem_cons_of_mem _ h)⟩, B.notSynchronized, B.returns, rfl, g, hw.2.1, hw.1.2.1, hw.2.2⟩
/-- the rooms of the parser's own recursion -/
abbrev rT (k d A B : Nat) : Room := { frames := 20 + 4 * d + k, cells := A, slots := B, locals := 1000 + 400 * d + 80 * k }
theorem lw_VH {own : String} {idx : Nat} {C : String} {y : MethodName} {b : ByteArray} {L : Nat} {r : Option FieldType} {hh : List (Nat × Nat × Nat × Nat)} (h1 : Cond.methodLink own idx y ∈ lw_all) (h2 : Cond.instanceMethod y ∈ lw_all) (h3 : Cond.selects C y y ∈ lw_all) (h4 : Cond.initialized C ∈ lw_all) (h5 : Cond.codeWith y b L r hh ∈ lw_all) : GoodIn lw_all (wsV own idx C y (wsH_ y b L r hh)) := by
  refine lw_app ?_ ?_
  · intro w hw
    simp only [List.mem_cons, List.not_mem_nil, or_false] at hw
    rcases hw with e | e | e | e
    · rw [e]; exact h1
    · rw [e]; exact h2
    · rw [e]; exact h3
    · rw [e]; exact h4
  · intro w hw
    rcases List.mem_cons.mp hw with e | e
    · rw [e]
      exact lw_self _ h5
    · exact lw_self _ e
