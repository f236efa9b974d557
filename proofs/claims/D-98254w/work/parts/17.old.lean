/-! PART 17: reading cells old or new; statics; casts -/
set_option maxRecDepth 100000
section RP
variable {x : CT} {G : GT} {cc : ByteArray} {nL : Nat} {own : String} {ret : Option FieldType} {R0 : Room} {Qf : State → Prop} {ce sl : Nat} {s : PS} {pc : Nat} {lv lv' : List (Nat × Value)} {st rest : List Value} {a : Nat} {i : Int32}
theorem gM_of {t : Nat} (h : gT s a = t) (ht : t < 200) : gM s a = t := by unfold gM; omega
theorem gM_or (X : Cx x G cc nL own ret R0) {H : Heap} (r : Rel G s H) {t : Nat} (h : gM s a = t) (ht : t < 200) : gT s a = t ∨ gT s a = 200 + t := by
  unfold gM at h
  by_cases c : gT s a < 200
  · left; omega
  · right
    have h1 := (r.2.2.2.2.2.2.2.2.1 a (by omega)).1
    have h2 := X.2.2.2.2.1.2.2.2.1.1 a
    omega
theorem old_arr (X : Cx x G cc nL own ret R0) {H : Heap} (r : Rel G s H) (o : Old G H) {t : Nat} (h : gT s a = 200 + t) (h1 : 1 ≤ t) (h9 : t ≤ 10) (h4 : t ≠ 4) : va_T (ety t) a (gN s a) (oT t s a) (kF G) (xs x) H := by
  obtain ⟨c1, c2, c3, c4⟩ := r.2.2.2.2.2.2.2.2.1 a (by omega)
  have h2 := ta_old X o (X.2.2.2.2.1.2.2.2.1.2.1 a t (by rw [c1]; exact h) h1 h9 h4)
  rw [c2] at h2
  have e : oT t (kM G) a = oT t s a := by
    funext j
    unfold oT
    rw [if_neg h4, if_neg h4, c3, c4]
  rw [e] at h2
  exact h2
theorem r_aaldM (X : Cx x G cc nL own ret R0) {t : Nat} (hT : gM s a = t) (h5 : 5 ≤ t ∧ t ≤ 10 ∧ t ≠ 8) (hin : vp_in i (gN s a)) (hd : decode cc pc = .ok (.aaload, 1)) (kk : WB x G nL Qf ce sl s (pc + 1) lv (va_rf (gR s a i.toNatClampNeg) :: rest)) : WB x G nL Qf ce sl s pc lv (.int i :: .ref a :: rest) := by
  intro H locs ls h1 h2 h3
  rcases gM_or X h1 hT (by omega) with h | h
  · exact r_aald X (by omega) (by omega) hin hd kk H locs ls h1 h2 h3
  · obtain ⟨cell, c1, c2, c3, c4, c5, c6, c7⟩ := old_arr X h1 (old_of X h2) h (by omega) (by omega) (by omega)
    have hlt := lt_in hin
    have hr : (ety t).isReference = true := by
      have h : t = 5 ∨ t = 6 ∨ t = 7 ∨ t = 9 ∨ t = 10 := by omega
      rcases h with h | h | h | h | h <;> rw [h] <;> rfl
    refine W.aald (v := va_rf (gR s a i.toNatClampNeg)) X.1.1 X.1.2.1 c1 c2 hr c3 ?_ ?_ rfl rfl hd (kk H locs ls h1 h2 h3)
    · intro q
      rcases q with q | q
      · exact hin (Or.inl q)
      · omega
    · rw [c6 _ hlt]
      unfold oT
      rw [if_neg (by omega), if_neg (by omega)]
theorem r_baldM (X : Cx x G cc nL own ret R0) (hT : gM s a = 2) (hin : vp_in i (gN s a)) (hd : decode cc pc = .ok (.baload, 1)) (kk : WB x G nL Qf ce sl s (pc + 1) lv (.int (gI s a i.toNatClampNeg) :: rest)) : WB x G nL Qf ce sl s pc lv (.int i :: .ref a :: rest) := by
  intro H locs ls h1 h2 h3
  rcases gM_or X h1 hT (by omega) with h | h
  · exact r_bald X h hin hd kk H locs ls h1 h2 h3
  · obtain ⟨cell, c1, c2, c3, c4, c5, c6, c7⟩ := old_arr X h1 (old_of X h2) h (by omega) (by omega) (by omega)
    have hlt := lt_in hin
    refine W.bald (v := .int (gI s a i.toNatClampNeg)) X.1.1 X.1.2.1 c1 c2 c3 ?_ ?_ rfl rfl hd (kk H locs ls h1 h2 h3)
    · intro q
      rcases q with q | q
      · exact hin (Or.inl q)
      · omega
    · rw [c6 _ hlt]
      rfl
theorem r_alenM (X : Cx x G cc nL own ret R0) {t : Nat} (hT : gM s a = t) (h19 : 1 ≤ t ∧ t ≤ 10) (hd : decode cc pc = .ok (.arraylength, 1)) (kk : WB x G nL Qf ce sl s (pc + 1) lv (.int (nI (gN s a)) :: rest)) : WB x G nL Qf ce sl s pc lv (.ref a :: rest) := by
  intro H locs ls h1 h2 h3
  rcases gM_or X h1 hT (by omega) with h | h
  · exact r_alen X (by omega) (by omega) hd kk H locs ls h1 h2 h3
  · by_cases h4 : t = 4
    · obtain ⟨c1, -⟩ := h1.2.2.2.2.2.2.2.2.1 a (by omega)
      exact absurd h4 (X.2.2.2.2.1.2.2.2.1.2.2.2.2.2 a t (by rw [c1]; exact h))
    · obtain ⟨cell, c1, c2, c3, c4, c5, c6, c7⟩ := old_arr X h1 (old_of X h2) h h19.1 h19.2 h4
      exact W.alen (n := nI (gN s a)) X.1.1 X.1.2.1 c1 c2 c5 rfl rfl hd (kk H locs ls h1 h2 h3)
/-- a field of an object of the start -/
theorem r_getO (X : Cx x G cc nL own ret R0) {o n d : String} {index : Nat} {v : Value} (hE : va_OF o n d v a (kF G) (k0 G) (k0 G).heap) (hlink : Cond.fieldLink own index o n d ∈ lw_all) (hd : decode cc pc = .ok (.getfield index, 3)) (kk : WB x G nL Qf ce sl s (pc + 3) lv (v :: rest)) : WB x G nL Qf ce sl s pc lv (.ref a :: rest) := by
  intro H locs ls h1 h2 h3
  obtain ⟨cf, k, fi, f, cell, c1, c2, c3, c4, c5, c6⟩ := of_old X (old_of X h2) hE
  exact W.getf X.1.1 X.1.2.1 X.1.2.2.2.1 (X.1.2.2.2.2 _ hlink) c1 c2 c3 c4 (v := v) c5 rfl rfl hd (kk H locs ls h1 h2 h3)
theorem r_getON (X : Cx x G cc nL own ret R0) {o n d host : String} {index : Nat} {v : Value} (hE : va_OF o n d v a (kF G) (k0 G) (k0 G).heap) (hlink : Cond.fieldLinkNest own index o n d host ∈ lw_tbl) (hd : decode cc pc = .ok (.getfield index, 3)) (kk : WB x G nL Qf ce sl s (pc + 3) lv (v :: rest)) : WB x G nL Qf ce sl s pc lv (.ref a :: rest) := by
  intro H locs ls h1 h2 h3
  obtain ⟨cf, k, fi, f, cell, c1, c2, c3, c4, c5, c6⟩ := of_old X (old_of X h2) hE
  exact va_Wgetf X.1.1 X.1.2.1 X.1.2.2.2.1 (nw_F X.2.2.2.2.1 X.2.2.2.2.2.1 hlink (xa x)) c1 c2 c3 c4 (v := v) c5 rfl rfl hd (kk H locs ls h1 h2 h3)
theorem r_getLaw (X : Cx x G cc nL RX0 ret R0) (hT : gM s a = 104) (hd : decode cc pc = .ok (.getfield 141, 3)) (kk : WB x G nL Qf ce sl s (pc + 3) lv (va_rf (gR s a 0) :: rest)) : WB x G nL Qf ce sl s pc lv (.ref a :: rest) := by
  intro H locs ls h1 h2 h3
  rcases gM_or X h1 hT (by omega) with h | h
  · exact r_getN X 4 0 in_X4 (ref := RX4) rfl (by decide) q440 rfl h hd kk H locs ls h1 h2 h3
  · obtain ⟨c1, c2, c3, c4⟩ := h1.2.2.2.2.2.2.2.2.1 a (by omega)
    exact r_getON X (by rw [← c4]; exact (X.2.2.2.2.1.2.2.2.1.2.2.1 a (by rw [c1]; exact h)).2) q440 hd kk H locs ls h1 h2 h3
theorem r_getInt (X : Cx x G cc nL RJ12 ret R0) {index : Nat} (hq : Cond.fieldLink RJ12 index "java/lang/Integer" "value" "I" ∈ lw_all) (hT : gT s a = 314) (hd : decode cc pc = .ok (.getfield index, 3)) (kk : WB x G nL Qf ce sl s (pc + 3) lv (.int (gI s a 0) :: rest)) : WB x G nL Qf ce sl s pc lv (.ref a :: rest) := by
  intro H locs ls h1 h2 h3
  obtain ⟨c1, c2, c3, c4⟩ := h1.2.2.2.2.2.2.2.2.1 a (by omega)
  exact r_getO X (by rw [← c3]; exact (X.2.2.2.2.1.2.2.2.1.2.2.2.1 a (by rw [c1]; exact hT)).2) hq hd kk H locs ls h1 h2 h3
theorem r_getSv (X : Cx x G cc nL own ret R0) {index : Nat} (hq : Cond.fieldLink own index "java/lang/String" "value" "[B" ∈ lw_all) (hT : gT s a = 315) (hd : decode cc pc = .ok (.getfield index, 3)) (kk : WB x G nL Qf ce sl s (pc + 3) lv (va_rf (gR s a 0) :: rest)) : WB x G nL Qf ce sl s pc lv (.ref a :: rest) := by
  intro H locs ls h1 h2 h3
  obtain ⟨c1, c2, c3, c4⟩ := h1.2.2.2.2.2.2.2.2.1 a (by omega)
  exact r_getO X (by rw [← c4]; exact (X.2.2.2.2.1.2.2.2.1.2.2.2.2.1 a (by rw [c1]; exact hT)).2.1) hq hd kk H locs ls h1 h2 h3
theorem r_getSc (X : Cx x G cc nL own ret R0) {index : Nat} (hq : Cond.fieldLink own index "java/lang/String" "coder" "B" ∈ lw_all) (hT : gT s a = 315) (hd : decode cc pc = .ok (.getfield index, 3)) (kk : WB x G nL Qf ce sl s (pc + 3) lv (.int (gI s a 1) :: rest)) : WB x G nL Qf ce sl s pc lv (.ref a :: rest) := by
  intro H locs ls h1 h2 h3
  obtain ⟨c1, c2, c3, c4⟩ := h1.2.2.2.2.2.2.2.2.1 a (by omega)
  exact r_getO X (by rw [← c3]; exact (X.2.2.2.2.1.2.2.2.1.2.2.2.2.1 a (by rw [c1]; exact hT)).2.2) hq hd kk H locs ls h1 h2 h3
theorem r_gets (X : Cx x G cc nL own ret R0) {C n d : String} {index : Nat} {v : Value} (hZ : va_Z C n d v (kF G) (k0 G) (k0 G).heap) (hlink : Cond.fieldLink own index C n d ∈ lw_all) (hd : decode cc pc = .ok (.getstatic index, 3)) (kk : WB x G nL Qf ce sl s (pc + 3) lv (v :: rest)) : WB x G nL Qf ce sl s pc lv rest := by
  intro H locs ls h1 h2 h3
  have hZ2 : va_Z C n d v (kF G) (xs x) (xs x).heap := (hZ.moved X.2.2.2.2.2.1.alike).kept (fun q _ hq => X.2.2.2.2.2.2.2 q (Nat.lt_of_not_le hq))
  exact va_gets X.1.1 X.1.2.1 hZ2 h2 X.1.2.2.2.1 (X.1.2.2.2.2 _ hlink) (fun _ h => h) hd (kk H locs ls h1 h2 h3)
theorem r_castY (X : Cx x G cc nL own ret R0) {C nm : String} {index : Nat} (hcl : Cond.classLink own index nm ∈ lw_all) (hv : ∀ H, Rel G s H → Old G H → ObAt x H a C) (hca : va_Nw (.castable C nm) (xs x)) (hd : decode cc pc = .ok (.checkcast index, 3)) (kk : WB x G nL Qf ce sl s (pc + 3) lv (.ref a :: rest)) : WB x G nL Qf ce sl s pc lv (.ref a :: rest) := by
  intro H locs ls h1 h2 h3
  obtain ⟨cell, b1, b2, b0, b3, kC, b4⟩ := hv H h1 (old_of X h2)
  exact va_castY X.1.1 X.1.2.1 X.1.2.2.2.1 (X.1.2.2.2.2 _ hcl) hca ⟨cell, b1, b0, b3⟩ hd (kk H locs ls h1 h2 h3)
theorem r_castS (X : Cx x G cc nL own ret R0) (ci : Nat) {q : vw_C} {nm : String} {index : Nat} (hcl : Cond.classLink own index nm ∈ lw_all) (hc : clT[ci]? = some q) (hq : q.1 = nm) (hv : ∀ H, Rel G s H → Old G H → ObAt x H a nm) (hd : decode cc pc = .ok (.checkcast index, 3)) (kk : WB x G nL Qf ce sl s (pc + 3) lv (.ref a :: rest)) : WB x G nL Qf ce sl s pc lv (.ref a :: rest) := by
  intro H locs ls h1 h2 h3
  obtain ⟨cell, b1, b2, b0, b3, kC, b4⟩ := hv H h1 (old_of X h2)
  have hat := ((cx_K X).1 ci _ hc).2
  rw [hq] at hat
  exact va_castS X.1.1 X.1.2.1 X.1.2.2.2.1 (X.1.2.2.2.2 _ hcl) hat ⟨cell, b1, b0, b3⟩ hd (kk H locs ls h1 h2 h3)
/-- of which class a sum is -/
def isSm (t : Nat) : Prop := 106 ≤ t ∧ t ≤ 110
theorem r_castSum (X : Cx x G cc nL own ret R0) {index : Nat} (hcl : Cond.classLink own index "AgainstFeather$Sum" ∈ lw_all) (hT : isSm (gT s a)) (hd : decode cc pc = .ok (.checkcast index, 3)) (kk : WB x G nL Qf ce sl s (pc + 3) lv (.ref a :: rest)) : WB x G nL Qf ce sl s pc lv (.ref a :: rest) := by
  have cw := fun {C E : String} (h : Cond.castable C E ∈ lw_tbl) => nw_C X.2.2.2.2.1 X.2.2.2.2.2.1 h
  unfold isSm at hT
  have h3 : gT s a = 106 ∨ gT s a = 107 ∨ gT s a = 108 ∨ gT s a = 109 ∨ gT s a = 110 := by omega
  rcases h3 with h | h | h | h | h
  · exact r_castY X hcl (fun H r o => obj_at X r (ci := 6) h rfl) (cw q893) hd kk
  · exact r_castY X hcl (fun H r o => obj_at X r (ci := 7) h rfl) (cw q915) hd kk
  · exact r_castY X hcl (fun H r o => obj_at X r (ci := 8) h rfl) (cw q909) hd kk
  · exact r_castY X hcl (fun H r o => obj_at X r (ci := 9) h rfl) (cw q901) hd kk
  · exact r_castY X hcl (fun H r o => obj_at X r (ci := 10) h rfl) (cw q921) hd kk
theorem r_castInt (X : Cx x G cc nL own ret R0) {index : Nat} (hcl : Cond.classLink own index "java/lang/Integer" ∈ lw_all) (hT : gT s a = 314) (hd : decode cc pc = .ok (.checkcast index, 3)) (kk : WB x G nL Qf ce sl s (pc + 3) lv (.ref a :: rest)) : WB x G nL Qf ce sl s pc lv (.ref a :: rest) :=
  r_castS X 14 hcl rfl rfl (fun H r o => ob_old X o (old_int X r hT)) hd kk
theorem r_ldcS (X : Cx x G cc nL own ret R0) {tx : String} {index q : Nat} (hZ : vk_R own index tx q (k0 G)) (hd : decode cc pc = .ok (.ldc index, 2)) (kk : WB x G nL Qf ce sl s (pc + 2) lv (.ref q :: rest)) : WB x G nL Qf ce sl s pc lv rest := fun H locs ls h1 h2 h3 =>
  va_ldcS X.1.1 X.1.2.1 X.1.2.2.2.1 (hZ.warm X.2.2.2.2.2.1) hd (kk H locs ls h1 h2 h3)
/-- a call through an object of the start -/
theorem r_okVO {y : MethodName} {bytes : ByteArray} {maxL mc ms n index : Nat} {rt : Option FieldType} {ws : List Cond} {rm : Room} {As : List Value} {b : Nat} {Qa : Array Value → State → Outcome → State → Prop} {C : String} (X : Cx x G cc nL own ret R0) (hM : Met (xl x) y ws rm (va_Pc (.ref b :: As) (Wr G s)) Qa mc ms (kF G)) (cw : CallW R0 (xs x) (xa x) own C index y bytes maxL rt ws rm mc ms n) (hv : ∀ H, Rel G s H → Old G H → ObAt x H b C) (hn : As.length = n) (hst : st = As.reverse ++ .ref b :: rest) (hr : (rest.map fun v => v.category).sum ≤ 8) (hd : decode cc pc = .ok (.invokevirtual index, 3)) (hf : ce + mc ≤ R0.cells ∧ sl + ms ≤ R0.slots) : RunOk x G nL ce sl mc ms s pc lv st rest (Qa (Value.ref b :: As).toArray) := by
  intro H locs ls h1 ho h3
  obtain ⟨cell, b1, b2, b0, b3, kC, b4⟩ := hv H h1 ho
  have hR := X.2.2.2.1
  exact va_runV (C := C) X.1 hM (by rw [hR]; exact cw) ⟨wr_blind, ⟨cell, b1, b0, b3⟩, wr_pre X h1 ho _⟩ rfl hn h3.1 hst (lv_room hr) hd (by rw [hR]; exact hf)
theorem old_str (X : Cx x G cc nL own ret R0) {H : Heap} (r : Rel G s H) (h : gT s a = 315) : va_O "java/lang/String" a (kF G) (k0 G) (k0 G).heap := (X.2.2.2.2.1.2.2.2.1.2.2.2.2.1 a (by rw [(r.2.2.2.2.2.2.2.2.1 a (by omega)).1]; exact h)).1
theorem r_okVInt {y : MethodName} {bytes : ByteArray} {maxL mc ms n index : Nat} {rt : Option FieldType} {ws : List Cond} {rm : Room} {As : List Value} {b : Nat} {Qa : Array Value → State → Outcome → State → Prop} (X : Cx x G cc nL own ret R0) (hM : Met (xl x) y ws rm (va_Pc (.ref b :: As) (Wr G s)) Qa mc ms (kF G)) (cw : CallW R0 (xs x) (xa x) own RJ12 index y bytes maxL rt ws rm mc ms n) (hT : gT s b = 314) (hn : As.length = n) (hst : st = As.reverse ++ .ref b :: rest) (hr : (rest.map fun v => v.category).sum ≤ 8) (hd : decode cc pc = .ok (.invokevirtual index, 3)) (hf : ce + mc ≤ R0.cells ∧ sl + ms ≤ R0.slots) : RunOk x G nL ce sl mc ms s pc lv st rest (Qa (Value.ref b :: As).toArray) :=
  r_okVO X hM cw (fun H r o => ob_old X o (old_int X r hT)) hn hst hr hd hf
theorem r_okVStr {y : MethodName} {bytes : ByteArray} {maxL mc ms n index : Nat} {rt : Option FieldType} {ws : List Cond} {rm : Room} {As : List Value} {b : Nat} {Qa : Array Value → State → Outcome → State → Prop} (X : Cx x G cc nL own ret R0) (hM : Met (xl x) y ws rm (va_Pc (.ref b :: As) (Wr G s)) Qa mc ms (kF G)) (cw : CallW R0 (xs x) (xa x) own RJ3 index y bytes maxL rt ws rm mc ms n) (hT : gT s b = 315) (hn : As.length = n) (hst : st = As.reverse ++ .ref b :: rest) (hr : (rest.map fun v => v.category).sum ≤ 8) (hd : decode cc pc = .ok (.invokevirtual index, 3)) (hf : ce + mc ≤ R0.cells ∧ sl + ms ≤ R0.slots) : RunOk x G nL ce sl mc ms s pc lv st rest (Qa (Value.ref b :: As).toArray) :=
  r_okVO X hM cw (fun H r o => ob_old X o (old_str X r hT)) hn hst hr hd hf
theorem r_nret {ty : FieldType} (X : Cx x G cc nL own (some ty) R0) {mc ms : Nat} {Q : Int32 → PS → Prop} {v : Int32} (hv : narrow ty (.int v) = .int v) (hQ : Q v s) (hc : ce ≤ mc) (hs : sl ≤ ms) (hd : decode cc pc = .ok (.ireturn, 1)) : WB x G nL (QfI x G mc ms (fun r u => narrow ty (.int r) = .int r ∧ Q r u)) ce sl s pc lv [.int v] := by
  intro H locs ls h1 h2 h3
  refine W.widen (k := mc) (n := ms) hc hs ?_
  exact W.zret X.1.1 X.1.2.1 X.2.2.1 hv (fun t ht hW => ⟨⟨v, s, rfl, ⟨hv, hQ⟩, wr_end X h1 h2 ht hW⟩, h2.F ht⟩) h2.2.2 hd X.2.1
theorem r_anull (X : Cx x G cc nL own ret R0) (hd : decode cc pc = .ok (.aconst_null, 1)) (kk : WB x G nL Qf ce sl s (pc + 1) lv (.null :: rest)) : WB x G nL Qf ce sl s pc lv rest := fun H locs ls h1 h2 h3 => lv_null X.1.1 X.1.2.1 hd (kk H locs ls h1 h2 h3)
theorem r_getC (X : Cx x G cc nL own ret R0) {index : Nat} (hl : Cond.methodLink own index ⟨"java/lang/Object", "getClass", "()Ljava/lang/Class;"⟩ ∈ lw_all) (hsel : Cond.selects "[Ljava/lang/Object;" ⟨"java/lang/Object", "getClass", "()Ljava/lang/Class;"⟩ ⟨"java/lang/Object", "getClass", "()Ljava/lang/Class;"⟩ ∈ lw_all) (hin : Cond.instanceMethod ⟨"java/lang/Object", "getClass", "()Ljava/lang/Class;"⟩ ∈ lw_all) (hna : Cond.native ⟨"java/lang/Object", "getClass", "()Ljava/lang/Class;"⟩ ∈ lw_all) (hde : Cond.declares ⟨"java/lang/Object", "getClass", "()Ljava/lang/Class;"⟩ ∈ lw_tbl) (hT : gT s a = 7) (hf : 1 ≤ R0.frames) (hlo : 22 ≤ R0.locals) (hr : (rest.map fun v => v.category).sum ≤ 8) (hd : decode cc pc = .ok (.invokevirtual index, 3)) (kk : WB x G nL Qf ce sl s (pc + 3) lv (.ref (kX G 6) :: rest)) : WB x G nL Qf ce sl s pc lv (.ref a :: rest) := by
  intro H locs ls h1 h2 h3
  have hR := X.2.2.2.1
  have hM : va_Mi "[Ljava/lang/Object;" (kX G 6) (xs x) := X.2.2.2.2.1.2.2.2.2.2.2.2.2.2.2.2.2.1.moved X.2.2.2.2.2.1.alike
  have hc := h1.2.2.2.2.2.1 a (by omega) (by omega)
  rw [hT] at hc
  have hA := ((cx_K X).2 7 _ (ty_at G (by omega))).2
  obtain ⟨kA', comp, a1, a2, a3, a4⟩ := hA
  have hdc : va_Dc (xs x) := (va_Dc.of (X.2.2.2.2.1.1 _ hde)).moved X.2.2.2.2.2.1.alike
  exact va_getC X.1.1 X.1.2.1 (by rw [X.1.2.2.1]; exact h3.1.symm) X.1.2.2.2.1 (X.1.2.2.2.2 _ hl) (va_any rfl hdc) (X.1.2.2.2.2 _ hsel) (X.1.2.2.2.2 _ hin) (X.1.2.2.2.2 _ hna) hM ⟨_, hc, rfl, a4⟩ (by rw [hR]; exact hf) (by rw [hR]; omega) hd (kk H locs ls h1 h2 h3)
theorem r_ldcM (X : Cx x G cc nL own ret R0) {index : Nat} (hl : Cond.classLink own index "[Ljava/lang/Object;" ∈ lw_all) (hd : decode cc pc = .ok (.ldc index, 2)) (kk : WB x G nL Qf ce sl s (pc + 2) lv (.ref (kX G 6) :: rest)) : WB x G nL Qf ce sl s pc lv rest := fun H locs ls h1 h2 h3 =>
  va_ldcM X.1.1 X.1.2.1 X.1.2.2.2.1 (X.1.2.2.2.2 _ hl) (X.2.2.2.2.1.2.2.2.2.2.2.2.2.2.2.2.2.1.moved X.2.2.2.2.2.1.alike) hd (kk H locs ls h1 h2 h3)
end RP
