/-! PART 18: Sum.of, by the interface -/
set_option maxRecDepth 100000
def ySum : MethodName := ⟨"AgainstFeather$Sum", "of", "([I)J"⟩
def rG (d : Nat) : Room := { frames := 200 + d, cells := 0, slots := 0, locals := 20000 + 60 * d }
def rS (d : Nat) : Room := { frames := 12 + d, cells := 0, slots := 0, locals := 600 + 60 * d }
theorem fw_X6 {G : GT} (g : GK G) {U : State} (h : (k0 G).WarmedH U.vm) : va_Fw RX6 ySum yX6_of U := va_Fw.moved (by decide) h.alike (va_Fw.of (g.1 _ q892) (g.1 _ q891) (g.1 _ q897) (g.1 _ q895) (g.1 _ q893))
theorem fw_X7 {G : GT} (g : GK G) {U : State} (h : (k0 G).WarmedH U.vm) : va_Fw RX7 ySum yX7_of U := va_Fw.moved (by decide) h.alike (va_Fw.of (g.1 _ q892) (g.1 _ q891) (g.1 _ q919) (g.1 _ q917) (g.1 _ q915))
theorem fw_X8 {G : GT} (g : GK G) {U : State} (h : (k0 G).WarmedH U.vm) : va_Fw RX8 ySum yX8_of U := va_Fw.moved (by decide) h.alike (va_Fw.of (g.1 _ q892) (g.1 _ q891) (g.1 _ q913) (g.1 _ q911) (g.1 _ q909))
theorem fw_X9 {G : GT} (g : GK G) {U : State} (h : (k0 G).WarmedH U.vm) : va_Fw RX9 ySum yX9_of U := va_Fw.moved (by decide) h.alike (va_Fw.of (g.1 _ q892) (g.1 _ q891) (g.1 _ q905) (g.1 _ q903) (g.1 _ q901))
theorem fw_X10 {G : GT} (g : GK G) {U : State} (h : (k0 G).WarmedH U.vm) : va_Fw RX10 ySum yX10_of U := va_Fw.moved (by decide) h.alike (va_Fw.of (g.1 _ q892) (g.1 _ q891) (g.1 _ q925) (g.1 _ q923) (g.1 _ q921))
def SumOk (l : Launch) (G : GT) (rm : Room) (a v : Nat) (s : PS) (Q : Int64 → PS → Prop) : Prop :=
  (gT s a = 106 ∧ Met l yX6_of (ws_ yX6_of cX6_of 10 (some .long)) rm (va_Pc [.ref a, .ref v] (Wr G s)) (va_Ql Q (fun u t => Wr G u t) (kF G)) 0 0 (kF G)) ∨
  (gT s a = 107 ∧ Met l yX7_of (ws_ yX7_of cX7_of 2 (some .long)) rm (va_Pc [.ref a, .ref v] (Wr G s)) (va_Ql Q (fun u t => Wr G u t) (kF G)) 0 0 (kF G)) ∨
  (gT s a = 108 ∧ Met l yX8_of (ws_ yX8_of cX8_of 2 (some .long)) rm (va_Pc [.ref a, .ref v] (Wr G s)) (va_Ql Q (fun u t => Wr G u t) (kF G)) 0 0 (kF G)) ∨
  (gT s a = 109 ∧ Met l yX9_of (ws_ yX9_of cX9_of 2 (some .long)) rm (va_Pc [.ref a, .ref v] (Wr G s)) (va_Ql Q (fun u t => Wr G u t) (kF G)) 0 0 (kF G)) ∨
  (gT s a = 110 ∧ Met l yX10_of (ws_ yX10_of cX10_of 2 (some .long)) rm (va_Pc [.ref a, .ref v] (Wr G s)) (va_Ql Q (fun u t => Wr G u t) (kF G)) 0 0 (kF G))
section RS
variable {x : CT} {G : GT} {cc : ByteArray} {nL : Nat} {own : String} {ret : Option FieldType} {R0 : Room} {Qf : State → Prop} {ce sl : Nat} {s : PS} {pc : Nat} {lv lv' : List (Nat × Value)} {st rest : List Value} {a v : Nat}
theorem r_csum0 {y : MethodName} {bytes : ByteArray} {maxL ci : Nat} {q : vw_C} {C : String} {rm : Room} {Q : Int64 → PS → Prop} (X : Cx x G cc nL own ret R0) {index count : Nat} (hM : Met (xl x) y (ws_ y bytes maxL (some .long)) rm (va_Pc [.ref a, .ref v] (Wr G s)) (va_Ql Q (fun u t => Wr G u t) (kF G)) 0 0 (kF G)) (cw : va_CI R0 (xs x) (xa x) own C index ySum y bytes maxL (some .long) (ws_ y bytes maxL (some .long)) rm 0 0 1) (hT : gT s a = 100 + ci) (hc : clT[ci]? = some q) (hC : q.1 = C) (hr : (rest.map fun v => v.category).sum ≤ 8) (hce : ce ≤ R0.cells ∧ sl ≤ R0.slots) (hd : decode cc pc = .ok (.invokeinterface index count, 5)) (kk : ∀ (r : Int64) (u : PS), Q r u → WB x G nL Qf ce sl u (pc + 5) lv (.long r :: rest)) : WB x G nL Qf ce sl s pc lv (.ref v :: .ref a :: rest) := by
  intro H locs ls h1 h2 h3
  have hR := X.2.2.2.1
  obtain ⟨cell, b1, b2, b0, b3, kC, b4⟩ := obj_at X h1 hT hc
  have hat := ((cx_K X).1 ci _ hc).2
  rw [hC] at hat b3
  refine va_callFl (va_runF (As := [.ref v]) (rest := rest) hat X.1 hM (by rw [hR]; exact cw) ⟨wr_blind, ⟨cell, b1, b0, b3⟩, wr_pre X h1 (old_of X h2) _⟩ rfl rfl h3.1 rfl (lv_room hr) hd (by rw [hR]; exact hce)) h2 (fun q _ h => h) (fun q h => h) (fun r u t H1 locs1 ht hvm hp hB hz hk hS => ?_)
  exact kk r u hp H1 locs1 ls (by rw [← ht]; exact hB.1) hS h3
theorem r_csum {rm : Room} {Q : Int64 → PS → Prop} (X : Cx x G cc nL own ret R0) {index count : Nat} (hl : Cond.methodLink own index ySum ∈ lw_all) (h : SumOk (xl x) G rm a v s Q) (hm : rm.cells = 0 ∧ rm.slots = 0) (hf : rm.frames + 1 ≤ R0.frames) (hlo : 30 + rm.locals ≤ R0.locals) (hr : (rest.map fun v => v.category).sum ≤ 8) (hce : ce ≤ R0.cells ∧ sl ≤ R0.slots) (hd : decode cc pc = .ok (.invokeinterface index count, 5)) (kk : ∀ (r : Int64) (u : PS), Q r u → WB x G nL Qf ce sl u (pc + 5) lv (.long r :: rest)) : WB x G nL Qf ce sl s pc lv (.ref v :: .ref a :: rest) := by
  have cwF : ∀ {C : String} {y : MethodName} {bytes : ByteArray} {maxL : Nat} (q2 : Cond.selects C ySum y ∈ lw_all) (q3 : Cond.instanceMethod y ∈ lw_all) (q4 : Cond.initialized y.cls ∈ lw_all) (q5 : Cond.code y bytes maxL (some .long) ∈ lw_all) (hF : va_Fw C ySum y (xs x)) (hL : maxL ≤ 11), va_CI R0 (xs x) (xa x) own C index ySum y bytes maxL (some .long) (ws_ y bytes maxL (some .long)) rm 0 0 1 := by
    intro C y bytes maxL q2 q3 q4 q5 hF hL
    refine va_cwF 1 X.1.2.2.2.2 ?_ rfl hm.1 hm.2 hF (by decide +kernel) ⟨hf, by omega⟩
    refine lw_app ?_ (lw_meth q5)
    intro w hw
    simp only [List.mem_cons, List.not_mem_nil, or_false] at hw
    rcases hw with e | e | e | e
    · rw [e]; exact hl
    · rw [e]; exact q2
    · rw [e]; exact q3
    · rw [e]; exact q4
  have hW := X.2.2.2.2.2.1
  have g := X.2.2.2.2.1
  rcases h with ⟨h1, h2⟩ | ⟨h1, h2⟩ | ⟨h1, h2⟩ | ⟨h1, h2⟩ | ⟨h1, h2⟩
  · exact r_csum0 X h2 (cwF q894 q896 q154 q898 (fw_X6 g hW) (by decide)) (ci := 6) h1 rfl rfl hr hce hd kk
  · exact r_csum0 X h2 (cwF q916 q918 q156 q920 (fw_X7 g hW) (by decide)) (ci := 7) h1 rfl rfl hr hce hd kk
  · exact r_csum0 X h2 (cwF q910 q912 q157 q914 (fw_X8 g hW) (by decide)) (ci := 8) h1 rfl rfl hr hce hd kk
  · exact r_csum0 X h2 (cwF q902 q904 q158 q906 (fw_X9 g hW) (by decide)) (ci := 9) h1 rfl rfl hr hce hd kk
  · exact r_csum0 X h2 (cwF q922 q924 q159 q926 (fw_X10 g hW) (by decide)) (ci := 10) h1 rfl rfl hr hce hd kk
end RS
