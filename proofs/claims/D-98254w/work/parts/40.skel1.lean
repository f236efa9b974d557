/-! THE CLAIM OUT OF ONE WALK OF THE LAW'S BODY. Your part is whole_start (and what it stands on); all else here is the same for every law, but numbers. -/
def R_law : String := "AgainstFeatherLaw"
def lw_P (b : Addr) (xs : List Int32) (args : Array Value) (s : State) : Prop := args = #[.ref b] ∧ s.IntsAt b xs ∧ xs.length ≤ 384 ∧ (Jvm.Cond.and given_1 narrow_1).before args s = true
def lw_Q (_ : Array Value) (s : State) (o : Outcome) (t : State) : Prop := o = .returned (some (.int 1)) ∧ Framed s o t [] 1200128 5501098
def lw_Z (below : List Frame) (a : Array Value) (s : State) : State → Prop := fun t => ∃ o, t.status = .running ∧ Ended t below o ∧ lw_Q a s o t
/-- the law's own end, with 1 on the stack, nothing written that was there before, its room as the claim has it -/
theorem lw_ret {p : Program} {l : Launch} {e : Env} {s : State} {m : MethodId} {below : List Frame} {meth : Method} {c : Code} {b : Nat} (hx : p.tables.exec = Jvm.exec) (hb : c.code = code) (hr : meth.sig.returnType = ret) (hlocks : meth.locks = false) {pc : Nat} {H : Heap} {ls : Array Slot} (hdg : decode code pc = .ok (.ireturn, 1)) : W p l e room_1 s m #[Value.ref b] below meth c H [] 1200128 5501098 (lw_Z below #[Value.ref b] s) (F0 m pc ls [.int 1]) := by
  intro T hT X
  obtain ⟨fs, hret, hrun, hended, hW, hframe⟩ := X.leave (v := some (.int 1)) (hlocks := hlocks) (fun h => by rw [hr] at h; cases h)
  have hmeth' : T.vm.method? m = some meth := X.method'
  refine ⟨T.setFrames fs, ?_, .returned (some (.int 1)), hrun, hended, rfl, ⟨_, rfl⟩, hW, hframe⟩
  jvm_step X.here [X.here.top, hx, hb, hdg, hmeth', hr, ret, narrow_b1]
  (try refine ⟨rfl, ?_⟩); (try refine ⟨rfl, ?_⟩)
  first | (intro acts; rw [hret _ acts rfl rfl rfl]) | rw [hret _ _ rfl rfl rfl]
  exact Steps.refl _
/-- what holds at the law's entry: the machine, the code, the tables' words (any of lw_tbl by 'hts w (by decide +kernel)'), the script of L ints xs at the cell b, what the Statement gives of the start (any of its parts by flat_of_before) -/
def lw_At (p : Program) (s : State) (m : MethodId) (meth : Method) (c : Code) (b L : Nat) (xs : Nat → Int32) : Prop :=
  p.tables.exec = Jvm.exec ∧ c.code = code ∧ meth.sig.returnType = ret ∧ c.maxLocals = 4 ∧ s.vm.findClass R_law = some m.cls ∧ (∀ w ∈ lw_tbl, w.before #[Value.ref b] s = true) ∧ va_X b L xs s s.heap ∧ b < s.heap.size ∧ meth.locks = false ∧ (Jvm.Cond.and given_1 narrow_1).before #[Value.ref b] s = true
/-! PART 19: the law's own rows -/
set_option maxRecDepth 100000
def RL : String := "AgainstFeatherLaw"
section RL_
variable {x : CT} {G : GT} {cc : ByteArray} {nL : Nat} {own : String} {ret : Option FieldType} {R0 : Room} {Qf : State → Prop} {ce sl : Nat} {s : PS} {pc : Nat} {lv lv' : List (Nat × Value)} {st rest : List Value} {a : Nat} {i : Int32}
theorem r_ialdM (X : Cx x G cc nL own ret R0) (hT : gM s a = 1) (hin : vp_in i (gN s a)) (hd : decode cc pc = .ok (.iaload, 1)) (kk : WB x G nL Qf ce sl s (pc + 1) lv (.int (gI s a i.toNatClampNeg) :: rest)) : WB x G nL Qf ce sl s pc lv (.int i :: .ref a :: rest) := by
  intro H locs ls h1 h2 h3
  rcases gM_or X h1 hT (by omega) with h | h
  · exact r_iald X h hin hd kk H locs ls h1 h2 h3
  · obtain ⟨cell, c1, c2, c3, c4, c5, c6, c7⟩ := old_arr X h1 (old_of X h2) h (by omega) (by omega) (by omega)
    have hlt := lt_in hin
    refine W.iald (v := .int (gI s a i.toNatClampNeg)) X.1.1 X.1.2.1 c1 c2 c3 ?_ ?_ rfl rfl hd (kk H locs ls h1 h2 h3)
    · intro q
      rcases q with q | q
      · exact hin (Or.inl q)
      · omega
    · rw [c6 _ hlt]
      rfl
def QfW (x : CT) : State → Prop := lw_Z (xb x) (xa x) (xs x)
/-- the law's end: it answers 1 -/
theorem r_wret {b : Nat} (X : Cx x G code 4 RL (some .boolean) room_1) (ha : xa x = #[Value.ref b]) (hk : kS G = (xs x).heap.size) {v : Int32} (hv : v = 1) (hc : ce ≤ 1200128) (hs : sl ≤ 5501098) (hd : decode code pc = .ok (.ireturn, 1)) : WB x G 4 (QfW x) ce sl s pc lv [.int v] := by
  subst hv
  intro H locs ls h1 h2 h3
  refine va_forget (fun q hq => by have := h2.2.2 q hq; rw [← hk]; exact this) ?_
  refine W.widen (k := 1200128) (n := 5501098) hc hs ?_
  have hR := X.2.2.2.1
  unfold QfW
  rw [hR, ha]
  exact lw_ret X.1.1 X.1.2.1 X.2.2.1 X.2.1 hd
end RL_
