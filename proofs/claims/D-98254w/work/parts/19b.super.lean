/-! PART 1A: the constructor above Wrong's own -/
set_option maxRecDepth 100000
section XS
variable {x : CT} {G : GT} {cc : ByteArray} {nL : Nat} {ret : Option FieldType} {R0 : Room} {Qf : State → Prop} {ce sl : Nat} {s : PS} {pc : Nat} {lv : List (Nat × Value)} {rest : List Value} {a : Nat}
theorem mx_back9 {p : Program} {l : Launch} {e : Env} {R R' : Room} {s : State} {m : MethodId} {args : Array Value} {below : List Frame} {meth : Method} {c : Code} {T S : State} {locs L : List Loc} {cells slots k n : Nat} (X : Stand p l e R s m args below meth c T locs cells slots) (Y : Stand p l e R' ((T.setVm s.vm).setFrames (.invoking m args :: below)) m args below meth c T [] 0 0) (Z : Stand p l e R' ((T.setVm s.vm).setFrames (.invoking m args :: below)) m args below meth c S L k n) :
    Stand p l e R s m args below meth c S (locs ++ L) (cells + k) (slots + n) := by
  have hW0 : s.WarmedH ((T.setVm s.vm).setFrames (.invoking m args :: below)).vm := State.WarmedH.refl s
  refine { admits := X.admits, cas := X.cas, clock := X.clock, frames := X.frames, room := X.room, hears := X.hears, method := X.method, code := X.code, here := Z.here, tail := Z.tail, warmed := State.WarmedH.trans hW0 Z.warmed, limits := Z.limits.trans (Y.limits.symm.trans X.limits), bytes := Z.bytes.trans (Y.bytes.symm.trans X.bytes), same := ?_ }
  obtain ⟨e1, e2⟩ := Z.same
  rw [State.setFrames_setFrames] at e1
  have h2 : (T.setVm s.vm).sameButNew (S.setVm s.vm) L k n := ⟨e1, e2⟩
  exact X.same.trans h2
def mxB : List Cond :=
  [.methodLink RX5 1 (Bundle.init0 "java/lang/Exception"), .selects RX5 Bundle.tFill0 Bundle.tFill0, .selects RX5 Bundle.tFill Bundle.tFill,
   .lays RX5 Bundle.tN "cause" "Ljava/lang/Throwable;", .lays RX5 Bundle.tN "stackTrace" Bundle.steD, .lays RX5 Bundle.tN "suppressedExceptions" Bundle.listD, .lays RX5 Bundle.tN "detailMessage" "Ljava/lang/String;", .lays RX5 Bundle.tN "backtrace" "Ljava/lang/Object;",
   .fieldLink Bundle.tN 198 Bundle.tN "backtrace" "Ljava/lang/Object;", .lays Bundle.tN Bundle.tN "backtrace" "Ljava/lang/Object;",
   .isRef (.static Bundle.tN "UNASSIGNED_STACK" Bundle.steD), .isRef (.static Bundle.tN "SUPPRESSED_SENTINEL" Bundle.listD)]
def mxA : List Cond := Bundle.throwableAtoms ++ (Bundle.chain0Atoms "java/lang/Exception" [] ++ mxB)
theorem mxA_ok (X : Cx x G cc nL RX5 ret R0) {s' : State} (hv : (xs x).vm = s'.vm)
    (hU : vx_Zq Bundle.tN "UNASSIGNED_STACK" Bundle.steD (kF G) s' s'.heap) (hN : vx_Zq Bundle.tN "SUPPRESSED_SENTINEL" Bundle.listD (kF G) s' s'.heap) : ∀ w ∈ mxA, w.before (xa x) s' = true := by
  have hW : (xs x).WarmedH s'.vm := by rw [← hv]; exact State.WarmedH.refl _
  have t : ∀ {w : Cond}, w ∈ lw_all → vx_ot w = true → w.before (xa x) s' = true := fun h o => vx_ot_at hW hv o (X.1.2.2.2.2 _ h)
  have d : (Cond.declares (Bundle.init0 Bundle.tN)).before (xa x) s' = true := vx_ot_at hW hv rfl (va_Nw.use rfl (va_Nw.warmD X.2.2.2.2.2.1 (va_Nw.of rfl (X.2.2.2.2.1.1 _ q530))) : (Cond.declares (Bundle.init0 Bundle.tN)).before (xa x) (xs x) = true)
  have h1 : ∀ w ∈ Bundle.throwableAtoms, w.before (xa x) s' = true :=
    vx_c (t q151 rfl) (vx_c (t q545 rfl) (vx_c (t q554 rfl) (vx_c (t q556 rfl) (vx_c (t q559 rfl) (vx_c (t q561 rfl) (vx_c (t q546 rfl) (vx_c (t q547 rfl) (vx_c (t q174 rfl) (vx_c (t q175 rfl) (vx_c (t q548 rfl) (vx_c (t q553 rfl) (vx_c (t q557 rfl)
    (vx_c (t q574 rfl) (vx_c (t q535 rfl) (vx_c (t q575 rfl) (vx_c (t q537 rfl) (vx_c (t q576 rfl) (vx_c (t q539 rfl) (vx_c (t q549 rfl) (vx_c hU.2.word (vx_c (t q551 rfl) (vx_c hN.2.word (vx_c (t q541 rfl) vx_n)))))))))))))))))))))))
  have h2 : ∀ w ∈ Bundle.chain0Atoms "java/lang/Exception" [], w.before (xa x) s' = true :=
    vx_c (t q566 rfl) (vx_c (t q567 rfl) (vx_c (t q568 rfl) (vx_c (t q546 rfl) (vx_c d vx_n))))
  have h3 : ∀ w ∈ mxB, w.before (xa x) s' = true :=
    vx_c (t q565 rfl) (vx_c (t q532 rfl) (vx_c (t q533 rfl) (vx_c (t q534 rfl) (vx_c (t q536 rfl) (vx_c (t q538 rfl) (vx_c (t q540 rfl) (vx_c (t q542 rfl) (vx_c (t q544 rfl) (vx_c (t q543 rfl) (vx_c (vx_isRefq hU.1) (vx_c (vx_isRefq hN.1) vx_n)))))))))))
  intro w hw
  rcases List.mem_append.mp hw with h | h
  · exact h1 w h
  rcases List.mem_append.mp h with h | h
  · exact h2 w h
  · exact h3 w h
theorem mxA_t : ∀ w ∈ Bundle.throwableAtoms, w ∈ mxA := fun w h => List.mem_append.mpr (Or.inl h)
theorem mxA_c : ∀ w ∈ Bundle.chain0Atoms "java/lang/Exception" [], w ∈ mxA := fun w h => List.mem_append.mpr (Or.inr (List.mem_append.mpr (Or.inl h)))
theorem mxA_b : ∀ w ∈ mxB, w ∈ mxA := fun w h => List.mem_append.mpr (Or.inr (List.mem_append.mpr (Or.inr h)))
/-- the three fields that Throwable's constructor sets -/
theorem rv_some (u : RefV) : ∃ o : Option Nat, u.v = va_rf o := by
  obtain ⟨v, h⟩ := u
  cases v <;> first | exact ⟨none, rfl⟩ | exact ⟨some _, rfl⟩ | cases h
theorem r_super (X : Cx x G cc nL RX5 ret R0) (hl : (xl x).stackTraces = false) (hT : gT s a = 105) (hz : gR s a 4 = none) (hw : kS G ≤ a) (hf : 4 ≤ R0.frames) (hlo : 100 ≤ R0.locals) (hr : (rest.map fun v => v.category).sum ≤ 8) (hce : ce ≤ R0.cells ∧ sl ≤ R0.slots) (hd : decode cc pc = .ok (.invokespecial 1, 3))
    (kk : ∀ u v : Option Nat, ∀ s1 : PS, s1 = pR (pR (pR s a 0 (some a)) a 1 u) a 2 v → WB x G nL Qf ce sl s1 (pc + 3) lv rest) : WB x G nL Qf ce sl s pc lv (.ref a :: rest) := by
  intro H locs ls h1 h2 h3 T hTH X0
  subst hTH
  have hexec := X.1.1
  have htr : (xe x).platform.stackTraces = false := (show (xe x).platform.stackTraces = (xl x).stackTraces by rw [X0.admits.platform]).trans hl
  have Y := vx_rebase X0 (R' := { frames := (xR x).frames, locals := (xR x).locals, cells := 0, slots := 0 }) (Nat.le_refl _) (Nat.le_refl _) (by rw [X.2.2.2.1]; exact hce.1) (by rw [X.2.2.2.1]; exact hce.2)
  obtain ⟨s', hA'⟩ : ∃ z, z = (T.setVm (xs x).vm).setFrames (.invoking (xm x) (xa x) :: (xb x)) := ⟨_, rfl⟩
  rw [← hA'] at Y
  have hvm : s'.vm = (xs x).vm := by rw [hA']; rfl
  have hhp : s'.heap = T.heap := by rw [hA']; rfl
  have hZ := X.2.2.2.2.1.2.2.2.2.2.2.2.2.2.2.2.2.2
  have hO := old_of X h2
  have hU' : vx_Zq Bundle.tN "UNASSIGNED_STACK" Bundle.steD (kF G) s' s'.heap := by
    rw [hhp]
    exact vx_Zq.moved (by rw [hvm]; exact X.2.2.2.2.2.1.alike) (hZ.1.kept (fun q _ hq => hO q (Nat.lt_of_not_le hq)))
  have hN' : vx_Zq Bundle.tN "SUPPRESSED_SENTINEL" Bundle.listD (kF G) s' s'.heap := by
    rw [hhp]
    exact vx_Zq.moved (by rw [hvm]; exact X.2.2.2.2.2.1.alike) (hZ.2.kept (fun q _ hq => hO q (Nat.lt_of_not_le hq)))
  have h := mxA_ok X (s' := s') hvm.symm hU' hN'
  have a' : ∀ w, w ∈ mxA → w.holds (xa x) s' none s' [] = true := fun w hw => h w hw
  have ht : ∀ w ∈ Bundle.throwableAtoms, w.before (xa x) s' = true := fun w hw => h w (mxA_t w hw)
  have hb' : ∀ w ∈ mxB, w.holds (xa x) s' none s' [] = true := fun w hw => h w (mxA_b w hw)
  have howns : (xe x).platform.frameOwnsMonitors = true := by rw [X0.admits.platform]
  have hfin : (xe x).platform.finalization = false := by rw [X0.admits.platform]
  have hpl : (xe x).platform.magicAccessors = ({} : Platform).magicAccessors := by rw [X0.admits.platform]
  obtain ⟨TC, Z, L, LZ, Yt⟩ := ThrowableC.of_atoms (args := xa x) howns hfin hpl ht
  obtain ⟨P1, Ps, hlen, L1, hL, hP1m, hlink1, hlink⟩ := Bundle.chain0 (args := xa x) hpl Yt.init0 [] "java/lang/Exception" (by decide) (fun _ h => nomatch h) (fun w hw => h w (mxA_c w hw))
  obtain ⟨cell, q1, q2, q3, q4⟩ := h1.2.2.2.2.2.2.1 a 5 _ hT rfl
  obtain ⟨hS, hfc, kC, hkC, hkind⟩ := (cx_K X).1 5 _ rfl
  have hfc' : s'.vm.findClass RX5 = some cell.cls := by rw [hvm, q2]; exact hfc
  have hkC' : s'.vm.classes[cell.cls]? = some kC := by rw [hvm, q2]; exact hkC
  have hmon := h1.2.2.2.2.2.2.2.2.2 a (by omega) (by omega) cell q1
  have hsel0 : selectMethod (xe x).platform s'.vm cell.cls TC.fill0 = .method TC.fill0 := by
    obtain ⟨c2, r2, m2, p1, p2, p3, p4, -⟩ := Cond.selects_spec (hb' (.selects RX5 Bundle.tFill0 Bundle.tFill0) (by simp [mxB]))
    cases Option.some.inj (p1.symm.trans hfc')
    cases Option.some.inj (p2.symm.trans (State.methodFound?_of_named Yt.fill0 (by decide)))
    cases Option.some.inj (p3.symm.trans Yt.fill0)
    rw [Launch.admits_selectMethod X0.admits]; exact p4
  have hselF : selectMethod (xe x).platform s'.vm cell.cls TC.fill = .method TC.fill := by
    obtain ⟨c2, r2, m2, p1, p2, p3, p4, -⟩ := Cond.selects_spec (hb' (.selects RX5 Bundle.tFill Bundle.tFill) (by simp [mxB]))
    cases Option.some.inj (p1.symm.trans hfc')
    cases Option.some.inj (p2.symm.trans (State.methodFound?_of_named Yt.fill (by decide)))
    cases Option.some.inj (p3.symm.trans Yt.fill)
    rw [Launch.admits_selectMethod X0.admits]; exact p4
  obtain ⟨cellS0, hcS0, hiss⟩ := Yt.statics
  obtain ⟨u0, hu0⟩ := Cond.staticRefV Yt.unassigned L.unassignedStatic L.statics hcS0 hiss (hb' (.isRef (.static Bundle.tN "UNASSIGNED_STACK" Bundle.steD)) (by simp [mxB]))
  obtain ⟨sen, hsen⟩ := Cond.staticRefV Yt.sentinel L.sentinelStatic L.statics hcS0 hiss (hb' (.isRef (.static Bundle.tN "SUPPRESSED_SENTINEL" Bundle.listD)) (by simp [mxB]))
  obtain ⟨ci198, i198, fB, hk198, hg198, ha198, hsB, -, hnB, htB, hffB⟩ := Cond.ownField (t := .object "java/lang/Object") Yt.found L.cls (by decide +kernel) (hb' (.fieldLink Bundle.tN 198 Bundle.tN "backtrace" "Ljava/lang/Object;") (by simp [mxB])) (hb' (.lays Bundle.tN Bundle.tN "backtrace" "Ljava/lang/Object;") (by simp [mxB])) (xe x).platform hpl
  rw [hhp] at hcS0
  have hneS : TC.aS ≠ a := fun c => by rw [c, q1] at hcS0; cases hcS0; rw [q3] at hiss; cases hiss
  have hknownS : cellS0.vm ≠ .unknown := by
    intro hu
    rw [hu] at hiss
    cases hiss
  have hK' : va_K (kD G) clT (tysT G) s' := (cx_K X).moved (by rw [hvm]; exact (State.WarmedH.refl (xs x)).alike)
  obtain ⟨hS', -⟩ := hK'.1 5 _ rfl
  have pl : ∀ (k : Nat) (f : Field) (c9 i9 : Nat) (k9 : Class), k < 8 → s'.fieldFound? (TX5 k).1 (TX5 k).2.1 (TX5 k).2.2.1 = some (c9, k9, i9, f) → f.slot = (kD G).2 5 k := by
    intro k f c9 i9 k9 hk hf9
    obtain ⟨cf, kf, fi, f2, hi, hsl⟩ := hS' k hk
    cases hf9.symm.trans hi
    exact hsl
  have pC : TC.fCause.slot = (kD G).2 5 0 := pl 0 _ _ _ _ (by decide) Yt.cause
  have pS : TC.fStack.slot = (kD G).2 5 1 := pl 1 _ _ _ _ (by decide) Yt.stack
  have pP : TC.fSupp.slot = (kD G).2 5 2 := pl 2 _ _ _ _ (by decide) Yt.supp
  have pB : fB.slot = (kD G).2 5 4 := pl 4 _ _ _ _ (by decide) hffB
  have hap := va_apart (own := RX5) X.1.2.2.2.2 in_X5 tyX5 tyX5_ok nmX5 (cx_K X) (ci := 5) rfl
  have tk : ∀ (k : Nat) (f : Field) (v : Value) (nm d : String), k < 8 → f.slot = (kD G).2 5 k → kC.instanceTypes[f.slot]? = some f.type → fits f.type v = true → Takes s' cell f v := by
    intro k f v nm d hk hs hty hv
    refine ⟨?_, ?_⟩
    · rw [hs]; exact k2_hasslot (q4 k hk)
    · simp [State.fitsSlot, State.slotType?, hkC', hkind, q3, hty, hv]
  obtain ⟨tyC, -⟩ := Cond.laysAt hfc' hkC' Yt.cause (hb' (.lays RX5 Bundle.tN "cause" "Ljava/lang/Throwable;") (by simp [mxB]))
  obtain ⟨tyS, -⟩ := Cond.laysAt hfc' hkC' Yt.stack (hb' (.lays RX5 Bundle.tN "stackTrace" Bundle.steD) (by simp [mxB]))
  obtain ⟨tyP, -⟩ := Cond.laysAt hfc' hkC' Yt.supp (hb' (.lays RX5 Bundle.tN "suppressedExceptions" Bundle.listD) (by simp [mxB]))
  have c1 := t_set q4 hap (k := 0) (by decide) (.ref a)
  have c2 := t_set c1 hap (k := 1) (by decide) u0.v
  have c3 := t_set c2 hap (k := 2) (by decide) sen.v
  have c4 := t_set c3 hap (k := 1) (by decide) u0.v
  have hback : ((preparedCellV TC.toThrowableT cell a u0 sen).withEntry T.cur).slots[fB.slot]? = some .null := by
    rw [pB]
    show (((cell.setSlot TC.fCause.slot (.ref a)).setSlot TC.fStack.slot u0.v).setSlot TC.fSupp.slot sen.v).slots[(kD G).2 5 4]? = some .null
    rw [pC, pS, pP, c3 4 (by decide)]
    show some (oF s a 5 4) = some .null
    show some (oVal (tyX5 4) s a 4) = some .null
    show some (va_rf (gR s a 4)) = some .null
    rw [hz]; rfl
  have hskip : SkipFacts TC (xe x).platform s' (fun u => u) u0 ((preparedCellV TC.toThrowableT cell a u0 sen).withEntry T.cur) :=
    ⟨{ ci198 := ci198, i198 := i198, fBack := fB }, ⟨hk198, hg198, ha198, hsB⟩, hback, fun _ _ => rfl⟩
  have hown' : s'.vm.findClass RX5 = some (xm x).cls := by rw [hvm]; exact X.1.2.2.2.1
  have hd' : decode (xc x).code pc = .ok (.invokespecial 1, 3) := by rw [X.1.2.1]; exact hd
  obtain ⟨tm, methC, cdC, kCx, vm₁, hnC, -, -, -, -, -, -, -, hW₁, st1⟩ := Steps.initCold (tb := (xp x).tables) (e := xe x) (below := xb x) (s := s') (U := T) Y.here hexec Y.warmed hpl hown' (t := Bundle.init0 "java/lang/Exception") rfl rfl (by decide)
    (hb' (.methodLink RX5 1 (Bundle.init0 "java/lang/Exception")) (by simp [mxB])) (h (.instanceMethod (Bundle.init0 "java/lang/Exception")) (mxA_c _ (by simp [Bundle.chain0Atoms, Bundle.passAtoms]))) (bytes := Bundle.five) (maxL := 1) (h (.code (Bundle.init0 "java/lang/Exception") Bundle.five 1 none) (mxA_c _ (by simp [Bundle.chain0Atoms, Bundle.passAtoms])))
    (f := F0 (xm x) pc ls (.ref a :: rest)) rfl (a := a) (rest := rest) rfl hd'
  cases Option.some.inj (hnC.symm.trans hP1m)
  have X₁ := Y.noted hW₁
  obtain ⟨vm₂, X₂, st2⟩ := X₁.ctorPlainOffV hexec (g := F0 (xm x) pc ls rest) rfl (h3.1.trans X.1.2.2.1.symm) TC L Z LZ (P1 :: Ps)
    (fun P hP => by rcases List.mem_cons.mp hP with rfl | hP; exact L1; exact hL P hP) ⟨hlink1, hlink⟩ (u0 := u0) (sen := sen) (self := a) (cell := cell) (cellS := cellS0)
    q1 (fun k => by rw [q3]; exact fun h => by cases h) (by rw [q3]; exact fun h => by cases h) hmon.1 hmon.2 hsel0 hselF hcS0 hneS hknownS hu0 hsen
    (tk 0 _ _ "" "" (by decide) pC tyC (by rw [Yt.causeType]; rfl)) (tk 1 _ _ "" "" (by decide) pS tyS (by rw [Yt.stackType]; exact fits_refV_array _ u0)) (tk 2 _ _ "" "" (by decide) pP tyP (by rw [Yt.suppType]; exact fits_refV_object _ sen)) Yt.objLocals hskip htr [] hd'
    (by simp only [List.length_cons, hlen, List.length_nil]; show 0 + 1 + 2 < (xR x).frames; rw [X.2.2.2.1]; omega) (by simp only [List.length_cons, hlen, List.length_nil]; show 2 * (0 : Nat) + _ + _ ≤ (xR x).locals; rw [X.2.2.2.1]; show 2 * 0 + (rest.map fun v => v.category).sum + _ ≤ _; omega)
  obtain ⟨ou, hou⟩ := rv_some u0
  obtain ⟨os, hos⟩ := rv_some sen
  subst hA'
  have X5 := mx_back9 X0 Y X₂
  have hlt : a < ((T.setVm vm₁).setVm vm₂).heap.size := (Array.getElem?_eq_some_iff.mp q1).1
  obtain ⟨ce9, hce9⟩ : ∃ z, z = (preparedCellV TC.toThrowableT cell a u0 sen).setSlot TC.fStack.slot u0.v := ⟨_, rfl⟩
  rw [← hce9] at X5 st2
  have hh : (((T.setVm vm₁).setVm vm₂).setCell a ce9).heap[a]? = some ce9 := heapAt_setCell_self (s := (T.setVm vm₁).setVm vm₂) ce9 hlt
  have ho : ∀ q : Nat, q ≠ a → (((T.setVm vm₁).setVm vm₂).setCell a ce9).heap[q]? = T.heap[q]? := fun q hq => by
    show (T.heap.setIfInBounds a ce9)[q]? = _
    rw [Array.getElem?_setIfInBounds, if_neg (fun c => hq c.symm)]
  have hz9 : (((T.setVm vm₁).setVm vm₂).setCell a ce9).heap.size = T.heap.size := by
    show (T.heap.setIfInBounds a ce9).size = _
    rw [Array.size_setIfInBounds]
  have hrel : Rel G (pR (pR (pR s a 0 (some a)) a 1 ou) a 2 os) (((T.setVm vm₁).setVm vm₂).setCell a ce9).heap := by
    refine rel_upd h1 hz9 ho rfl rfl rfl (fun _ _ _ => rfl) (fun _ _ _ => rfl) (fun q j hq => by rw [gR_pR, if_neg (fun c => hq c.1), gR_pR, if_neg (fun c => hq c.1), gR_pR, if_neg (fun c => hq c.1)]) (fun _ c => by omega) (fun c => by omega) (fun _ c => by omega) (fun c9 q9 g1 g2 => ?_) (fun c => ((c.pR ⟨by omega, by omega, by omega, by omega⟩ 0 (some a)).pR (s := pR s a 0 (some a)) ⟨by rw [gT_pR]; omega, by rw [gT_pR]; omega, by rw [gT_pR]; omega, by rw [gT_pR]; omega⟩ 1 ou).pR (s := pR (pR s a 0 (some a)) a 1 ou) ⟨by rw [gT_pR, gT_pR]; omega, by rw [gT_pR, gT_pR]; omega, by rw [gT_pR, gT_pR]; omega, by rw [gT_pR, gT_pR]; omega⟩ 2 os) (by omega) (fun _ _ c hc => by cases hh.symm.trans hc; rw [hce9]; exact hmon)
    have : c9 = 5 := by omega
    subst this
    cases g2
    refine ⟨ce9, hh, by rw [hce9]; exact q2, by rw [hce9]; exact q3, fun k hk => ?_⟩
    rw [hce9, ← oF_pR (s := pR (pR s a 0 (some a)) a 1 ou) (a := a) (ci := 5) (k := 2) (v := os) (fun _ _ => rfl) k]
    show (((((cell.setSlot TC.fCause.slot (.ref a)).setSlot TC.fStack.slot u0.v).setSlot TC.fSupp.slot sen.v)).setSlot TC.fStack.slot u0.v).slots[(kD G).2 5 k]? = _
    rw [pC, pS, pP, c4 k hk]
    congr 1
    unfold updV
    by_cases k2 : k = 2
    · subst k2; simp [hos]
    · rw [if_neg k2, ← oF_pR (s := pR s a 0 (some a)) (a := a) (ci := 5) (k := 1) (v := ou) (fun _ _ => rfl) k]
      unfold updV
      by_cases k1 : k = 1
      · subst k1; simp [hou]
      · rw [if_neg k1, ← oF_pR (s := s) (a := a) (ci := 5) (k := 0) (v := some a) (fun _ _ => rfl) k]
        unfold updV
        simp only [if_neg k2, if_neg k1]
        rfl
  obtain ⟨t, a1, b1⟩ := kk ou os _ rfl _ _ ls hrel ⟨by rw [hz9]; exact h2.1, fun q g1 g2 => (ho q (fun c => g2 (by rw [c]; exact hw))).trans (h2.2.1 q g1 g2), fun z hz => by
    rcases List.mem_append.mp hz with hz | hz
    · exact h2.2.2 z hz
    · simp only [List.nil_append, List.mem_cons, List.not_mem_nil, or_false] at hz
      rcases hz with rfl | rfl | rfl | rfl <;> exact hw⟩ h3 _ rfl X5
  refine ⟨t, st1 _ (fun acts => ?_), b1⟩
  rw [doInvoke_state]
  exact st2 _ a1
end XS
