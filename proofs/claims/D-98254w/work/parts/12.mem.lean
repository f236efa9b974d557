/-! PART 12: the memory behind the rows -/
set_option maxRecDepth 100000
theorem nw_F {G : GT} (g : GK G) {U : State} (h : (k0 G).WarmedH U.vm) {a : String} {i : Nat} {b n d hs : String} (hw : Cond.fieldLinkNest a i b n d hs ∈ lw_tbl) (args : Array Value) : (Cond.fieldLinkNest a i b n d hs).before args U = true :=
  va_Nw.use rfl (va_Nw.warmF h (va_Nw.of rfl (g.1 _ hw)))
theorem nw_M {G : GT} (g : GK G) {U : State} (h : (k0 G).WarmedH U.vm) {a : String} {i : Nat} {y : MethodName} {hs : String} (hw : Cond.methodLinkNest a i y hs ∈ lw_tbl) : va_Nw (.methodLinkNest a i y hs) U :=
  va_Nw.warmM h (va_Nw.of rfl (g.1 _ hw))
theorem nw_C {G : GT} (g : GK G) {U : State} (h : (k0 G).WarmedH U.vm) {C T : String} (hw : Cond.castable C T ∈ lw_tbl) : va_Nw (.castable C T) U :=
  va_Nw.warmC h (va_Nw.of rfl (g.1 _ hw))
theorem Lay.pI {G : GT} {s : PS} (h : Lay G s) (a k : Nat) (v : Int32) : Lay G (pI s a k v) := h
theorem Lay.pL {G : GT} {s : PS} (h : Lay G s) (a k : Nat) (v : Int64) : Lay G (pL s a k v) := h
/-- the kinds that the layout's references sit in -/
theorem ly_own : ∀ q ∈ ly_R, ∃ t ∈ ([8, 100, 101, 102] : List Nat), ∃ n, ly_T[q.1]? = some (t, n) := by
  intro q hq
  have h1 : ly_R.all (fun q => ([8, 100, 101, 102] : List Nat).any (fun t => (ly_T[q.1]?).any (fun c => c.1 == t))) = true := by decide +kernel
  have h2 := List.all_eq_true.mp h1 q hq
  obtain ⟨t, ht, h3⟩ := List.any_eq_true.mp h2
  refine ⟨t, ht, ?_⟩
  cases h4 : ly_T[q.1]? with
  | none => rw [h4] at h3; cases h3
  | some c =>
    rw [h4] at h3
    have h5 : c.1 = t := by simpa using h3
    exact ⟨c.2, by rw [← h5]⟩
theorem ly_lt : ∀ (i : Nat) (q : Nat × Nat), ly_T[i]? = some q → i < 202 ∧ q.1 ≠ 0 := by
  intro i q h
  have h1 := (List.getElem?_eq_some_iff.mp h).1
  have h2 : i < 202 := h1
  have h3 : ∀ j, j < 202 → ∀ q, ly_T[j]? = some q → q.1 ≠ 0 := by decide +kernel
  exact ⟨h2, h3 i h2 q h⟩
theorem Lay.pR {G : GT} {s : PS} (h : Lay G s) {a : Nat} (ha : gT s a ≠ 8 ∧ gT s a ≠ 100 ∧ gT s a ≠ 101 ∧ gT s a ≠ 102) (k : Nat) (v : Option Nat) : Lay G (pR s a k v) := by
  refine ⟨h.1, fun j q hq k' r hr => ?_⟩
  obtain ⟨t, ht, n, hn⟩ := ly_own q (List.mem_of_getElem? hq)
  have h1 := (h.1 _ _ hn).1
  have hne : kB G + q.1 ≠ a := by
    intro e
    rw [e] at h1
    simp only [List.mem_cons, List.not_mem_nil, or_false] at ht
    rcases ht with e1 | e1 | e1 | e1 <;> subst e1 <;> simp_all
  rw [gR_pR, if_neg (fun c => hne c.1)]
  exact h.2 j q hq k' r hr
theorem Lay.pNew {G : GT} {s : PS} (h : Lay G s) (hz : ∀ a, gT s a ≠ 0 → a < gZ s) (t n : Nat) : Lay G (pNew s t n) := by
  have hne : ∀ i q, ly_T[i]? = some q → kB G + i ≠ gZ s := by
    intro i q hq e
    have := hz (kB G + i) (by rw [(h.1 i q hq).1]; exact (ly_lt i q hq).2)
    omega
  refine ⟨fun i q hq => ?_, fun j q hq k' r hr => ?_⟩
  · rw [gT_pNew, gN_pNew, if_neg (hne i q hq), if_neg (hne i q hq)]
    exact h.1 i q hq
  · obtain ⟨t', -, n', hn⟩ := ly_own q (List.mem_of_getElem? hq)
    rw [gR_pNew, if_neg (hne _ _ hn)]
    exact h.2 j q hq k' r hr
theorem oF_ne {s s' : PS} {a ci : Nat} (hI : ∀ k, gI s' a k = gI s a k) (hL : ∀ k, gL s' a k = gL s a k) (hR : ∀ k, gR s' a k = gR s a k) : oF s' a ci = oF s a ci := by
  funext k
  unfold oF oVal
  split <;> simp [hI, hL, hR]
/-- one cell has changed, in the heap and in the memory -/
theorem rel_upd {G : GT} {s s' : PS} {H H1 : Heap} {a : Nat} (h : Rel G s H) (z : H1.size = H.size) (oq : ∀ q, q ≠ a → H1[q]? = H[q]?)
    (hT : gT s' = gT s) (hN : gN s' = gN s) (hZ : gZ s' = gZ s) (hI : ∀ q k, q ≠ a → gI s' q k = gI s q k) (hL : ∀ q k, q ≠ a → gL s' q k = gL s q k) (hR : ∀ q k, q ≠ a → gR s' q k = gR s q k)
    (n1 : 1 ≤ gT s a → gT s a ≤ 3 → H1[a]? = some (arrV (kA G (gT s a)) (gN s a) (fun j => .int (gI s' a j))))
    (n2 : gT s a = 4 → H1[a]? = some (arrV (kA G 4) (gN s a) (fun j => .long (gL s' a j))))
    (n3 : 5 ≤ gT s a → gT s a < 100 → H1[a]? = some (arrV (kA G (gT s a)) (gN s a) (fun j => va_rf (gR s' a j))))
    (n4 : ∀ (ci : Nat) (q : vw_C), gT s a = 100 + ci → clT[ci]? = some q → t_OB a ((kD G).1 ci) q.2.2 ((kD G).2 ci) H1 (oF s' a ci))
    (lay : Lay G s → Lay G s') (old : gT s a < 200) (n5 : 100 ≤ gT s a → gT s a < 200 → Mn H1 a) : Rel G s' H1 := by
  obtain ⟨e1, e2, e3, e4, e5, e6, e7, e8, e9, e10⟩ := h
  refine ⟨by rw [hZ, z]; exact e1, by rw [z]; exact e2, fun q hq => by rw [z]; rw [hT] at hq; exact e3 q hq, fun q h1 h2 => ?_, fun q h1 => ?_, fun q h1 h2 => ?_, fun q ci c h1 h2 => ?_, fun h1 => ⟨lay (e8 h1).1, (e8 h1).2⟩, ?_, fun q h1 h2 => ?_⟩
  rotate_left 4
  · intro q hq
    rw [hT] at hq
    have ne : q ≠ a := fun h => by rw [h] at hq; omega
    obtain ⟨c1, c2, c3, c4⟩ := e9 q hq
    exact ⟨by rw [hT]; exact c1, by rw [hN]; exact c2, fun k => by rw [hI q k ne]; exact c3 k, fun k => by rw [hR q k ne]; exact c4 k⟩
  · rw [hT] at h1 h2
    by_cases hq : q = a
    · rw [hq] at h1 h2 ⊢; exact n5 h1 h2
    · exact (e10 q h1 h2).kept (oq q hq)
  · rw [hT] at h1 h2 ⊢; rw [hN]
    by_cases hq : q = a
    · subst hq; exact n1 h1 h2
    · rw [oq q hq, e4 q h1 h2]; simp only [hI q _ hq]
  · rw [hT] at h1; rw [hN]
    by_cases hq : q = a
    · subst hq; exact n2 h1
    · rw [oq q hq, e5 q h1]; simp only [hL q _ hq]
  · rw [hT] at h1 h2 ⊢; rw [hN]
    by_cases hq : q = a
    · subst hq; exact n3 h1 h2
    · rw [oq q hq, e6 q h1 h2]; simp only [hR q _ hq]
  · rw [hT] at h1
    by_cases hq : q = a
    · subst hq; exact n4 ci c h1 h2
    · rw [oF_ne (fun k => hI q k hq) (fun k => hL q k hq) (fun k => hR q k hq)]
      exact (e7 q ci c h1 h2).kept (oq q hq)
theorem rel_iast {G : GT} {s : PS} {H H1 : Heap} {a k : Nat} {v : Int32} (h : Rel G s H) (t1 : 1 ≤ gT s a) (t2 : gT s a ≤ 3)
    (e : H1[a]? = some ((arrV (kA G (gT s a)) (gN s a) (fun j => .int (gI s a j))).setSlot k (.int v))) (z : H1.size = H.size) (oq : ∀ q, q ≠ a → H1[q]? = H[q]?) : Rel G (pI s a k v) H1 := by
  refine rel_upd h z oq rfl rfl rfl (fun q j hq => by rw [gI_pI, if_neg (fun c => hq c.1)]) (fun _ _ _ => rfl) (fun _ _ _ => rfl) (fun _ _ => ?_) (fun c => by omega) (fun c => by omega) (fun ci q c => by omega) (fun c => c.pI a k v) (by omega) (fun c => by omega)
  rw [e, arrV_store]
  congr 2
  funext j
  unfold updV
  rw [gI_pI]
  by_cases hj : j = k
  · subst hj; simp
  · rw [if_neg hj, if_neg (fun c => hj c.2)]
theorem rel_last {G : GT} {s : PS} {H H1 : Heap} {a k : Nat} {v : Int64} (h : Rel G s H) (t : gT s a = 4)
    (e : H1[a]? = some ((arrV (kA G 4) (gN s a) (fun j => .long (gL s a j))).setSlot k (.long v))) (z : H1.size = H.size) (oq : ∀ q, q ≠ a → H1[q]? = H[q]?) : Rel G (pL s a k v) H1 := by
  refine rel_upd h z oq rfl rfl rfl (fun _ _ _ => rfl) (fun q j hq => by rw [gL_pL, if_neg (fun c => hq c.1)]) (fun _ _ _ => rfl) (fun c => by omega) (fun _ => ?_) (fun c => by omega) (fun ci q c => by omega) (fun c => c.pL a k v) (by omega) (fun c => by omega)
  rw [e, arrV_store]
  congr 2
  funext j
  unfold updV
  rw [gL_pL]
  by_cases hj : j = k
  · subst hj; simp
  · rw [if_neg hj, if_neg (fun c => hj c.2)]
theorem rel_aast {G : GT} {s : PS} {H H1 : Heap} {a k : Nat} {v : Option Nat} (h : Rel G s H) (t1 : 5 ≤ gT s a) (t2 : gT s a < 100) (t8 : gT s a ≠ 8)
    (e : H1[a]? = some ((arrV (kA G (gT s a)) (gN s a) (fun j => va_rf (gR s a j))).setSlot k (va_rf v))) (z : H1.size = H.size) (oq : ∀ q, q ≠ a → H1[q]? = H[q]?) : Rel G (pR s a k v) H1 := by
  refine rel_upd h z oq rfl rfl rfl (fun _ _ _ => rfl) (fun _ _ _ => rfl) (fun q j hq => by rw [gR_pR, if_neg (fun c => hq c.1)]) (fun c => by omega) (fun c => by omega) (fun _ _ => ?_) (fun ci q c => by omega) (fun c => c.pR ⟨t8, by omega, by omega, by omega⟩ k v) (by omega) (fun c => by omega)
  rw [e, arrV_store]
  congr 2
  funext j
  unfold updV
  rw [gR_pR]
  by_cases hj : j = k
  · subst hj; simp
  · rw [if_neg hj, if_neg (fun c => hj c.2)]
/-- a new cell -/
theorem rel_new {G : GT} {s : PS} {H H1 : Heap} {t n : Nat} (h : Rel G s H) (z : H1.size = H.size + 1) (oq : ∀ q, q < H.size → H1[q]? = H[q]?)
    (n1 : 1 ≤ t → t ≤ 3 → H1[H.size]? = some (arrV (kA G t) n (fun _ => .int 0)))
    (n2 : t = 4 → H1[H.size]? = some (arrV (kA G 4) n (fun _ => .long 0)))
    (n3 : 5 ≤ t → t < 100 → H1[H.size]? = some (arrV (kA G t) n (fun _ => .null)))
    (n4 : ∀ (ci : Nat) (q : vw_C), t = 100 + ci → clT[ci]? = some q → t_OB H.size ((kD G).1 ci) q.2.2 ((kD G).2 ci) H1 (fun k => defaultValue (tyT ci k))) (hdf : ∀ ci k, t = 100 + ci → oVal (tyT ci k) (pNew s t n) H.size k = defaultValue (tyT ci k)) (ht : t < 200) (n5 : 100 ≤ t → Mn H1 H.size) : Rel G (pNew s t n) H1 := by
  have hR := h
  obtain ⟨e1, e2, e3, e4, e5, e6, e7, e8, e9, e10⟩ := h
  have lt : ∀ {q : Nat} {c : Cell}, H[q]? = some c → q < H.size := fun hc => (Array.getElem?_eq_some_iff.mp hc).1
  refine ⟨by rw [gZ_pNew, z, e1], by omega, fun q hq => ?_, fun q h1 h2 => ?_, fun q h1 => ?_, fun q h1 h2 => ?_, fun q ci c h1 h2 => ?_, fun h1 => ⟨(e8 h1).1.pNew (by rw [e1]; exact e3) t n, (e8 h1).2⟩, ?_, fun q h1 h2 => ?_⟩
  rotate_left 5
  · intro q hq
    have ne : ¬ q = gZ s := fun h => by rw [gT_pNew, if_pos h] at hq; omega
    rw [gT_pNew, if_neg ne] at hq
    obtain ⟨c1, c2, c3, c4⟩ := e9 q hq
    exact ⟨by rw [gT_pNew, if_neg ne]; exact c1, by rw [gN_pNew, if_neg ne]; exact c2, fun k => by rw [gI_pNew, if_neg ne]; exact c3 k, fun k => by rw [gR_pNew, if_neg ne]; exact c4 k⟩
  · rw [gT_pNew, e1] at h1 h2
    by_cases c : q = H.size
    · subst c; rw [if_pos rfl] at h1; exact n5 h1
    · rw [if_neg c] at h1 h2
      exact (e10 q h1 h2).kept (oq q (e3 q (by omega)))
  · rw [gT_pNew, e1] at hq
    by_cases c : q = H.size
    · omega
    · rw [if_neg c] at hq; have := e3 q hq; omega
  · rw [gT_pNew, e1] at h1 h2 ⊢; rw [gN_pNew, e1]
    by_cases c : q = H.size
    · subst c; rw [if_pos rfl] at h1 h2 ⊢; rw [if_pos rfl, n1 h1 h2]; simp only [gI_pNew, e1, if_true]
    · rw [if_neg c] at h1 h2 ⊢; rw [if_neg c]
      have := e4 q h1 h2
      rw [oq q (lt this), this]; simp only [gI_pNew, e1, c, if_false]
  · rw [gT_pNew, e1] at h1; rw [gN_pNew, e1]
    by_cases c : q = H.size
    · subst c; rw [if_pos rfl] at h1 ⊢; rw [n2 h1]; simp only [gL_pNew, e1, if_true]
    · rw [if_neg c] at h1 ⊢
      have := e5 q h1
      rw [oq q (lt this), this]; simp only [gL_pNew, e1, c, if_false]
  · rw [gT_pNew, e1] at h1 h2 ⊢; rw [gN_pNew, e1]
    by_cases c : q = H.size
    · subst c; rw [if_pos rfl] at h1 h2 ⊢; rw [if_pos rfl, n3 h1 h2]; simp only [gR_pNew, e1, if_true]; rfl
    · rw [if_neg c] at h1 h2 ⊢; rw [if_neg c]
      have := e6 q h1 h2
      rw [oq q (lt this), this]; simp only [gR_pNew, e1, c, if_false]
  · rw [gT_pNew, e1] at h1
    by_cases c' : q = H.size
    · subst c'; rw [if_pos rfl] at h1
      exact (n4 ci c h1 h2).to (fun k _ => (hdf ci k h1).symm)
    · rw [if_neg c'] at h1
      have h3 := e7 q ci c h1 h2
      rw [oF_ne (s := s) (s' := pNew s t n) (fun k => by rw [gI_pNew, e1, if_neg c']) (fun k => by rw [gL_pNew, e1, if_neg c']) (fun k => by rw [gR_pNew, e1, if_neg c'])]
      obtain ⟨cell, hc, -⟩ := id h3
      exact h3.kept (oq q (lt hc))
theorem oF_new {s : PS} {t n ci k z : Nat} (hz : gZ s = z) (h : defaultValue (tyT ci k) = oVal (tyT ci k) ((fun _ _ => 0), (fun _ _ => 0), (fun _ _ => none), (fun _ => (0, 0)), 0) z k) : oVal (tyT ci k) (pNew s t n) z k = defaultValue (tyT ci k) := by
  rw [h]
  unfold oVal
  split <;> simp [gI_pNew, gL_pNew, gR_pNew, hz] <;> rfl
theorem lay_get {x : CT} {G : GT} {nL : Nat} {Qf : State → Prop} {ce sl : Nat} {s : PS} {pc : Nat} {lv : List (Nat × Value)} {st : List Value} (hph : kP G = 1) (kk : Lay G s → kS G ≤ kB G → WB x G nL Qf ce sl s pc lv st) : WB x G nL Qf ce sl s pc lv st :=
  fun H locs ls h1 h2 h3 => kk (h1.2.2.2.2.2.2.2.1 hph).1 (h1.2.2.2.2.2.2.2.1 hph).2 H locs ls h1 h2 h3
