/-! PART 15: grids; references copied; nest mates' constructors -/
set_option maxRecDepth 100000
theorem nw_A {G : GT} (g : GK G) {U : State} (h : (k0 G).WarmedH U.vm) {ty : FieldType} (hw : Cond.arrayOver ty ∈ lw_tbl) {args : Array Value} : (Cond.arrayOver ty).before args U = true := by
  have h1 := g.1 _ hw
  rw [← Cond.arrayOver_setVmC h.alike ty] at h1
  exact h1
/-- a grid: an array of n rows of k ints -/
def pM (s : PS) (n k : Nat) : PS :=
  (fun x y => if gZ s ≤ x ∧ x ≤ gZ s + n then 0 else s.1 x y, fun x y => if gZ s ≤ x ∧ x ≤ gZ s + n then 0 else s.2.1 x y,
   fun x y => if x = gZ s then (if y < n then some (gZ s + 1 + y) else none) else if gZ s ≤ x ∧ x ≤ gZ s + n then none else s.2.2.1 x y,
   fun x => if x = gZ s then (8, n) else if gZ s ≤ x ∧ x ≤ gZ s + n then (1, k) else s.2.2.2.1 x, gZ s + 1 + n)
theorem gI_pM (s : PS) (n k x y : Nat) : gI (pM s n k) x y = if gZ s ≤ x ∧ x ≤ gZ s + n then 0 else gI s x y := rfl
theorem gL_pM (s : PS) (n k x y : Nat) : gL (pM s n k) x y = if gZ s ≤ x ∧ x ≤ gZ s + n then 0 else gL s x y := rfl
theorem gR_pM (s : PS) (n k x y : Nat) : gR (pM s n k) x y = if x = gZ s then (if y < n then some (gZ s + 1 + y) else none) else if gZ s ≤ x ∧ x ≤ gZ s + n then none else gR s x y := rfl
theorem gT_pM (s : PS) (n k x : Nat) : gT (pM s n k) x = if x = gZ s then 8 else if gZ s ≤ x ∧ x ≤ gZ s + n then 1 else gT s x := by
  show (if x = gZ s then ((8, n) : Nat × Nat) else if gZ s ≤ x ∧ x ≤ gZ s + n then (1, k) else s.2.2.2.1 x).1 = _
  unfold gT
  split
  · rfl
  · split <;> rfl
theorem gN_pM (s : PS) (n k x : Nat) : gN (pM s n k) x = if x = gZ s then n else if gZ s ≤ x ∧ x ≤ gZ s + n then k else gN s x := by
  show (if x = gZ s then ((8, n) : Nat × Nat) else if gZ s ≤ x ∧ x ≤ gZ s + n then (1, k) else s.2.2.2.1 x).2 = _
  unfold gN
  split
  · rfl
  · split <;> rfl
theorem gZ_pM (s : PS) (n k : Nat) : gZ (pM s n k) = gZ s + 1 + n := rfl
theorem outer_is (c : ClassId) (N h0 : Nat) : ∀ i, Jvm.Free.Multi.outerC c N h0 i = arrV c N (fun j => if j < i then .ref (h0 + 1 + j) else .null) := by
  intro i
  induction i with
  | zero =>
    show ({ cls := c, slots := Array.replicate N .null, vm := .none } : Cell) = _
    rw [arrV_new]
    simp
  | succ i ih =>
    show (Jvm.Free.Multi.outerC c N h0 i).setSlot i _ = _
    rw [ih, arrV_store]
    congr 1
    funext j
    unfold updV
    by_cases h : j = i
    · subst h; simp
    · rw [if_neg h]
      dsimp only
      by_cases h2 : j < i
      · rw [if_pos h2, if_pos (by omega)]
      · rw [if_neg h2, if_neg (by omega)]
theorem rel_multi {G : GT} {s : PS} {H H1 : Heap} {n k : Nat} (h : Rel G s H) (z : H1.size = H.size + 1 + n) (oq : ∀ q, q < H.size → H1[q]? = H[q]?)
    (n1 : H1[H.size]? = some (arrV (kA G 8) n (fun j => if j < n then .ref (H.size + 1 + j) else .null)))
    (n2 : ∀ j, j < n → H1[H.size + 1 + j]? = some (arrV (kA G 1) k (fun _ => .int 0))) : Rel G (pM s n k) H1 := by
  obtain ⟨e1, e2, e3, e4, e5, e6, e7, e8, e9, e10⟩ := h
  have lt : ∀ {q : Nat} {c : Cell}, H[q]? = some c → q < H.size := fun hc => (Array.getElem?_eq_some_iff.mp hc).1
  have out : ∀ {q : Nat}, q < H.size → ¬ (q = H.size) ∧ ¬ (H.size ≤ q ∧ q ≤ H.size + n) := fun h => ⟨by omega, by omega⟩
  have old : ∀ q, ¬ (q = H.size) → ¬ (H.size ≤ q ∧ q ≤ H.size + n) → gT (pM s n k) q = gT s q ∧ gN (pM s n k) q = gN s q ∧ (∀ j, gI (pM s n k) q j = gI s q j) ∧ (∀ j, gL (pM s n k) q j = gL s q j) ∧ (∀ j, gR (pM s n k) q j = gR s q j) := by
    intro q c1 c2
    refine ⟨by rw [gT_pM, e1, if_neg c1, if_neg c2], by rw [gN_pM, e1, if_neg c1, if_neg c2], fun j => by rw [gI_pM, e1, if_neg c2], fun j => by rw [gL_pM, e1, if_neg c2], fun j => by rw [gR_pM, e1, if_neg c1, if_neg c2]⟩
  refine ⟨by rw [gZ_pM, z, e1], by omega, fun q hq => ?_, fun q h1 h2 => ?_, fun q h1 => ?_, fun q h1 h2 => ?_, fun q ci c h1 h2 => ?_, fun h1 => ⟨⟨fun i q hq => ?_, fun j q hq k' r hr => ?_⟩, (e8 h1).2⟩, ?_, fun q h1 h2 => ?_⟩
  rotate_left 7
  · intro q hq
    have ne : ¬ (q = H.size) ∧ ¬ (H.size ≤ q ∧ q ≤ H.size + n) := by
      rw [gT_pM, e1] at hq
      by_cases c1 : q = H.size
      · rw [if_pos c1] at hq; omega
      · rw [if_neg c1] at hq
        by_cases c2 : H.size ≤ q ∧ q ≤ H.size + n
        · rw [if_pos c2] at hq; omega
        · exact ⟨c1, c2⟩
    obtain ⟨a1, a2, a3, a4, a5⟩ := old q ne.1 ne.2
    rw [a1] at hq
    obtain ⟨c1, c2, c3, c4⟩ := e9 q hq
    exact ⟨by rw [a1]; exact c1, by rw [a2]; exact c2, fun k => by rw [a3]; exact c3 k, fun k => by rw [a5]; exact c4 k⟩
  · by_cases c1 : q = H.size
    · rw [gT_pM, e1, if_pos c1] at h1; omega
    · by_cases c2 : H.size ≤ q ∧ q ≤ H.size + n
      · rw [gT_pM, e1, if_neg c1, if_pos c2] at h1; omega
      · rw [(old q c1 c2).1] at h1 h2
        exact (e10 q h1 h2).kept (oq q (e3 q (by omega)))
  · by_cases c1 : q = H.size
    · omega
    · by_cases c2 : H.size ≤ q ∧ q ≤ H.size + n
      · omega
      · rw [(old q c1 c2).1] at hq
        have := e3 q hq
        omega
  · by_cases c1 : q = H.size
    · rw [gT_pM, e1, if_pos c1] at h2; omega
    · by_cases c2 : H.size ≤ q ∧ q ≤ H.size + n
      · have ht : gT (pM s n k) q = 1 := by rw [gT_pM, e1, if_neg c1, if_pos c2]
        have hn : gN (pM s n k) q = k := by rw [gN_pM, e1, if_neg c1, if_pos c2]
        rw [ht, hn]
        have := n2 (q - H.size - 1) (by omega)
        rw [show H.size + 1 + (q - H.size - 1) = q by omega] at this
        rw [this]
        simp only [gI_pM, e1, c2, and_self, if_true]
      · obtain ⟨a1, a2, a3, a4, a5⟩ := old q c1 c2
        rw [a1] at h1 h2 ⊢
        rw [a2]
        have hh := e4 q h1 h2
        rw [oq q (lt hh), hh]
        simp only [a3]
  · by_cases c1 : q = H.size
    · rw [gT_pM, e1, if_pos c1] at h1; omega
    · by_cases c2 : H.size ≤ q ∧ q ≤ H.size + n
      · rw [gT_pM, e1, if_neg c1, if_pos c2] at h1; omega
      · obtain ⟨a1, a2, a3, a4, a5⟩ := old q c1 c2
        rw [a1] at h1
        rw [a2]
        have hh := e5 q h1
        rw [oq q (lt hh), hh]
        simp only [a4]
  · by_cases c1 : q = H.size
    · subst c1
      have ht : gT (pM s n k) H.size = 8 := by rw [gT_pM, e1, if_pos rfl]
      have hn : gN (pM s n k) H.size = n := by rw [gN_pM, e1, if_pos rfl]
      rw [ht, hn, n1]
      congr 2
      funext j
      rw [gR_pM, e1, if_pos rfl]
      by_cases hj : j < n
      · rw [if_pos hj, if_pos hj]; rfl
      · rw [if_neg hj, if_neg hj]; rfl
    · by_cases c2 : H.size ≤ q ∧ q ≤ H.size + n
      · rw [gT_pM, e1, if_neg c1, if_pos c2] at h1; omega
      · obtain ⟨a1, a2, a3, a4, a5⟩ := old q c1 c2
        rw [a1] at h1 h2 ⊢
        rw [a2]
        have hh := e6 q h1 h2
        rw [oq q (lt hh), hh]
        simp only [a5]
  · by_cases c1 : q = H.size
    · rw [gT_pM, e1, if_pos c1] at h1; omega
    · by_cases c2 : H.size ≤ q ∧ q ≤ H.size + n
      · rw [gT_pM, e1, if_neg c1, if_pos c2] at h1; omega
      · obtain ⟨a1, a2, a3, a4, a5⟩ := old q c1 c2
        rw [a1] at h1
        have h3 := e7 q ci c h1 h2
        rw [oF_ne (s := s) (s' := pM s n k) a3 a4 a5]
        obtain ⟨cell, hc, -⟩ := id h3
        exact h3.kept (oq q (lt hc))
  · have h3 := ((e8 h1).1.1 i q hq)
    have h4 := e3 (kB G + i) (by rw [h3.1]; exact (ly_lt i q hq).2)
    obtain ⟨a1, a2, -⟩ := old _ (out h4).1 (out h4).2
    rw [a1, a2]
    exact h3
  · obtain ⟨t', -, n', hn⟩ := ly_own q (List.mem_of_getElem? hq)
    have h3 := ((e8 h1).1.1 _ _ hn)
    have h4 := e3 (kB G + q.1) (by rw [h3.1]; exact (ly_lt _ _ hn).2)
    obtain ⟨-, -, -, -, a5⟩ := old _ (out h4).1 (out h4).2
    rw [a5]
    exact (e8 h1).1.2 j q hq k' r hr
section RG
variable {x : CT} {G : GT} {cc : ByteArray} {nL : Nat} {own : String} {ret : Option FieldType} {R0 : Room} {Qf : State → Prop} {ce sl : Nat} {s : PS} {pc : Nat} {lv lv' : List (Nat × Value)} {st rest : List Value} {a : Nat} {i : Int32}
theorem r_multi (X : Cx x G cc nL own ret R0) {index : Nat} (hcl : Cond.classLink own index "[[I" ∈ lw_all) (hov : Cond.arrayOver (.array .int) ∈ lw_tbl) (har : Cond.arrayClass .int ∈ lw_all) {n k : Int32} {N K : Nat} (hN : n.toNatClampNeg = N) (hK : k.toNatClampNeg = K) (hn : ¬ n < 0) (hk : ¬ k < 0) (hb1 : N * 4 ≤ 536870912) (hb2 : K * 4 ≤ 536870912) (hb3 : K ≤ 536870912) (hce : ce + (1 + N) ≤ R0.cells ∧ sl + (N + N * K) ≤ R0.slots) (hd : decode cc pc = .ok (.multianewarray index 2, 4))
    (kk : ∀ z : Nat, z = gZ s → kS G ≤ z → (∀ q, gT s q ≠ 0 → q < z) → ∀ s1 : PS, s1 = pM s N K → WB x G nL Qf (ce + 1 + N) (sl + N + N * K) s1 (pc + 4) lv (.ref z :: rest)) : WB x G nL Qf ce sl s pc lv (.int k :: .int n :: rest) := by
  intro H locs ls g1 g2 g3
  have hR := X.2.2.2.1
  subst hN
  subst hK
  have hA8 := ((cx_K X).2 8 _ (ty_at G (by omega))).2
  have hA1 := ((cx_K X).2 1 _ (ty_at G (by omega))).2
  intro T hT Y
  obtain ⟨vm₁, cA, comp, hW, f1, f2, -, -, Y', step⟩ := Y.multianewarray2F X.1.1 X.1.2.2.2.1 (ty := .int) (X.1.2.2.2.2 _ hcl) (nw_A X.2.2.2.2.1 X.2.2.2.2.2.1 hov) (X.1.2.2.2.2 _ har) (g := F0 (xm x) pc ls (.int k :: .int n :: rest)) rfl (by rw [X.1.2.1]; exact hd) (rest := rest) rfl hn hk hb1 hb2 hb3 rfl rfl (by rw [hR]; exact hce.1) (by rw [hR]; exact hce.2)
  have c8 : cA = kA G 8 := Option.some.inj (f1.symm.trans hA8)
  have c1 : comp = kA G 1 := Option.some.inj (f2.symm.trans hA1)
  subst c8
  subst c1
  have hz : (T.setVm vm₁).heap = H := hT
  obtain ⟨u1, u2, -, -⟩ := Jvm.Free.Multi.fill_facts (T.setVm vm₁) (kA G 8) (kA G 1) n.toNatClampNeg k.toNatClampNeg (defaultValue .int) n.toNatClampNeg
  have u3 := fun q (hq : q < (T.setVm vm₁).heap.size) => Jvm.Free.Multi.fill_old (T.setVm vm₁) (kA G 8) (kA G 1) n.toNatClampNeg k.toNatClampNeg (defaultValue .int) hq n.toNatClampNeg
  have u4 := Jvm.Free.Multi.fill_inner (T.setVm vm₁) (kA G 8) (kA G 1) n.toNatClampNeg k.toNatClampNeg (defaultValue .int) n.toNatClampNeg
  rw [hz] at u1 u2 u3 u4
  rw [outer_is] at u2
  have u5 : ∀ j, j < n.toNatClampNeg → (Jvm.Free.Multi.fill (T.setVm vm₁) (kA G 8) (kA G 1) n.toNatClampNeg k.toNatClampNeg (defaultValue .int) n.toNatClampNeg).heap[H.size + 1 + j]? = some (arrV (kA G 1) k.toNatClampNeg (fun _ => .int 0)) := by
    intro j hj
    rw [u4 j hj, ← arrV_new]
    rfl
  obtain ⟨t, a1, b1⟩ := kk H.size g1.1.symm g1.2.1 g1.2.2.1 _ rfl _ _ ls (rel_multi g1 u1 u3 u2 u5) ⟨by rw [u1]; exact Nat.le_trans g2.1 (by omega), fun q h1 h2 => (u3 q (Nat.lt_of_lt_of_le h1 g2.1)).trans (g2.2.1 q h1 h2), g2.2.2⟩ g3 _ rfl Y'
  refine ⟨t, step t ?_, b1⟩
  rw [hT]
  exact a1
theorem r_okIN {y : MethodName} {host : String} {bytes : ByteArray} {maxL mc ms n index : Nat} {ws : List Cond} {rm : Room} {As : List Value} {b : Nat} {Qa : Array Value → State → Outcome → State → Prop} (X : Cx x G cc nL own ret R0) (hM : Met (xl x) y ws rm (va_Pc (.ref b :: As) (Wr G s)) Qa mc ms (kF G)) (cw : va_CN R0 (xs x) (xa x) own index y host bytes maxL none ws rm mc ms n ∧ y.name = "<init>" ∧ (Cond.instanceMethod y).before (xa x) (xs x) = true) (hn : As.length = n) (hst : st = As.reverse ++ .ref b :: rest) (hr : (rest.map fun v => v.category).sum ≤ 8) (hd : decode cc pc = .ok (.invokespecial index, 3)) (hf : ce + mc ≤ R0.cells ∧ sl + ms ≤ R0.slots) : RunOk x G nL ce sl mc ms s pc lv st rest (Qa (Value.ref b :: As).toArray) := by
  intro H locs ls h1 ho h3
  have hR := X.2.2.2.1
  exact va_runIN X.1 hM (by rw [hR]; exact cw) ⟨wr_blind, wr_pre X h1 ho _⟩ rfl hn h3.1 hst (lv_room hr) hd (by rw [hR]; exact hf)
end RG
