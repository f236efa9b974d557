set_option maxRecDepth 100000
theorem e_X5_init {x : CT} {G : GT} (X : Cx x G cX5_init 3 RX5 none rm_X5_init) (hfl : (xl x).stackTraces = false) (hin : (xM x).name = "<init>") (a0 : Nat) (p1 : Int32) (p2 : Int32) (s : PS) (Q : PS → Prop) (h : w_X5_init G a0 p1 p2 s Q) : WB x G 3 (QfV x G 0 0 Q) 0 0 s 0 [(0, .ref a0), (1, .int p1), (2, .int p2)] [] := by
  unfold w_X5_init at h
  refine r_aload_n X 0 dX5_init_0 rfl rfl ?_
  obtain ⟨g1, h⟩ := h
  obtain ⟨g2, h⟩ := h
  obtain ⟨g3, h⟩ := h
  refine r_super X hfl g1 g2 g3 (Nat.le_of_ble_eq_true rfl) (Nat.le_of_ble_eq_true rfl) (Nat.le_of_ble_eq_true rfl) ⟨Nat.le_of_ble_eq_true rfl, Nat.le_of_ble_eq_true rfl⟩ dX5_init_1 (fun u4 w5 s6 e7 => ?_)
  replace h := h u4 w5 s6 e7
  refine r_aload_n X 0 dX5_init_4 rfl rfl ?_
  refine r_iload_n X 1 dX5_init_5 rfl rfl ?_
  have g8 : gT s6 a0 = 105 := by rw [e7]; exact g1
  refine pf_X5_7 X hin g8 g3 dX5_init_6 (fun s9 e10 => ?_)
  replace h := h s9 e10
  refine r_aload_n X 0 dX5_init_9 rfl rfl ?_
  refine r_iload_n X 2 dX5_init_10 rfl rfl ?_
  have g11 : gT s9 a0 = 105 := by rw [e10]; exact g8
  refine pf_X5_13 X hin g11 g3 dX5_init_11 (fun s12 e13 => ?_)
  replace h := h s12 e13
  exact r_vret X h (Nat.le_of_ble_eq_true rfl) (Nat.le_of_ble_eq_true rfl) dX5_init_14
theorem m_X5_init (l : Launch) (G : GT) (g : GK G) (hfl : l.stackTraces = false) (a0 : Nat) (p1 : Int32) (p2 : Int32) (s : PS) (Q : PS → Prop) (h : w_X5_init G a0 p1 p2 s Q) : Met l yX5_init (ws_ yX5_init cX5_init 3 none) rm_X5_init (va_Pc [.ref a0, .int p1, .int p2] (Wr G s)) (va_Qv Q (fun u t => Wr G u t) (kF G)) 0 0 (kF G) := by
  refine Met.ofW (cc := cX5_init) (maxL := 3) (ret := none) (by decide) rfl ?_
  intro p e s0 m args below meth c s₁ B hml hv
  obtain ⟨rfl, hw⟩ := hv
  exact wb_of [.ref a0, .int p1, .int p2] (Nat.le_of_ble_eq_true rfl) hw.1 rfl (e_X5_init (cx_of g B hml rfl hw) hfl (name_of_methodNamed B.named B.method).1 a0 p1 p2 s Q h)
theorem e_X3_wrong {x : CT} {G : GT} (X : Cx x G cX3_wrong 2 RX3 (some (.object "AgainstFeather$Wrong")) rm_X3_wrong) (hfl : (xl x).stackTraces = false) (a0 : Nat) (p1 : Int32) (s : PS) (Q : Nat → PS → Prop) (h : w_X3_wrong G a0 p1 s Q) : WB x G 2 (QfA x G 1 8 Q) 0 0 s 0 [(0, .ref a0), (1, .int p1)] [] := by
  unfold w_X3_wrong at h
  refine r_new X 5 in_X5 tyX5_ok rfl q525 q526 q153 (df_of df_X5) ⟨Nat.le_of_ble_eq_true rfl, Nat.le_of_ble_eq_true rfl⟩ dX3_wrong_0 (fun z1 e2 w3 u4 s5 e6 => ?_)
  replace h := h z1 e2 w3 u4 s5 e6
  have g7 : gT s5 z1 = 105 := by rw [e6, gT_pNew, if_pos e2]
  refine r_dup X dX3_wrong_3 rfl ?_
  refine r_iload_n X 1 dX3_wrong_4 rfl rfl ?_
  refine r_aload_n X 0 dX3_wrong_5 rfl rfl ?_
  obtain ⟨g8, h⟩ := h
  refine gf_X3_22 X g8 dX3_wrong_6 ?_
  refine r_cv X (r_okI (As := [.int p1, .int (gI s5 a0 3)]) (rest := [.ref z1]) X (m_X5_init (xl x) G X.2.2.2.2.1 hfl z1 p1 (gI s5 a0 3) s5 _ h) (cl_X3_67 X ⟨(Nat.le_of_ble_eq_true rfl), (Nat.le_of_ble_eq_true rfl)⟩) rfl rfl (Nat.le_of_ble_eq_true rfl) dX3_wrong_9 ⟨Nat.le_of_ble_eq_true rfl, Nat.le_of_ble_eq_true rfl⟩) (fun s9 h => ?_)
  exact r_aret X (Or.inl ⟨_, rfl⟩) h (Nat.le_of_ble_eq_true rfl) (Nat.le_of_ble_eq_true rfl) dX3_wrong_12
theorem m_X3_wrong (l : Launch) (G : GT) (g : GK G) (hfl : l.stackTraces = false) (a0 : Nat) (p1 : Int32) (s : PS) (Q : Nat → PS → Prop) (h : w_X3_wrong G a0 p1 s Q) : Met l yX3_wrong (ws_ yX3_wrong cX3_wrong 2 (some (.object "AgainstFeather$Wrong"))) rm_X3_wrong (va_Pc [.ref a0, .int p1] (Wr G s)) (va_Qr (fun u : Nat × PS => Q u.1 u.2) (fun u a t => a = u.1 ∧ Wr G u.2 t) (kF G)) 1 8 (kF G) := by
  refine Met.ofW (cc := cX3_wrong) (maxL := 2) (ret := (some (.object "AgainstFeather$Wrong"))) (by decide) rfl ?_
  intro p e s0 m args below meth c s₁ B hml hv
  obtain ⟨rfl, hw⟩ := hv
  exact wb_of [.ref a0, .int p1] (Nat.le_of_ble_eq_true rfl) hw.1 rfl (e_X3_wrong (cx_of g B hml rfl hw) hfl a0 p1 s Q h)
theorem e_X3_isLetter {x : CT} {G : GT} (X : Cx x G cX3_isLetter 1 RX3 (some .boolean) rm_X3_isLetter) (p1 : Int32) (s : PS) (Q : Int32 → PS → Prop) (h : w_X3_isLetter G p1 s Q) : WB x G 1 (QfI x G 0 0 (fun r u => (r = 0 ∨ r = 1) ∧ Q r u)) 0 0 s 0 [(0, .int p1)] [] := by
  unfold w_X3_isLetter at h
  refine r_iload_n X 0 dX3_isLetter_0 rfl rfl ?_
  refine r_bipush (v := 97) X dX3_isLetter_1 rfl ?_
  have hJ : WB x G 1 (QfI x G 0 0 (fun r u => (r = 0 ∨ r = 1) ∧ Q r u)) 0 0 s 29 [(0, .int p1)] [.int (if p1 < 97 then (if p1 < 65 then 0 else (if 90 < p1 then 0 else 1 : Int32) : Int32) else (if p1 ≤ 122 then 1 else (if p1 < 65 then 0 else (if 90 < p1 then 0 else 1 : Int32) : Int32) : Int32) : Int32)] := by
    exact r_zret X (by (repeat' split) <;> first | exact Or.inl rfl | exact Or.inr rfl) h (Nat.le_of_ble_eq_true rfl) (Nat.le_of_ble_eq_true rfl) dX3_isLetter_29
  refine r_ic_lt X 12 dX3_isLetter_3 (by decide) (fun c6 => ?_) (fun c6 => ?_)
  · rw [if_pos c6] at hJ
    refine r_iload_n X 0 dX3_isLetter_12 rfl rfl ?_
    refine r_bipush (v := 65) X dX3_isLetter_13 rfl ?_
    refine r_ic_lt X 28 dX3_isLetter_15 (by decide) (fun c2 => ?_) (fun c2 => ?_)
    · rw [if_pos c2] at hJ
      refine r_iconst (v := 0) X dX3_isLetter_28 rfl ?_
      exact hJ
    · rw [if_neg c2] at hJ
      refine r_iload_n X 0 dX3_isLetter_18 rfl rfl ?_
      refine r_bipush (v := 90) X dX3_isLetter_19 rfl ?_
      refine r_ic_gt X 28 dX3_isLetter_21 (by decide) (fun c1 => ?_) (fun c1 => ?_)
      · rw [if_pos c1] at hJ
        refine r_iconst (v := 0) X dX3_isLetter_28 rfl ?_
        exact hJ
      · rw [if_neg c1] at hJ
        refine r_iconst (v := 1) X dX3_isLetter_24 rfl ?_
        refine r_goto X 29 dX3_isLetter_25 (by decide) ?_
        exact hJ
  · rw [if_neg c6] at hJ
    refine r_iload_n X 0 dX3_isLetter_6 rfl rfl ?_
    refine r_bipush (v := 122) X dX3_isLetter_7 rfl ?_
    refine r_ic_le X 24 dX3_isLetter_9 (by decide) (fun c5 => ?_) (fun c5 => ?_)
    · rw [if_pos c5] at hJ
      refine r_iconst (v := 1) X dX3_isLetter_24 rfl ?_
      refine r_goto X 29 dX3_isLetter_25 (by decide) ?_
      exact hJ
    · rw [if_neg c5] at hJ
      refine r_iload_n X 0 dX3_isLetter_12 rfl rfl ?_
      refine r_bipush (v := 65) X dX3_isLetter_13 rfl ?_
      refine r_ic_lt X 28 dX3_isLetter_15 (by decide) (fun c4 => ?_) (fun c4 => ?_)
      · rw [if_pos c4] at hJ
        refine r_iconst (v := 0) X dX3_isLetter_28 rfl ?_
        exact hJ
      · rw [if_neg c4] at hJ
        refine r_iload_n X 0 dX3_isLetter_18 rfl rfl ?_
        refine r_bipush (v := 90) X dX3_isLetter_19 rfl ?_
        refine r_ic_gt X 28 dX3_isLetter_21 (by decide) (fun c3 => ?_) (fun c3 => ?_)
        · rw [if_pos c3] at hJ
          refine r_iconst (v := 0) X dX3_isLetter_28 rfl ?_
          exact hJ
        · rw [if_neg c3] at hJ
          refine r_iconst (v := 1) X dX3_isLetter_24 rfl ?_
          refine r_goto X 29 dX3_isLetter_25 (by decide) ?_
          exact hJ
theorem m_X3_isLetter (l : Launch) (G : GT) (g : GK G) (p1 : Int32) (s : PS) (Q : Int32 → PS → Prop) (h : w_X3_isLetter G p1 s Q) : Met l yX3_isLetter (ws_ yX3_isLetter cX3_isLetter 1 (some .boolean)) rm_X3_isLetter (va_Pc [.int p1] (Wr G s)) (va_Qi (fun r u => (r = 0 ∨ r = 1) ∧ Q r u) (fun u t => Wr G u t) (kF G)) 0 0 (kF G) := by
  refine Met.ofW (cc := cX3_isLetter) (maxL := 1) (ret := (some .boolean)) (by decide) rfl ?_
  intro p e s0 m args below meth c s₁ B hml hv
  obtain ⟨rfl, hw⟩ := hv
  exact wb_of [.int p1] (Nat.le_of_ble_eq_true rfl) hw.1 rfl (e_X3_isLetter (cx_of g B hml rfl hw) p1 s Q h)
theorem e_J3_coder {x : CT} {G : GT} (X : Cx x G cJ3_coder 1 RJ3 (some .byte) rm_J3_coder) (a0 : Nat) (s : PS) (Q : Int32 → PS → Prop) (h : w_J3_coder G a0 s Q) : WB x G 1 (QfI x G 0 0 (fun r u => narrow .byte (.int r) = .int r ∧ Q r u)) 0 0 s 0 [(0, .ref a0)] [] := by
  unfold w_J3_coder at h
  refine r_gets X X.2.2.2.2.1.2.2.2.2.2.2.2.2.2.1 q473 dJ3_coder_0 ?_
  refine r_if_eq X 13 dJ3_coder_3 (by decide) (fun c1 => ?_) (fun c1 => ?_)
  · replace h := h.1 c1
    refine r_iconst (v := 1) X dJ3_coder_13 rfl ?_
    obtain ⟨g2, h⟩ := h
    exact r_nret X g2 h (Nat.le_of_ble_eq_true rfl) (Nat.le_of_ble_eq_true rfl) dJ3_coder_14
  · replace h := h.2 c1
    refine r_aload_n X 0 dJ3_coder_6 rfl rfl ?_
    obtain ⟨g3, h⟩ := h
    refine r_getSc X q2021 g3 dJ3_coder_7 ?_
    refine r_goto X 14 dJ3_coder_10 (by decide) ?_
    obtain ⟨g4, h⟩ := h
    exact r_nret X g4 h (Nat.le_of_ble_eq_true rfl) (Nat.le_of_ble_eq_true rfl) dJ3_coder_14
theorem m_J3_coder (l : Launch) (G : GT) (g : GK G) (a0 : Nat) (s : PS) (Q : Int32 → PS → Prop) (h : w_J3_coder G a0 s Q) : Met l yJ3_coder (ws_ yJ3_coder cJ3_coder 1 (some .byte)) rm_J3_coder (va_Pc [.ref a0] (Wr G s)) (va_Qi (fun r u => narrow .byte (.int r) = .int r ∧ Q r u) (fun u t => Wr G u t) (kF G)) 0 0 (kF G) := by
  refine Met.ofW (cc := cJ3_coder) (maxL := 1) (ret := (some .byte)) (by decide) rfl ?_
  intro p e s0 m args below meth c s₁ B hml hv
  obtain ⟨rfl, hw⟩ := hv
  exact wb_of [.ref a0] (Nat.le_of_ble_eq_true rfl) hw.1 rfl (e_J3_coder (cx_of g B hml rfl hw) a0 s Q h)
theorem e_J3_length {x : CT} {G : GT} (X : Cx x G cJ3_length 1 RJ3 (some .int) rm_J3_length) (a0 : Nat) (s : PS) (Q : Int32 → PS → Prop) (h : w_J3_length G a0 s Q) : WB x G 1 (QfI x G 0 0 Q) 0 0 s 0 [(0, .ref a0)] [] := by
  unfold w_J3_length at h
  refine r_aload_n X 0 dJ3_length_0 rfl rfl ?_
  obtain ⟨g1, h⟩ := h
  refine r_getSv X q2020 g1 dJ3_length_1 ?_
  obtain ⟨q2, g3, h⟩ := h
  refine r_top (show va_rf (gR s a0 0) = Value.ref q2 by rw [g3]; rfl) ?_
  obtain ⟨g4, h⟩ := h
  refine r_alenM X g4 (by decide) dJ3_length_4 ?_
  refine r_aload_n X 0 dJ3_length_5 rfl rfl ?_
  refine r_ci X (r_okVStr (As := []) (rest := [.int (nI (gN s q2))]) X (m_J3_coder (xl x) G X.2.2.2.2.1 a0 s _ h) (cl_J3_335 X ⟨(Nat.le_of_ble_eq_true rfl), (Nat.le_of_ble_eq_true rfl)⟩) g1 rfl rfl (Nat.le_of_ble_eq_true rfl) dJ3_length_6 ⟨Nat.le_of_ble_eq_true rfl, Nat.le_of_ble_eq_true rfl⟩) (fun r6 s5 h => ?_)
  obtain ⟨z7, h⟩ := h
  refine r_ishr X dJ3_length_9 ?_
  exact r_iret X h (Nat.le_of_ble_eq_true rfl) (Nat.le_of_ble_eq_true rfl) dJ3_length_10
theorem m_J3_length (l : Launch) (G : GT) (g : GK G) (a0 : Nat) (s : PS) (Q : Int32 → PS → Prop) (h : w_J3_length G a0 s Q) : Met l yJ3_length (ws_ yJ3_length cJ3_length 1 (some .int)) rm_J3_length (va_Pc [.ref a0] (Wr G s)) (va_Qi Q (fun u t => Wr G u t) (kF G)) 0 0 (kF G) := by
  refine Met.ofW (cc := cJ3_length) (maxL := 1) (ret := (some .int)) (by decide) rfl ?_
  intro p e s0 m args below meth c s₁ B hml hv
  obtain ⟨rfl, hw⟩ := hv
  exact wb_of [.ref a0] (Nat.le_of_ble_eq_true rfl) hw.1 rfl (e_J3_length (cx_of g B hml rfl hw) a0 s Q h)
theorem e_J3_isLatin1 {x : CT} {G : GT} (X : Cx x G cJ3_isLatin1 1 RJ3 (some .boolean) rm_J3_isLatin1) (a0 : Nat) (s : PS) (Q : Int32 → PS → Prop) (h : w_J3_isLatin1 G a0 s Q) : WB x G 1 (QfI x G 0 0 (fun r u => (r = 0 ∨ r = 1) ∧ Q r u)) 0 0 s 0 [(0, .ref a0)] [] := by
  unfold w_J3_isLatin1 at h
  refine r_gets X X.2.2.2.2.1.2.2.2.2.2.2.2.2.2.1 q473 dJ3_isLatin1_0 ?_
  refine r_if_eq X 17 dJ3_isLatin1_3 (by decide) (fun c1 => ?_) (fun c1 => ?_)
  · replace h := h.1 c1
    refine r_iconst (v := 0) X dJ3_isLatin1_17 rfl ?_
    exact r_zret X (Or.inl rfl) h (Nat.le_of_ble_eq_true rfl) (Nat.le_of_ble_eq_true rfl) dJ3_isLatin1_18
  · replace h := h.2 c1
    refine r_aload_n X 0 dJ3_isLatin1_6 rfl rfl ?_
    obtain ⟨g2, h⟩ := h
    refine r_getSc X q2021 g2 dJ3_isLatin1_7 ?_
    have hJ : WB x G 1 (QfI x G 0 0 (fun r u => (r = 0 ∨ r = 1) ∧ Q r u)) 0 0 s 18 [(0, .ref a0)] [.int (if (gI s a0 1) = 0 then 1 else 0 : Int32)] := by
      exact r_zret X (by (repeat' split) <;> first | exact Or.inl rfl | exact Or.inr rfl) h (Nat.le_of_ble_eq_true rfl) (Nat.le_of_ble_eq_true rfl) dJ3_isLatin1_18
    refine r_if_ne X 17 dJ3_isLatin1_10 (by decide) (fun c3 => ?_) (fun c3 => ?_)
    · rw [if_neg c3] at hJ
      refine r_iconst (v := 0) X dJ3_isLatin1_17 rfl ?_
      exact hJ
    · rw [if_pos c3] at hJ
      refine r_iconst (v := 1) X dJ3_isLatin1_13 rfl ?_
      refine r_goto X 18 dJ3_isLatin1_14 (by decide) ?_
      exact hJ
theorem m_J3_isLatin1 (l : Launch) (G : GT) (g : GK G) (a0 : Nat) (s : PS) (Q : Int32 → PS → Prop) (h : w_J3_isLatin1 G a0 s Q) : Met l yJ3_isLatin1 (ws_ yJ3_isLatin1 cJ3_isLatin1 1 (some .boolean)) rm_J3_isLatin1 (va_Pc [.ref a0] (Wr G s)) (va_Qi (fun r u => (r = 0 ∨ r = 1) ∧ Q r u) (fun u t => Wr G u t) (kF G)) 0 0 (kF G) := by
  refine Met.ofW (cc := cJ3_isLatin1) (maxL := 1) (ret := (some .boolean)) (by decide) rfl ?_
  intro p e s0 m args below meth c s₁ B hml hv
  obtain ⟨rfl, hw⟩ := hv
  exact wb_of [.ref a0] (Nat.le_of_ble_eq_true rfl) hw.1 rfl (e_J3_isLatin1 (cx_of g B hml rfl hw) a0 s Q h)
theorem e_J5_checkIndex {x : CT} {G : GT} (X : Cx x G cJ5_checkIndex 3 RJ5 (some .int) rm_J5_checkIndex) (p1 : Int32) (p2 : Int32) (p3 : Option Nat) (s : PS) (Q : Int32 → PS → Prop) (h : w_J5_checkIndex G p1 p2 p3 s Q) : WB x G 3 (QfI x G 0 0 Q) 0 0 s 0 [(0, .int p1), (1, .int p2), (2, va_rf p3)] [] := by
  unfold w_J5_checkIndex at h
  refine r_iload_n X 0 dJ5_checkIndex_0 rfl rfl ?_
  refine r_if_lt X 9 dJ5_checkIndex_1 (by decide) (fun c1 => ?_) (fun c1 => ?_)
  · replace h := h.1 c1
    exact h.elim
  · replace h := h.2 c1
    refine r_iload_n X 0 dJ5_checkIndex_4 rfl rfl ?_
    refine r_iload_n X 1 dJ5_checkIndex_5 rfl rfl ?_
    refine r_ic_lt X 16 dJ5_checkIndex_6 (by decide) (fun c2 => ?_) (fun c2 => ?_)
    · replace h := h.1 c2
      refine r_iload_n X 0 dJ5_checkIndex_16 rfl rfl ?_
      exact r_iret X h (Nat.le_of_ble_eq_true rfl) (Nat.le_of_ble_eq_true rfl) dJ5_checkIndex_17
    · replace h := h.2 c2
      exact h.elim
theorem m_J5_checkIndex (l : Launch) (G : GT) (g : GK G) (p1 : Int32) (p2 : Int32) (p3 : Option Nat) (s : PS) (Q : Int32 → PS → Prop) (h : w_J5_checkIndex G p1 p2 p3 s Q) : Met l yJ5_checkIndex (ws_ yJ5_checkIndex cJ5_checkIndex 3 (some .int)) rm_J5_checkIndex (va_Pc [.int p1, .int p2, va_rf p3] (Wr G s)) (va_Qi Q (fun u t => Wr G u t) (kF G)) 0 0 (kF G) := by
  cases p3 <;> (refine Met.ofW (cc := cJ5_checkIndex) (maxL := 3) (ret := (some .int)) (by decide) rfl ?_; intro p e s0 m args below meth c s₁ B hml hv; obtain ⟨rfl, hw⟩ := hv; exact wb_of [.int p1, .int p2, _] (Nat.le_of_ble_eq_true rfl) hw.1 rfl (e_J5_checkIndex (cx_of g B hml rfl hw) p1 p2 _ s Q h))
theorem e_J3_checkIndex {x : CT} {G : GT} (X : Cx x G cJ3_checkIndex 2 RJ3 none rm_J3_checkIndex) (p1 : Int32) (p2 : Int32) (s : PS) (Q : PS → Prop) (h : w_J3_checkIndex G p1 p2 s Q) : WB x G 2 (QfV x G 0 0 Q) 0 0 s 0 [(0, .int p1), (1, .int p2)] [] := by
  unfold w_J3_checkIndex at h
  refine r_iload_n X 0 dJ3_checkIndex_0 rfl rfl ?_
  refine r_iload_n X 1 dJ3_checkIndex_1 rfl rfl ?_
  refine r_gets X X.2.2.2.2.1.2.2.2.2.2.2.2.2.2.2.1 q489 dJ3_checkIndex_2 ?_
  refine r_ci X (r_okS (As := [.int p1, .int p2, .ref (kX G 5)]) (rest := []) X (m_J5_checkIndex (xl x) G X.2.2.2.2.1 p1 p2 (some (kX G 5)) s _ h) (cl_J3_1059 X ⟨(Nat.le_of_ble_eq_true rfl), (Nat.le_of_ble_eq_true rfl)⟩) rfl rfl (Nat.le_of_ble_eq_true rfl) dJ3_checkIndex_5 ⟨Nat.le_of_ble_eq_true rfl, Nat.le_of_ble_eq_true rfl⟩) (fun r2 s1 h => ?_)
  refine r_pop X dJ3_checkIndex_8 rfl ?_
  exact r_vret X h (Nat.le_of_ble_eq_true rfl) (Nat.le_of_ble_eq_true rfl) dJ3_checkIndex_9
theorem m_J3_checkIndex (l : Launch) (G : GT) (g : GK G) (p1 : Int32) (p2 : Int32) (s : PS) (Q : PS → Prop) (h : w_J3_checkIndex G p1 p2 s Q) : Met l yJ3_checkIndex (ws_ yJ3_checkIndex cJ3_checkIndex 2 none) rm_J3_checkIndex (va_Pc [.int p1, .int p2] (Wr G s)) (va_Qv Q (fun u t => Wr G u t) (kF G)) 0 0 (kF G) := by
  refine Met.ofW (cc := cJ3_checkIndex) (maxL := 2) (ret := none) (by decide) rfl ?_
  intro p e s0 m args below meth c s₁ B hml hv
  obtain ⟨rfl, hw⟩ := hv
  exact wb_of [.int p1, .int p2] (Nat.le_of_ble_eq_true rfl) hw.1 rfl (e_J3_checkIndex (cx_of g B hml rfl hw) p1 p2 s Q h)
theorem e_J4_charAt {x : CT} {G : GT} (X : Cx x G cJ4_charAt 2 RJ4 (some .char) rm_J4_charAt) (p1 : Nat) (p2 : Int32) (s : PS) (Q : Int32 → PS → Prop) (h : w_J4_charAt G p1 p2 s Q) : WB x G 2 (QfI x G 0 0 (fun r u => narrow .char (.int r) = .int r ∧ Q r u)) 0 0 s 0 [(0, .ref p1), (1, .int p2)] [] := by
  unfold w_J4_charAt at h
  refine r_iload_n X 1 dJ4_charAt_0 rfl rfl ?_
  refine r_aload_n X 0 dJ4_charAt_1 rfl rfl ?_
  obtain ⟨g1, h⟩ := h
  refine r_alenM X g1 (by decide) dJ4_charAt_2 ?_
  refine r_cv X (r_okS (As := [.int p2, .int (nI (gN s p1))]) (rest := []) X (m_J3_checkIndex (xl x) G X.2.2.2.2.1 p2 (nI (gN s p1)) s _ h) (cl_J4_9 X ⟨(Nat.le_of_ble_eq_true rfl), (Nat.le_of_ble_eq_true rfl)⟩) rfl rfl (Nat.le_of_ble_eq_true rfl) dJ4_charAt_3 ⟨Nat.le_of_ble_eq_true rfl, Nat.le_of_ble_eq_true rfl⟩) (fun s2 h => ?_)
  refine r_aload_n X 0 dJ4_charAt_6 rfl rfl ?_
  refine r_iload_n X 1 dJ4_charAt_7 rfl rfl ?_
  obtain ⟨g3, h⟩ := h
  obtain ⟨g4, h⟩ := h
  refine r_baldM X g3 g4 dJ4_charAt_8 ?_
  refine r_sipush (v := 255) X dJ4_charAt_9 rfl ?_
  refine r_iand X dJ4_charAt_12 ?_
  refine r_i2c X dJ4_charAt_13 ?_
  obtain ⟨g5, h⟩ := h
  exact r_nret X g5 h (Nat.le_of_ble_eq_true rfl) (Nat.le_of_ble_eq_true rfl) dJ4_charAt_14
theorem m_J4_charAt (l : Launch) (G : GT) (g : GK G) (p1 : Nat) (p2 : Int32) (s : PS) (Q : Int32 → PS → Prop) (h : w_J4_charAt G p1 p2 s Q) : Met l yJ4_charAt (ws_ yJ4_charAt cJ4_charAt 2 (some .char)) rm_J4_charAt (va_Pc [.ref p1, .int p2] (Wr G s)) (va_Qi (fun r u => narrow .char (.int r) = .int r ∧ Q r u) (fun u t => Wr G u t) (kF G)) 0 0 (kF G) := by
  refine Met.ofW (cc := cJ4_charAt) (maxL := 2) (ret := (some .char)) (by decide) rfl ?_
  intro p e s0 m args below meth c s₁ B hml hv
  obtain ⟨rfl, hw⟩ := hv
  exact wb_of [.ref p1, .int p2] (Nat.le_of_ble_eq_true rfl) hw.1 rfl (e_J4_charAt (cx_of g B hml rfl hw) p1 p2 s Q h)
theorem e_J6_length {x : CT} {G : GT} (X : Cx x G cJ6_length 1 RJ6 (some .int) rm_J6_length) (p1 : Nat) (s : PS) (Q : Int32 → PS → Prop) (h : w_J6_length G p1 s Q) : WB x G 1 (QfI x G 0 0 Q) 0 0 s 0 [(0, .ref p1)] [] := by
  unfold w_J6_length at h
  refine r_aload_n X 0 dJ6_length_0 rfl rfl ?_
  obtain ⟨g1, h⟩ := h
  refine r_alenM X g1 (by decide) dJ6_length_1 ?_
  refine r_iconst (v := 1) X dJ6_length_2 rfl ?_
  refine r_ishr X dJ6_length_3 ?_
  exact r_iret X h (Nat.le_of_ble_eq_true rfl) (Nat.le_of_ble_eq_true rfl) dJ6_length_4
theorem m_J6_length (l : Launch) (G : GT) (g : GK G) (p1 : Nat) (s : PS) (Q : Int32 → PS → Prop) (h : w_J6_length G p1 s Q) : Met l yJ6_length (ws_ yJ6_length cJ6_length 1 (some .int)) rm_J6_length (va_Pc [.ref p1] (Wr G s)) (va_Qi Q (fun u t => Wr G u t) (kF G)) 0 0 (kF G) := by
  refine Met.ofW (cc := cJ6_length) (maxL := 1) (ret := (some .int)) (by decide) rfl ?_
  intro p e s0 m args below meth c s₁ B hml hv
  obtain ⟨rfl, hw⟩ := hv
  exact wb_of [.ref p1] (Nat.le_of_ble_eq_true rfl) hw.1 rfl (e_J6_length (cx_of g B hml rfl hw) p1 s Q h)
theorem e_J6_checkIndex {x : CT} {G : GT} (X : Cx x G cJ6_checkIndex 2 RJ6 none rm_J6_checkIndex) (p1 : Int32) (p2 : Nat) (s : PS) (Q : PS → Prop) (h : w_J6_checkIndex G p1 p2 s Q) : WB x G 2 (QfV x G 0 0 Q) 0 0 s 0 [(0, .int p1), (1, .ref p2)] [] := by
  unfold w_J6_checkIndex at h
  refine r_iload_n X 0 dJ6_checkIndex_0 rfl rfl ?_
  refine r_aload_n X 1 dJ6_checkIndex_1 rfl rfl ?_
  refine r_ci X (r_okS (As := [.ref p2]) (rest := [.int p1]) X (m_J6_length (xl x) G X.2.2.2.2.1 p2 s _ h) (cl_J6_48 X ⟨(Nat.le_of_ble_eq_true rfl), (Nat.le_of_ble_eq_true rfl)⟩) rfl rfl (Nat.le_of_ble_eq_true rfl) dJ6_checkIndex_2 ⟨Nat.le_of_ble_eq_true rfl, Nat.le_of_ble_eq_true rfl⟩) (fun r2 s1 h => ?_)
  refine r_cv X (r_okS (As := [.int p1, .int r2]) (rest := []) X (m_J3_checkIndex (xl x) G X.2.2.2.2.1 p1 r2 s1 _ h) (cl_J6_414 X ⟨(Nat.le_of_ble_eq_true rfl), (Nat.le_of_ble_eq_true rfl)⟩) rfl rfl (Nat.le_of_ble_eq_true rfl) dJ6_checkIndex_5 ⟨Nat.le_of_ble_eq_true rfl, Nat.le_of_ble_eq_true rfl⟩) (fun s3 h => ?_)
  exact r_vret X h (Nat.le_of_ble_eq_true rfl) (Nat.le_of_ble_eq_true rfl) dJ6_checkIndex_8
theorem m_J6_checkIndex (l : Launch) (G : GT) (g : GK G) (p1 : Int32) (p2 : Nat) (s : PS) (Q : PS → Prop) (h : w_J6_checkIndex G p1 p2 s Q) : Met l yJ6_checkIndex (ws_ yJ6_checkIndex cJ6_checkIndex 2 none) rm_J6_checkIndex (va_Pc [.int p1, .ref p2] (Wr G s)) (va_Qv Q (fun u t => Wr G u t) (kF G)) 0 0 (kF G) := by
  refine Met.ofW (cc := cJ6_checkIndex) (maxL := 2) (ret := none) (by decide) rfl ?_
  intro p e s0 m args below meth c s₁ B hml hv
  obtain ⟨rfl, hw⟩ := hv
  exact wb_of [.int p1, .ref p2] (Nat.le_of_ble_eq_true rfl) hw.1 rfl (e_J6_checkIndex (cx_of g B hml rfl hw) p1 p2 s Q h)
theorem e_J6_getChar {x : CT} {G : GT} (X : Cx x G cJ6_getChar 2 RJ6 (some .char) rm_J6_getChar) (p1 : Nat) (p2 : Int32) (s : PS) (Q : Int32 → PS → Prop) (h : w_J6_getChar G p1 p2 s Q) : WB x G 2 (QfI x G 0 0 (fun r u => narrow .char (.int r) = .int r ∧ Q r u)) 0 0 s 0 [(0, .ref p1), (1, .int p2)] [] := by
  unfold w_J6_getChar at h
  exact h.elim
theorem m_J6_getChar (l : Launch) (G : GT) (g : GK G) (p1 : Nat) (p2 : Int32) (s : PS) (Q : Int32 → PS → Prop) (h : w_J6_getChar G p1 p2 s Q) : Met l yJ6_getChar (ws_ yJ6_getChar cJ6_getChar 2 (some .char)) rm_J6_getChar (va_Pc [.ref p1, .int p2] (Wr G s)) (va_Qi (fun r u => narrow .char (.int r) = .int r ∧ Q r u) (fun u t => Wr G u t) (kF G)) 0 0 (kF G) := by
  refine Met.ofW (cc := cJ6_getChar) (maxL := 2) (ret := (some .char)) (by decide) rfl ?_
  intro p e s0 m args below meth c s₁ B hml hv
  obtain ⟨rfl, hw⟩ := hv
  exact wb_of [.ref p1, .int p2] (Nat.le_of_ble_eq_true rfl) hw.1 rfl (e_J6_getChar (cx_of g B hml rfl hw) p1 p2 s Q h)
theorem e_J6_charAt {x : CT} {G : GT} (X : Cx x G cJ6_charAt 2 RJ6 (some .char) rm_J6_charAt) (p1 : Nat) (p2 : Int32) (s : PS) (Q : Int32 → PS → Prop) (h : w_J6_charAt G p1 p2 s Q) : WB x G 2 (QfI x G 0 0 (fun r u => narrow .char (.int r) = .int r ∧ Q r u)) 0 0 s 0 [(0, .ref p1), (1, .int p2)] [] := by
  unfold w_J6_charAt at h
  refine r_iload_n X 1 dJ6_charAt_0 rfl rfl ?_
  refine r_aload_n X 0 dJ6_charAt_1 rfl rfl ?_
  refine r_cv X (r_okS (As := [.int p2, .ref p1]) (rest := []) X (m_J6_checkIndex (xl x) G X.2.2.2.2.1 p2 p1 s _ h) (cl_J6_67 X ⟨(Nat.le_of_ble_eq_true rfl), (Nat.le_of_ble_eq_true rfl)⟩) rfl rfl (Nat.le_of_ble_eq_true rfl) dJ6_charAt_2 ⟨Nat.le_of_ble_eq_true rfl, Nat.le_of_ble_eq_true rfl⟩) (fun s1 h => ?_)
  refine r_aload_n X 0 dJ6_charAt_5 rfl rfl ?_
  refine r_iload_n X 1 dJ6_charAt_6 rfl rfl ?_
  refine r_ci X (r_okS (As := [.ref p1, .int p2]) (rest := []) X (m_J6_getChar (xl x) G X.2.2.2.2.1 p1 p2 s1 _ h) (cl_J6_71 X ⟨(Nat.le_of_ble_eq_true rfl), (Nat.le_of_ble_eq_true rfl)⟩) rfl rfl (Nat.le_of_ble_eq_true rfl) dJ6_charAt_7 ⟨Nat.le_of_ble_eq_true rfl, Nat.le_of_ble_eq_true rfl⟩) (fun r3 s2 h => ?_)
  obtain ⟨z4, h⟩ := h
  exact r_nret X z4 h (Nat.le_of_ble_eq_true rfl) (Nat.le_of_ble_eq_true rfl) dJ6_charAt_10
theorem m_J6_charAt (l : Launch) (G : GT) (g : GK G) (p1 : Nat) (p2 : Int32) (s : PS) (Q : Int32 → PS → Prop) (h : w_J6_charAt G p1 p2 s Q) : Met l yJ6_charAt (ws_ yJ6_charAt cJ6_charAt 2 (some .char)) rm_J6_charAt (va_Pc [.ref p1, .int p2] (Wr G s)) (va_Qi (fun r u => narrow .char (.int r) = .int r ∧ Q r u) (fun u t => Wr G u t) (kF G)) 0 0 (kF G) := by
  refine Met.ofW (cc := cJ6_charAt) (maxL := 2) (ret := (some .char)) (by decide) rfl ?_
  intro p e s0 m args below meth c s₁ B hml hv
  obtain ⟨rfl, hw⟩ := hv
  exact wb_of [.ref p1, .int p2] (Nat.le_of_ble_eq_true rfl) hw.1 rfl (e_J6_charAt (cx_of g B hml rfl hw) p1 p2 s Q h)
theorem e_J3_charAt {x : CT} {G : GT} (X : Cx x G cJ3_charAt 2 RJ3 (some .char) rm_J3_charAt) (a0 : Nat) (p1 : Int32) (s : PS) (Q : Int32 → PS → Prop) (h : w_J3_charAt G a0 p1 s Q) : WB x G 2 (QfI x G 0 0 (fun r u => narrow .char (.int r) = .int r ∧ Q r u)) 0 0 s 0 [(0, .ref a0), (1, .int p1)] [] := by
  unfold w_J3_charAt at h
  refine r_aload_n X 0 dJ3_charAt_0 rfl rfl ?_
  obtain ⟨g1, h⟩ := h
  refine r_ci X (r_okVStr (As := []) (rest := []) X (m_J3_isLatin1 (xl x) G X.2.2.2.2.1 a0 s _ h) (cl_J3_492 X ⟨(Nat.le_of_ble_eq_true rfl), (Nat.le_of_ble_eq_true rfl)⟩) g1 rfl rfl (Nat.le_of_ble_eq_true rfl) dJ3_charAt_1 ⟨Nat.le_of_ble_eq_true rfl, Nat.le_of_ble_eq_true rfl⟩) (fun r3 s2 h => ?_)
  obtain ⟨z4, h⟩ := h
  refine r_if_eq X 16 dJ3_charAt_4 (by decide) (fun c5 => ?_) (fun c5 => ?_)
  · replace h := h.1 c5
    refine r_aload_n X 0 dJ3_charAt_16 rfl rfl ?_
    obtain ⟨g6, h⟩ := h
    refine r_getSv X q2020 g6 dJ3_charAt_17 ?_
    obtain ⟨q7, g8, h⟩ := h
    refine r_top (show va_rf (gR s2 a0 0) = Value.ref q7 by rw [g8]; rfl) ?_
    refine r_iload_n X 1 dJ3_charAt_20 rfl rfl ?_
    refine r_ci X (r_okS (As := [.ref q7, .int p1]) (rest := []) X (m_J6_charAt (xl x) G X.2.2.2.2.1 q7 p1 s2 _ h) (cl_J3_498 X ⟨(Nat.le_of_ble_eq_true rfl), (Nat.le_of_ble_eq_true rfl)⟩) rfl rfl (Nat.le_of_ble_eq_true rfl) dJ3_charAt_21 ⟨Nat.le_of_ble_eq_true rfl, Nat.le_of_ble_eq_true rfl⟩) (fun r10 s9 h => ?_)
    obtain ⟨z11, h⟩ := h
    exact r_nret X z11 h (Nat.le_of_ble_eq_true rfl) (Nat.le_of_ble_eq_true rfl) dJ3_charAt_24
  · replace h := h.2 c5
    refine r_aload_n X 0 dJ3_charAt_7 rfl rfl ?_
    obtain ⟨g12, h⟩ := h
    refine r_getSv X q2020 g12 dJ3_charAt_8 ?_
    obtain ⟨q13, g14, h⟩ := h
    refine r_top (show va_rf (gR s2 a0 0) = Value.ref q13 by rw [g14]; rfl) ?_
    refine r_iload_n X 1 dJ3_charAt_11 rfl rfl ?_
    refine r_ci X (r_okS (As := [.ref q13, .int p1]) (rest := []) X (m_J4_charAt (xl x) G X.2.2.2.2.1 q13 p1 s2 _ h) (cl_J3_495 X ⟨(Nat.le_of_ble_eq_true rfl), (Nat.le_of_ble_eq_true rfl)⟩) rfl rfl (Nat.le_of_ble_eq_true rfl) dJ3_charAt_12 ⟨Nat.le_of_ble_eq_true rfl, Nat.le_of_ble_eq_true rfl⟩) (fun r16 s15 h => ?_)
    obtain ⟨z17, h⟩ := h
    exact r_nret X z17 h (Nat.le_of_ble_eq_true rfl) (Nat.le_of_ble_eq_true rfl) dJ3_charAt_15
theorem m_J3_charAt (l : Launch) (G : GT) (g : GK G) (a0 : Nat) (p1 : Int32) (s : PS) (Q : Int32 → PS → Prop) (h : w_J3_charAt G a0 p1 s Q) : Met l yJ3_charAt (ws_ yJ3_charAt cJ3_charAt 2 (some .char)) rm_J3_charAt (va_Pc [.ref a0, .int p1] (Wr G s)) (va_Qi (fun r u => narrow .char (.int r) = .int r ∧ Q r u) (fun u t => Wr G u t) (kF G)) 0 0 (kF G) := by
  refine Met.ofW (cc := cJ3_charAt) (maxL := 2) (ret := (some .char)) (by decide) rfl ?_
  intro p e s0 m args below meth c s₁ B hml hv
  obtain ⟨rfl, hw⟩ := hv
  exact wb_of [.ref a0, .int p1] (Nat.le_of_ble_eq_true rfl) hw.1 rfl (e_J3_charAt (cx_of g B hml rfl hw) a0 p1 s Q h)
theorem tl_X3_isWord_20 {x : CT} {G : GT} (X : Cx x G cX3_isWord 3 RX3 (some .boolean) rm_X3_isWord) (Q : Int32 → PS → Prop) (v0 : Nat) (v1 : Nat) : ∀ (n : Nat) (v2 : Int32) (s : PS) (h : l_X3_isWord_20 G Q v0 v1 n v2 s), WB x G 3 (QfI x G 0 0 (fun r u => (r = 0 ∨ r = 1) ∧ Q r u)) 0 0 s 20 [(0, .ref v0), (1, .ref v1), (2, .int v2)] [] := by
  intro n
  induction n with
  | zero =>
    intro v2 s h
    exact False.elim h
  | succ n ih =>
    intro v2 s h
    unfold l_X3_isWord_20 at h
    refine r_iload_n X 2 dX3_isWord_20 rfl rfl ?_
    refine r_aload_n X 1 dX3_isWord_21 rfl rfl ?_
    obtain ⟨g1, h⟩ := h
    refine r_ci X (r_okVStr (As := []) (rest := [.int v2]) X (m_J3_length (xl x) G X.2.2.2.2.1 v1 s _ h) (cl_X3_55 X ⟨(Nat.le_of_ble_eq_true rfl), (Nat.le_of_ble_eq_true rfl)⟩) g1 rfl rfl (Nat.le_of_ble_eq_true rfl) dX3_isWord_22 ⟨Nat.le_of_ble_eq_true rfl, Nat.le_of_ble_eq_true rfl⟩) (fun r3 s2 h => ?_)
    refine r_ic_ge X 55 dX3_isWord_25 (by decide) (fun c4 => ?_) (fun c4 => ?_)
    · replace h := h.1 c4
      refine r_iconst (v := 1) X dX3_isWord_55 rfl ?_
      exact r_zret X (Or.inr rfl) h (Nat.le_of_ble_eq_true rfl) (Nat.le_of_ble_eq_true rfl) dX3_isWord_56
    · replace h := h.2 c4
      refine r_aload_n X 0 dX3_isWord_28 rfl rfl ?_
      obtain ⟨g5, h⟩ := h
      refine gf_X3_9 X g5 dX3_isWord_29 ?_
      obtain ⟨q6, g7, h⟩ := h
      refine r_top (show va_rf (gR s2 v0 0) = Value.ref q6 by rw [g7]; rfl) ?_
      refine r_aload_n X 0 dX3_isWord_32 rfl rfl ?_
      refine gf_X3_22 X g5 dX3_isWord_33 ?_
      refine r_iload_n X 2 dX3_isWord_36 rfl rfl ?_
      refine r_iadd X dX3_isWord_37 ?_
      obtain ⟨g8, h⟩ := h
      obtain ⟨g9, h⟩ := h
      refine r_baldM X g8 g9 dX3_isWord_38 ?_
      refine r_aload_n X 1 dX3_isWord_39 rfl rfl ?_
      refine r_iload_n X 2 dX3_isWord_40 rfl rfl ?_
      obtain ⟨g10, h⟩ := h
      refine r_ci X (r_okVStr (As := [.int v2]) (rest := [.int (gI s2 q6 (Int32.toNatClampNeg ((gI s2 v0 3) + v2)))]) X (m_J3_charAt (xl x) G X.2.2.2.2.1 v1 v2 s2 _ h) (cl_X3_61 X ⟨(Nat.le_of_ble_eq_true rfl), (Nat.le_of_ble_eq_true rfl)⟩) g10 rfl rfl (Nat.le_of_ble_eq_true rfl) dX3_isWord_41 ⟨Nat.le_of_ble_eq_true rfl, Nat.le_of_ble_eq_true rfl⟩) (fun r12 s11 h => ?_)
      obtain ⟨z13, h⟩ := h
      refine r_ic_eq X 49 dX3_isWord_44 (by decide) (fun c14 => ?_) (fun c14 => ?_)
      · replace h := h.1 c14
        refine r_iinc (lv' := [(2, .int (v2 + 1)), (0, .ref v0), (1, .ref v1)]) X 2 dX3_isWord_49 rfl rfl (Nat.le_of_ble_eq_true rfl) rfl ?_
        refine r_goto X 20 dX3_isWord_52 (by decide) ?_
        refine r_sub [1, 2, 0] rfl ?_
        exact ih (v2 + 1) s11 h
      · replace h := h.2 c14
        refine r_iconst (v := 0) X dX3_isWord_47 rfl ?_
        exact r_zret X (Or.inl rfl) h (Nat.le_of_ble_eq_true rfl) (Nat.le_of_ble_eq_true rfl) dX3_isWord_48
theorem e_X3_isWord {x : CT} {G : GT} (X : Cx x G cX3_isWord 3 RX3 (some .boolean) rm_X3_isWord) (a0 : Nat) (p1 : Nat) (s : PS) (Q : Int32 → PS → Prop) (h : w_X3_isWord G a0 p1 s Q) : WB x G 3 (QfI x G 0 0 (fun r u => (r = 0 ∨ r = 1) ∧ Q r u)) 0 0 s 0 [(0, .ref a0), (1, .ref p1)] [] := by
  unfold w_X3_isWord at h
  refine r_aload_n X 0 dX3_isWord_0 rfl rfl ?_
  obtain ⟨g1, h⟩ := h
  refine gf_X3_19 X g1 dX3_isWord_1 ?_
  refine r_aload_n X 0 dX3_isWord_4 rfl rfl ?_
  refine gf_X3_22 X g1 dX3_isWord_5 ?_
  refine r_isub X dX3_isWord_8 ?_
  refine r_aload_n X 1 dX3_isWord_9 rfl rfl ?_
  obtain ⟨g2, h⟩ := h
  refine r_ci X (r_okVStr (As := []) (rest := [.int ((gI s a0 2) - (gI s a0 3))]) X (m_J3_length (xl x) G X.2.2.2.2.1 p1 s _ h) (cl_X3_55 X ⟨(Nat.le_of_ble_eq_true rfl), (Nat.le_of_ble_eq_true rfl)⟩) g2 rfl rfl (Nat.le_of_ble_eq_true rfl) dX3_isWord_10 ⟨Nat.le_of_ble_eq_true rfl, Nat.le_of_ble_eq_true rfl⟩) (fun r4 s3 h => ?_)
  refine r_ic_eq X 18 dX3_isWord_13 (by decide) (fun c5 => ?_) (fun c5 => ?_)
  · replace h := h.1 c5
    refine r_iconst (v := 0) X dX3_isWord_18 rfl ?_
    refine r_istore_n (lv' := [(2, .int 0), (0, .ref a0), (1, .ref p1)]) X dX3_isWord_19 rfl (Nat.le_of_ble_eq_true rfl) rfl ?_
    refine r_sub [1, 2, 0] rfl ?_
    obtain ⟨n6, h⟩ := h
    exact tl_X3_isWord_20 X Q a0 p1 n6 0 s3 h
  · replace h := h.2 c5
    refine r_iconst (v := 0) X dX3_isWord_16 rfl ?_
    exact r_zret X (Or.inl rfl) h (Nat.le_of_ble_eq_true rfl) (Nat.le_of_ble_eq_true rfl) dX3_isWord_17
theorem m_X3_isWord (l : Launch) (G : GT) (g : GK G) (a0 : Nat) (p1 : Nat) (s : PS) (Q : Int32 → PS → Prop) (h : w_X3_isWord G a0 p1 s Q) : Met l yX3_isWord (ws_ yX3_isWord cX3_isWord 3 (some .boolean)) rm_X3_isWord (va_Pc [.ref a0, .ref p1] (Wr G s)) (va_Qi (fun r u => (r = 0 ∨ r = 1) ∧ Q r u) (fun u t => Wr G u t) (kF G)) 0 0 (kF G) := by
  refine Met.ofW (cc := cX3_isWord) (maxL := 3) (ret := (some .boolean)) (by decide) rfl ?_
  intro p e s0 m args below meth c s₁ B hml hv
  obtain ⟨rfl, hw⟩ := hv
  exact wb_of [.ref a0, .ref p1] (Nat.le_of_ble_eq_true rfl) hw.1 rfl (e_X3_isWord (cx_of g B hml rfl hw) a0 p1 s Q h)
theorem e_X3_isDigit {x : CT} {G : GT} (X : Cx x G cX3_isDigit 1 RX3 (some .boolean) rm_X3_isDigit) (p1 : Int32) (s : PS) (Q : Int32 → PS → Prop) (h : w_X3_isDigit G p1 s Q) : WB x G 1 (QfI x G 0 0 (fun r u => (r = 0 ∨ r = 1) ∧ Q r u)) 0 0 s 0 [(0, .int p1)] [] := by
  unfold w_X3_isDigit at h
  refine r_iload_n X 0 dX3_isDigit_0 rfl rfl ?_
  refine r_bipush (v := 48) X dX3_isDigit_1 rfl ?_
  have hJ : WB x G 1 (QfI x G 0 0 (fun r u => (r = 0 ∨ r = 1) ∧ Q r u)) 0 0 s 17 [(0, .int p1)] [.int (if p1 < 48 then 0 else (if 57 < p1 then 0 else 1 : Int32) : Int32)] := by
    exact r_zret X (by (repeat' split) <;> first | exact Or.inl rfl | exact Or.inr rfl) h (Nat.le_of_ble_eq_true rfl) (Nat.le_of_ble_eq_true rfl) dX3_isDigit_17
  refine r_ic_lt X 16 dX3_isDigit_3 (by decide) (fun c2 => ?_) (fun c2 => ?_)
  · rw [if_pos c2] at hJ
    refine r_iconst (v := 0) X dX3_isDigit_16 rfl ?_
    exact hJ
  · rw [if_neg c2] at hJ
    refine r_iload_n X 0 dX3_isDigit_6 rfl rfl ?_
    refine r_bipush (v := 57) X dX3_isDigit_7 rfl ?_
    refine r_ic_gt X 16 dX3_isDigit_9 (by decide) (fun c1 => ?_) (fun c1 => ?_)
    · rw [if_pos c1] at hJ
      refine r_iconst (v := 0) X dX3_isDigit_16 rfl ?_
      exact hJ
    · rw [if_neg c1] at hJ
      refine r_iconst (v := 1) X dX3_isDigit_12 rfl ?_
      refine r_goto X 17 dX3_isDigit_13 (by decide) ?_
      exact hJ
theorem m_X3_isDigit (l : Launch) (G : GT) (g : GK G) (p1 : Int32) (s : PS) (Q : Int32 → PS → Prop) (h : w_X3_isDigit G p1 s Q) : Met l yX3_isDigit (ws_ yX3_isDigit cX3_isDigit 1 (some .boolean)) rm_X3_isDigit (va_Pc [.int p1] (Wr G s)) (va_Qi (fun r u => (r = 0 ∨ r = 1) ∧ Q r u) (fun u t => Wr G u t) (kF G)) 0 0 (kF G) := by
  refine Met.ofW (cc := cX3_isDigit) (maxL := 1) (ret := (some .boolean)) (by decide) rfl ?_
  intro p e s0 m args below meth c s₁ B hml hv
  obtain ⟨rfl, hw⟩ := hv
  exact wb_of [.int p1] (Nat.le_of_ble_eq_true rfl) hw.1 rfl (e_X3_isDigit (cx_of g B hml rfl hw) p1 s Q h)
theorem tb_X3_next_39 {x : CT} {G : GT} (X : Cx x G cX3_next 3 RX3 none rm_X3_next) (Q : PS → Prop) (K0 : PS → Prop) (v0 : Nat) (s : PS) (hK0 : ∀ (s' : PS), K0 s' → WB x G 3 (QfV x G 0 0 Q) 0 0 s' 0 [(0, .ref v0)] []) (h : b_X3_next_39 G Q K0 v0 s) : WB x G 3 (QfV x G 0 0 Q) 0 0 s 39 [(0, .ref v0)] [] := by
  unfold b_X3_next_39 at h
  refine r_aload_n X 0 dX3_next_39 rfl rfl ?_
  refine r_dup X dX3_next_40 rfl ?_
  obtain ⟨g1, h⟩ := h
  refine gf_X3_19 X g1 dX3_next_41 ?_
  refine r_iconst (v := 1) X dX3_next_44 rfl ?_
  refine r_iadd X dX3_next_45 ?_
  obtain ⟨g2, h⟩ := h
  refine pf_X3_19 X g1 g2 dX3_next_46 (fun s3 e4 => ?_)
  replace h := h s3 e4
  refine r_goto X 0 dX3_next_49 (by decide) ?_
  exact hK0 s3 h
theorem tl_X3_next_144 {x : CT} {G : GT} (X : Cx x G cX3_next 3 RX3 none rm_X3_next) (Q : PS → Prop) (v0 : Nat) : ∀ (n : Nat) (v1 : Int32) (s : PS) (h : l_X3_next_144 G Q v0 n v1 s), WB x G 3 (QfV x G 0 0 Q) 0 0 s 144 [(0, .ref v0), (1, .int v1)] [] := by
  intro n
  induction n with
  | zero =>
    intro v1 s h
    exact False.elim h
  | succ n ih =>
    intro v1 s h
    unfold l_X3_next_144 at h
    refine r_iload_n X 1 dX3_next_144 rfl rfl ?_
    refine r_gets X X.2.2.2.2.1.2.2.2.2.2.1 q459 dX3_next_145 ?_
    obtain ⟨g1, h⟩ := h
    refine r_alenM X g1 (by decide) dX3_next_148 ?_
    refine r_ic_ge X 179 dX3_next_149 (by decide) (fun c2 => ?_) (fun c2 => ?_)
    · replace h := h.1 c2
      refine r_goto X 402 dX3_next_179 (by decide) ?_
      exact r_vret X h (Nat.le_of_ble_eq_true rfl) (Nat.le_of_ble_eq_true rfl) dX3_next_402
    · replace h := h.2 c2
      refine r_aload_n X 0 dX3_next_152 rfl rfl ?_
      refine r_gets X X.2.2.2.2.1.2.2.2.2.2.1 q459 dX3_next_153 ?_
      refine r_iload_n X 1 dX3_next_156 rfl rfl ?_
      obtain ⟨g3, h⟩ := h
      refine r_aaldM X g1 (by decide) g3 dX3_next_157 ?_
      obtain ⟨q4, g5, h⟩ := h
      refine r_top (show va_rf (gR s (kX G 1) (Int32.toNatClampNeg v1)) = Value.ref q4 by rw [g5]; rfl) ?_
      obtain ⟨g6, h⟩ := h
      refine r_ci X (r_okV (As := [.ref q4]) (rest := []) X (m_X3_isWord (xl x) G X.2.2.2.2.1 v0 q4 s _ h) (cl_X3_36 X ⟨(Nat.le_of_ble_eq_true rfl), (Nat.le_of_ble_eq_true rfl)⟩) 3 g6 rfl rfl rfl rfl (Nat.le_of_ble_eq_true rfl) dX3_next_158 ⟨Nat.le_of_ble_eq_true rfl, Nat.le_of_ble_eq_true rfl⟩) (fun r8 s7 h => ?_)
      obtain ⟨z9, h⟩ := h
      refine r_if_eq X 173 dX3_next_161 (by decide) (fun c10 => ?_) (fun c10 => ?_)
      · replace h := h.1 c10
        refine r_iinc (lv' := [(1, .int (v1 + 1)), (0, .ref v0)]) X 1 dX3_next_173 rfl rfl (Nat.le_of_ble_eq_true rfl) rfl ?_
        refine r_goto X 144 dX3_next_176 (by decide) ?_
        refine r_sub [1, 0] rfl ?_
        exact ih (v1 + 1) s7 h
      · replace h := h.2 c10
        refine r_aload_n X 0 dX3_next_164 rfl rfl ?_
        refine r_sipush (v := 200) X dX3_next_165 rfl ?_
        refine r_iload_n X 1 dX3_next_168 rfl rfl ?_
        refine r_iadd X dX3_next_169 ?_
        obtain ⟨g11, h⟩ := h
        obtain ⟨g12, h⟩ := h
        refine pf_X3_25 X g11 g12 dX3_next_170 (fun s13 e14 => ?_)
        replace h := h s13 e14
        refine r_iinc (lv' := [(1, .int (v1 + 1)), (0, .ref v0)]) X 1 dX3_next_173 rfl rfl (Nat.le_of_ble_eq_true rfl) rfl ?_
        refine r_goto X 144 dX3_next_176 (by decide) ?_
        refine r_sub [1, 0] rfl ?_
        exact ih (v1 + 1) s13 h
theorem tb_X3_next_135 {x : CT} {G : GT} (X : Cx x G cX3_next 3 RX3 none rm_X3_next) (Q : PS → Prop) (v0 : Nat) (s : PS) (h : b_X3_next_135 G Q v0 s) : WB x G 3 (QfV x G 0 0 Q) 0 0 s 135 [(0, .ref v0)] [] := by
  unfold b_X3_next_135 at h
  refine r_aload_n X 0 dX3_next_135 rfl rfl ?_
  refine r_sipush (v := 302) X dX3_next_136 rfl ?_
  obtain ⟨g1, h⟩ := h
  obtain ⟨g2, h⟩ := h
  refine pf_X3_25 X g1 g2 dX3_next_139 (fun s3 e4 => ?_)
  replace h := h s3 e4
  refine r_iconst (v := 0) X dX3_next_142 rfl ?_
  refine r_istore_n (lv' := [(1, .int 0), (0, .ref v0)]) X dX3_next_143 rfl (Nat.le_of_ble_eq_true rfl) rfl ?_
  refine r_sub [1, 0] rfl ?_
  obtain ⟨n5, h⟩ := h
  exact tl_X3_next_144 X Q v0 n5 0 s3 h
theorem tl_X3_next_96 {x : CT} {G : GT} (X : Cx x G cX3_next 3 RX3 none rm_X3_next) (Q : PS → Prop) (v0 : Nat) : ∀ (n : Nat) (s : PS) (h : l_X3_next_96 G Q v0 n s), WB x G 3 (QfV x G 0 0 Q) 0 0 s 96 [(0, .ref v0)] [] := by
  intro n
  induction n with
  | zero =>
    intro s h
    exact False.elim h
  | succ n ih =>
    intro s h
    unfold l_X3_next_96 at h
    refine r_aload_n X 0 dX3_next_96 rfl rfl ?_
    obtain ⟨g1, h⟩ := h
    refine gf_X3_19 X g1 dX3_next_97 ?_
    refine r_aload_n X 0 dX3_next_100 rfl rfl ?_
    refine gf_X3_15 X g1 dX3_next_101 ?_
    refine r_ic_ge X 135 dX3_next_104 (by decide) (fun c2 => ?_) (fun c2 => ?_)
    · replace h := h.1 c2
      exact tb_X3_next_135 X Q v0 s h
    · replace h := h.2 c2
      refine r_aload_n X 0 dX3_next_107 rfl rfl ?_
      refine gf_X3_9 X g1 dX3_next_108 ?_
      obtain ⟨q3, g4, h⟩ := h
      refine r_top (show va_rf (gR s v0 0) = Value.ref q3 by rw [g4]; rfl) ?_
      refine r_aload_n X 0 dX3_next_111 rfl rfl ?_
      refine gf_X3_19 X g1 dX3_next_112 ?_
      obtain ⟨g5, h⟩ := h
      obtain ⟨g6, h⟩ := h
      refine r_baldM X g5 g6 dX3_next_115 ?_
      refine r_ci X (r_okS (As := [.int (gI s q3 (Int32.toNatClampNeg (gI s v0 2)))]) (rest := []) X (m_X3_isLetter (xl x) G X.2.2.2.2.1 (gI s q3 (Int32.toNatClampNeg (gI s v0 2))) s _ h) (cl_X3_28 X ⟨(Nat.le_of_ble_eq_true rfl), (Nat.le_of_ble_eq_true rfl)⟩) rfl rfl (Nat.le_of_ble_eq_true rfl) dX3_next_116 ⟨Nat.le_of_ble_eq_true rfl, Nat.le_of_ble_eq_true rfl⟩) (fun r8 s7 h => ?_)
      obtain ⟨z9, h⟩ := h
      refine r_if_eq X 135 dX3_next_119 (by decide) (fun c10 => ?_) (fun c10 => ?_)
      · replace h := h.1 c10
        exact tb_X3_next_135 X Q v0 s7 h
      · replace h := h.2 c10
        refine r_aload_n X 0 dX3_next_122 rfl rfl ?_
        refine r_dup X dX3_next_123 rfl ?_
        obtain ⟨g11, h⟩ := h
        refine gf_X3_19 X g11 dX3_next_124 ?_
        refine r_iconst (v := 1) X dX3_next_127 rfl ?_
        refine r_iadd X dX3_next_128 ?_
        obtain ⟨g12, h⟩ := h
        refine pf_X3_19 X g11 g12 dX3_next_129 (fun s13 e14 => ?_)
        replace h := h s13 e14
        refine r_goto X 96 dX3_next_132 (by decide) ?_
        exact ih s13 h
theorem tl_X3_next_209 {x : CT} {G : GT} (X : Cx x G cX3_next 3 RX3 none rm_X3_next) (Q : PS → Prop) (v0 : Nat) : ∀ (n : Nat) (s : PS) (h : l_X3_next_209 G Q v0 n s), WB x G 3 (QfV x G 0 0 Q) 0 0 s 209 [(0, .ref v0)] [] := by
  intro n
  induction n with
  | zero =>
    intro s h
    exact False.elim h
  | succ n ih =>
    intro s h
    unfold l_X3_next_209 at h
    refine r_aload_n X 0 dX3_next_209 rfl rfl ?_
    obtain ⟨g1, h⟩ := h
    refine gf_X3_19 X g1 dX3_next_210 ?_
    refine r_aload_n X 0 dX3_next_213 rfl rfl ?_
    refine gf_X3_15 X g1 dX3_next_214 ?_
    refine r_ic_ge X 402 dX3_next_217 (by decide) (fun c2 => ?_) (fun c2 => ?_)
    · replace h := h.1 c2
      exact r_vret X h (Nat.le_of_ble_eq_true rfl) (Nat.le_of_ble_eq_true rfl) dX3_next_402
    · replace h := h.2 c2
      refine r_aload_n X 0 dX3_next_220 rfl rfl ?_
      refine gf_X3_9 X g1 dX3_next_221 ?_
      obtain ⟨q3, g4, h⟩ := h
      refine r_top (show va_rf (gR s v0 0) = Value.ref q3 by rw [g4]; rfl) ?_
      refine r_aload_n X 0 dX3_next_224 rfl rfl ?_
      refine gf_X3_19 X g1 dX3_next_225 ?_
      obtain ⟨g5, h⟩ := h
      obtain ⟨g6, h⟩ := h
      refine r_baldM X g5 g6 dX3_next_228 ?_
      refine r_ci X (r_okS (As := [.int (gI s q3 (Int32.toNatClampNeg (gI s v0 2)))]) (rest := []) X (m_X3_isDigit (xl x) G X.2.2.2.2.1 (gI s q3 (Int32.toNatClampNeg (gI s v0 2))) s _ h) (cl_X3_40 X ⟨(Nat.le_of_ble_eq_true rfl), (Nat.le_of_ble_eq_true rfl)⟩) rfl rfl (Nat.le_of_ble_eq_true rfl) dX3_next_229 ⟨Nat.le_of_ble_eq_true rfl, Nat.le_of_ble_eq_true rfl⟩) (fun r8 s7 h => ?_)
      obtain ⟨z9, h⟩ := h
      refine r_if_eq X 402 dX3_next_232 (by decide) (fun c10 => ?_) (fun c10 => ?_)
      · replace h := h.1 c10
        exact r_vret X h (Nat.le_of_ble_eq_true rfl) (Nat.le_of_ble_eq_true rfl) dX3_next_402
      · replace h := h.2 c10
        refine r_aload_n X 0 dX3_next_235 rfl rfl ?_
        refine r_ldc X q516 dX3_next_236 ?_
        refine r_bipush (v := 10) X dX3_next_238 rfl ?_
        refine r_aload_n X 0 dX3_next_240 rfl rfl ?_
        obtain ⟨g11, h⟩ := h
        refine gf_X3_43 X g11 dX3_next_241 ?_
        refine r_imul X dX3_next_244 ?_
        refine r_aload_n X 0 dX3_next_245 rfl rfl ?_
        refine gf_X3_9 X g11 dX3_next_246 ?_
        obtain ⟨q12, g13, h⟩ := h
        refine r_top (show va_rf (gR s7 v0 0) = Value.ref q12 by rw [g13]; rfl) ?_
        refine r_aload_n X 0 dX3_next_249 rfl rfl ?_
        refine gf_X3_19 X g11 dX3_next_250 ?_
        obtain ⟨g14, h⟩ := h
        obtain ⟨g15, h⟩ := h
        refine r_baldM X g14 g15 dX3_next_253 ?_
        refine r_iadd X dX3_next_254 ?_
        refine r_bipush (v := 48) X dX3_next_255 rfl ?_
        refine r_isub X dX3_next_257 ?_
        refine r_mmin X q517 q518 q150 q519 (Nat.le_of_ble_eq_true rfl) (Nat.le_of_ble_eq_true rfl) (Nat.le_of_ble_eq_true rfl) ⟨Nat.le_of_ble_eq_true rfl, Nat.le_of_ble_eq_true rfl⟩ dX3_next_258 ?_
        obtain ⟨g16, h⟩ := h
        refine pf_X3_43 X g11 g16 dX3_next_261 (fun s17 e18 => ?_)
        replace h := h s17 e18
        refine r_aload_n X 0 dX3_next_264 rfl rfl ?_
        refine r_dup X dX3_next_265 rfl ?_
        have g19 : gT s17 v0 = 103 := by rw [e18]; exact g11
        refine gf_X3_19 X g19 dX3_next_266 ?_
        refine r_iconst (v := 1) X dX3_next_269 rfl ?_
        refine r_iadd X dX3_next_270 ?_
        refine pf_X3_19 X g19 g16 dX3_next_271 (fun s20 e21 => ?_)
        replace h := h s20 e21
        refine r_goto X 209 dX3_next_274 (by decide) ?_
        exact ih s20 h
theorem tb_X3_next_348 {x : CT} {G : GT} (X : Cx x G cX3_next 3 RX3 none rm_X3_next) (Q : PS → Prop) (v0 : Nat) (v1 : Int32) (s : PS) (h : b_X3_next_348 G Q v0 v1 s) : WB x G 3 (QfV x G 0 0 Q) 0 0 s 348 [(0, .ref v0), (1, .int v1)] [] := by
  unfold b_X3_next_348 at h
  refine r_aload_n X 0 dX3_next_348 rfl rfl ?_
  obtain ⟨g1, h⟩ := h
  refine gf_X3_19 X g1 dX3_next_349 ?_
  refine r_aload_n X 0 dX3_next_352 rfl rfl ?_
  refine gf_X3_15 X g1 dX3_next_353 ?_
  refine r_ic_ge X 402 dX3_next_356 (by decide) (fun c2 => ?_) (fun c2 => ?_)
  · replace h := h.1 c2
    exact r_vret X h (Nat.le_of_ble_eq_true rfl) (Nat.le_of_ble_eq_true rfl) dX3_next_402
  · replace h := h.2 c2
    refine r_aload_n X 0 dX3_next_359 rfl rfl ?_
    refine gf_X3_9 X g1 dX3_next_360 ?_
    obtain ⟨q3, g4, h⟩ := h
    refine r_top (show va_rf (gR s v0 0) = Value.ref q3 by rw [g4]; rfl) ?_
    refine r_aload_n X 0 dX3_next_363 rfl rfl ?_
    refine gf_X3_19 X g1 dX3_next_364 ?_
    obtain ⟨g5, h⟩ := h
    obtain ⟨g6, h⟩ := h
    refine r_baldM X g5 g6 dX3_next_367 ?_
    refine r_bipush (v := 61) X dX3_next_368 rfl ?_
    refine r_ic_ne X 402 dX3_next_370 (by decide) (fun c7 => ?_) (fun c7 => ?_)
    · replace h := h.2 c7
      exact r_vret X h (Nat.le_of_ble_eq_true rfl) (Nat.le_of_ble_eq_true rfl) dX3_next_402
    · replace h := h.1 c7
      refine r_aload_n X 0 dX3_next_373 rfl rfl ?_
      refine r_iload_n X 1 dX3_next_374 rfl rfl ?_
      refine r_bipush (v := 60) X dX3_next_375 rfl ?_
      have hJ : WB x G 3 (QfV x G 0 0 Q) 0 0 s 389 [(0, .ref v0), (1, .int v1)] [.int (if v1 = 60 then 303 else 304 : Int32), .ref v0] := by
        obtain ⟨g9, h⟩ := h
        refine pf_X3_25 X g1 g9 dX3_next_389 (fun s10 e11 => ?_)
        replace h := h s10 e11
        refine r_aload_n X 0 dX3_next_392 rfl rfl ?_
        refine r_dup X dX3_next_393 rfl ?_
        have g12 : gT s10 v0 = 103 := by rw [e11]; exact g1
        refine gf_X3_19 X g12 dX3_next_394 ?_
        refine r_iconst (v := 1) X dX3_next_397 rfl ?_
        refine r_iadd X dX3_next_398 ?_
        refine pf_X3_19 X g12 g9 dX3_next_399 (fun s13 e14 => ?_)
        replace h := h s13 e14
        exact r_vret X h (Nat.le_of_ble_eq_true rfl) (Nat.le_of_ble_eq_true rfl) dX3_next_402
      refine r_ic_ne X 386 dX3_next_377 (by decide) (fun c8 => ?_) (fun c8 => ?_)
      · rw [if_neg c8] at hJ
        refine r_sipush (v := 304) X dX3_next_386 rfl ?_
        exact hJ
      · rw [if_pos c8] at hJ
        refine r_sipush (v := 303) X dX3_next_380 rfl ?_
        refine r_goto X 389 dX3_next_383 (by decide) ?_
        exact hJ
theorem tl_X3_next_306 {x : CT} {G : GT} (X : Cx x G cX3_next 3 RX3 none rm_X3_next) (Q : PS → Prop) (v0 : Nat) (v1 : Int32) : ∀ (n : Nat) (v2 : Int32) (s : PS) (h : l_X3_next_306 G Q v0 v1 n v2 s), WB x G 3 (QfV x G 0 0 Q) 0 0 s 306 [(0, .ref v0), (1, .int v1), (2, .int v2)] [] := by
  intro n
  induction n with
  | zero =>
    intro v2 s h
    exact False.elim h
  | succ n ih =>
    intro v2 s h
    unfold l_X3_next_306 at h
    refine r_iload_n X 2 dX3_next_306 rfl rfl ?_
    refine r_ldcS X X.2.2.2.2.1.2.2.2.2.2.2.2.2.2.2.2.1 dX3_next_307 ?_
    obtain ⟨g1, h⟩ := h
    refine r_ci X (r_okVStr (As := []) (rest := [.int v2]) X (m_J3_length (xl x) G X.2.2.2.2.1 (kX G 429) s _ h) (cl_X3_55 X ⟨(Nat.le_of_ble_eq_true rfl), (Nat.le_of_ble_eq_true rfl)⟩) g1 rfl rfl (Nat.le_of_ble_eq_true rfl) dX3_next_309 ⟨Nat.le_of_ble_eq_true rfl, Nat.le_of_ble_eq_true rfl⟩) (fun r3 s2 h => ?_)
    refine r_ic_ge X 336 dX3_next_312 (by decide) (fun c4 => ?_) (fun c4 => ?_)
    · replace h := h.1 c4
      refine r_iload_n X 1 dX3_next_336 rfl rfl ?_
      refine r_bipush (v := 60) X dX3_next_337 rfl ?_
      refine r_ic_eq X 348 dX3_next_339 (by decide) (fun c5 => ?_) (fun c5 => ?_)
      · replace h := h.1 c5
        refine r_sub [0, 1] rfl ?_
        exact tb_X3_next_348 X Q v0 v1 s2 h
      · replace h := h.2 c5
        refine r_iload_n X 1 dX3_next_342 rfl rfl ?_
        refine r_bipush (v := 62) X dX3_next_343 rfl ?_
        refine r_ic_ne X 402 dX3_next_345 (by decide) (fun c6 => ?_) (fun c6 => ?_)
        · replace h := h.2 c6
          exact r_vret X h (Nat.le_of_ble_eq_true rfl) (Nat.le_of_ble_eq_true rfl) dX3_next_402
        · replace h := h.1 c6
          refine r_sub [0, 1] rfl ?_
          exact tb_X3_next_348 X Q v0 v1 s2 h
    · replace h := h.2 c4
      refine r_ldcS X X.2.2.2.2.1.2.2.2.2.2.2.2.2.2.2.2.1 dX3_next_315 ?_
      refine r_iload_n X 2 dX3_next_317 rfl rfl ?_
      obtain ⟨g7, h⟩ := h
      refine r_ci X (r_okVStr (As := [.int v2]) (rest := []) X (m_J3_charAt (xl x) G X.2.2.2.2.1 (kX G 429) v2 s2 _ h) (cl_X3_61 X ⟨(Nat.le_of_ble_eq_true rfl), (Nat.le_of_ble_eq_true rfl)⟩) g7 rfl rfl (Nat.le_of_ble_eq_true rfl) dX3_next_318 ⟨Nat.le_of_ble_eq_true rfl, Nat.le_of_ble_eq_true rfl⟩) (fun r9 s8 h => ?_)
      obtain ⟨z10, h⟩ := h
      refine r_iload_n X 1 dX3_next_321 rfl rfl ?_
      refine r_ic_ne X 330 dX3_next_322 (by decide) (fun c11 => ?_) (fun c11 => ?_)
      · replace h := h.2 c11
        refine r_iinc (lv' := [(2, .int (v2 + 1)), (0, .ref v0), (1, .int v1)]) X 2 dX3_next_330 rfl rfl (Nat.le_of_ble_eq_true rfl) rfl ?_
        refine r_goto X 306 dX3_next_333 (by decide) ?_
        refine r_sub [1, 2, 0] rfl ?_
        exact ih (v2 + 1) s8 h
      · replace h := h.1 c11
        refine r_aload_n X 0 dX3_next_325 rfl rfl ?_
        refine r_iload_n X 1 dX3_next_326 rfl rfl ?_
        obtain ⟨g12, h⟩ := h
        obtain ⟨g13, h⟩ := h
        refine pf_X3_25 X g12 g13 dX3_next_327 (fun s14 e15 => ?_)
        replace h := h s14 e15
        refine r_iinc (lv' := [(2, .int (v2 + 1)), (0, .ref v0), (1, .int v1)]) X 2 dX3_next_330 rfl rfl (Nat.le_of_ble_eq_true rfl) rfl ?_
        refine r_goto X 306 dX3_next_333 (by decide) ?_
        refine r_sub [1, 2, 0] rfl ?_
        exact ih (v2 + 1) s14 h
theorem tb_X3_next_52 {x : CT} {G : GT} (X : Cx x G cX3_next 3 RX3 none rm_X3_next) (Q : PS → Prop) (v0 : Nat) (s : PS) (h : b_X3_next_52 G Q v0 s) : WB x G 3 (QfV x G 0 0 Q) 0 0 s 52 [(0, .ref v0)] [] := by
  unfold b_X3_next_52 at h
  refine r_aload_n X 0 dX3_next_52 rfl rfl ?_
  refine r_aload_n X 0 dX3_next_53 rfl rfl ?_
  obtain ⟨g1, h⟩ := h
  refine gf_X3_19 X g1 dX3_next_54 ?_
  obtain ⟨g2, h⟩ := h
  refine pf_X3_22 X g1 g2 dX3_next_57 (fun s3 e4 => ?_)
  replace h := h s3 e4
  refine r_aload_n X 0 dX3_next_60 rfl rfl ?_
  have g5 : gT s3 v0 = 103 := by rw [e4]; exact g1
  refine gf_X3_19 X g5 dX3_next_61 ?_
  refine r_aload_n X 0 dX3_next_64 rfl rfl ?_
  refine gf_X3_15 X g5 dX3_next_65 ?_
  refine r_ic_ne X 81 dX3_next_68 (by decide) (fun c6 => ?_) (fun c6 => ?_)
  · replace h := h.2 c6
    refine r_aload_n X 0 dX3_next_81 rfl rfl ?_
    refine gf_X3_9 X g5 dX3_next_82 ?_
    obtain ⟨q9, g10, h⟩ := h
    refine r_top (show va_rf (gR s3 v0 0) = Value.ref q9 by rw [g10]; rfl) ?_
    refine r_aload_n X 0 dX3_next_85 rfl rfl ?_
    refine gf_X3_19 X g5 dX3_next_86 ?_
    obtain ⟨g11, h⟩ := h
    obtain ⟨g12, h⟩ := h
    refine r_baldM X g11 g12 dX3_next_89 ?_
    refine r_ci X (r_okS (As := [.int (gI s3 q9 (Int32.toNatClampNeg (gI s3 v0 2)))]) (rest := []) X (m_X3_isLetter (xl x) G X.2.2.2.2.1 (gI s3 q9 (Int32.toNatClampNeg (gI s3 v0 2))) s3 _ h) (cl_X3_28 X ⟨(Nat.le_of_ble_eq_true rfl), (Nat.le_of_ble_eq_true rfl)⟩) rfl rfl (Nat.le_of_ble_eq_true rfl) dX3_next_90 ⟨Nat.le_of_ble_eq_true rfl, Nat.le_of_ble_eq_true rfl⟩) (fun r14 s13 h => ?_)
    obtain ⟨z15, h⟩ := h
    refine r_if_eq X 182 dX3_next_93 (by decide) (fun c16 => ?_) (fun c16 => ?_)
    · replace h := h.1 c16
      refine r_aload_n X 0 dX3_next_182 rfl rfl ?_
      obtain ⟨g17, h⟩ := h
      refine gf_X3_9 X g17 dX3_next_183 ?_
      obtain ⟨q18, g19, h⟩ := h
      refine r_top (show va_rf (gR s13 v0 0) = Value.ref q18 by rw [g19]; rfl) ?_
      refine r_aload_n X 0 dX3_next_186 rfl rfl ?_
      refine gf_X3_19 X g17 dX3_next_187 ?_
      obtain ⟨g20, h⟩ := h
      obtain ⟨g21, h⟩ := h
      refine r_baldM X g20 g21 dX3_next_190 ?_
      refine r_ci X (r_okS (As := [.int (gI s13 q18 (Int32.toNatClampNeg (gI s13 v0 2)))]) (rest := []) X (m_X3_isDigit (xl x) G X.2.2.2.2.1 (gI s13 q18 (Int32.toNatClampNeg (gI s13 v0 2))) s13 _ h) (cl_X3_40 X ⟨(Nat.le_of_ble_eq_true rfl), (Nat.le_of_ble_eq_true rfl)⟩) rfl rfl (Nat.le_of_ble_eq_true rfl) dX3_next_191 ⟨Nat.le_of_ble_eq_true rfl, Nat.le_of_ble_eq_true rfl⟩) (fun r23 s22 h => ?_)
      obtain ⟨z24, h⟩ := h
      refine r_if_eq X 277 dX3_next_194 (by decide) (fun c25 => ?_) (fun c25 => ?_)
      · replace h := h.1 c25
        refine r_aload_n X 0 dX3_next_277 rfl rfl ?_
        obtain ⟨g26, h⟩ := h
        refine gf_X3_9 X g26 dX3_next_278 ?_
        obtain ⟨q27, g28, h⟩ := h
        refine r_top (show va_rf (gR s22 v0 0) = Value.ref q27 by rw [g28]; rfl) ?_
        refine r_aload_n X 0 dX3_next_281 rfl rfl ?_
        refine gf_X3_19 X g26 dX3_next_282 ?_
        obtain ⟨g29, h⟩ := h
        obtain ⟨g30, h⟩ := h
        refine r_baldM X g29 g30 dX3_next_285 ?_
        refine r_nmI (fun y31 e32 => ?_)
        replace h := h y31 e32
        refine r_istore_n (lv' := [(1, .int y31), (0, .ref v0)]) X dX3_next_286 rfl (Nat.le_of_ble_eq_true rfl) rfl ?_
        refine r_aload_n X 1 dX3_next_287 rfl rfl ?_
        refine r_dup X dX3_next_288 rfl ?_
        refine gf_X3_19 X g26 dX3_next_289 ?_
        refine r_iconst (v := 1) X dX3_next_292 rfl ?_
        refine r_iadd X dX3_next_293 ?_
        refine pf_X3_19 X g26 g2 dX3_next_294 (fun s33 e34 => ?_)
        replace h := h s33 e34
        refine r_aload_n X 1 dX3_next_297 rfl rfl ?_
        refine r_sipush (v := 302) X dX3_next_298 rfl ?_
        have g35 : gT s33 v0 = 103 := by rw [e34]; exact g26
        refine pf_X3_25 X g35 g2 dX3_next_301 (fun s36 e37 => ?_)
        replace h := h s36 e37
        refine r_iconst (v := 0) X dX3_next_304 rfl ?_
        refine r_istore_n (lv' := [(2, .int 0), (1, .int y31), (0, .ref v0)]) X dX3_next_305 rfl (Nat.le_of_ble_eq_true rfl) rfl ?_
        refine r_sub [2, 1, 0] rfl ?_
        obtain ⟨n38, h⟩ := h
        exact tl_X3_next_306 X Q v0 y31 n38 0 s36 h
      · replace h := h.2 c25
        refine r_aload_n X 0 dX3_next_197 rfl rfl ?_
        refine r_sipush (v := 300) X dX3_next_198 rfl ?_
        obtain ⟨g39, h⟩ := h
        refine pf_X3_25 X g39 g2 dX3_next_201 (fun s40 e41 => ?_)
        replace h := h s40 e41
        refine r_aload_n X 0 dX3_next_204 rfl rfl ?_
        refine r_iconst (v := 0) X dX3_next_205 rfl ?_
        have g42 : gT s40 v0 = 103 := by rw [e41]; exact g39
        refine pf_X3_43 X g42 g2 dX3_next_206 (fun s43 e44 => ?_)
        replace h := h s43 e44
        obtain ⟨n45, h⟩ := h
        exact tl_X3_next_209 X Q v0 n45 s43 h
    · replace h := h.2 c16
      obtain ⟨n46, h⟩ := h
      exact tl_X3_next_96 X Q v0 n46 s13 h
  · replace h := h.1 c6
    refine r_aload_n X 0 dX3_next_71 rfl rfl ?_
    refine r_sipush (v := 301) X dX3_next_72 rfl ?_
    refine pf_X3_25 X g5 g2 dX3_next_75 (fun s7 e8 => ?_)
    replace h := h s7 e8
    refine r_goto X 402 dX3_next_78 (by decide) ?_
    exact r_vret X h (Nat.le_of_ble_eq_true rfl) (Nat.le_of_ble_eq_true rfl) dX3_next_402
theorem tl_X3_next_0 {x : CT} {G : GT} (X : Cx x G cX3_next 3 RX3 none rm_X3_next) (Q : PS → Prop) (v0 : Nat) : ∀ (n : Nat) (s : PS) (h : l_X3_next_0 G Q v0 n s), WB x G 3 (QfV x G 0 0 Q) 0 0 s 0 [(0, .ref v0)] [] := by
  intro n
  induction n with
  | zero =>
    intro s h
    exact False.elim h
  | succ n ih =>
    intro s h
    unfold l_X3_next_0 at h
    refine r_aload_n X 0 dX3_next_0 rfl rfl ?_
    obtain ⟨g1, h⟩ := h
    refine gf_X3_19 X g1 dX3_next_1 ?_
    refine r_aload_n X 0 dX3_next_4 rfl rfl ?_
    refine gf_X3_15 X g1 dX3_next_5 ?_
    refine r_ic_ge X 52 dX3_next_8 (by decide) (fun c2 => ?_) (fun c2 => ?_)
    · replace h := h.1 c2
      exact tb_X3_next_52 X Q v0 s h
    · replace h := h.2 c2
      refine r_aload_n X 0 dX3_next_11 rfl rfl ?_
      refine gf_X3_9 X g1 dX3_next_12 ?_
      obtain ⟨q3, g4, h⟩ := h
      refine r_top (show va_rf (gR s v0 0) = Value.ref q3 by rw [g4]; rfl) ?_
      refine r_aload_n X 0 dX3_next_15 rfl rfl ?_
      refine gf_X3_19 X g1 dX3_next_16 ?_
      obtain ⟨g5, h⟩ := h
      obtain ⟨g6, h⟩ := h
      refine r_baldM X g5 g6 dX3_next_19 ?_
      refine r_bipush (v := 32) X dX3_next_20 rfl ?_
      refine r_ic_eq X 39 dX3_next_22 (by decide) (fun c7 => ?_) (fun c7 => ?_)
      · replace h := h.1 c7
        exact tb_X3_next_39 X Q (l_X3_next_0 G Q v0 n) v0 s ih h
      · replace h := h.2 c7
        refine r_aload_n X 0 dX3_next_25 rfl rfl ?_
        refine gf_X3_9 X g1 dX3_next_26 ?_
        obtain ⟨q8, g9, h⟩ := h
        refine r_top (show va_rf (gR s v0 0) = Value.ref q8 by rw [g9]; rfl) ?_
        refine r_aload_n X 0 dX3_next_29 rfl rfl ?_
        refine gf_X3_19 X g1 dX3_next_30 ?_
        obtain ⟨g10, h⟩ := h
        obtain ⟨g11, h⟩ := h
        refine r_baldM X g10 g11 dX3_next_33 ?_
        refine r_bipush (v := 10) X dX3_next_34 rfl ?_
        refine r_ic_ne X 52 dX3_next_36 (by decide) (fun c12 => ?_) (fun c12 => ?_)
        · replace h := h.2 c12
          exact tb_X3_next_52 X Q v0 s h
        · replace h := h.1 c12
          exact tb_X3_next_39 X Q (l_X3_next_0 G Q v0 n) v0 s ih h
theorem e_X3_next {x : CT} {G : GT} (X : Cx x G cX3_next 3 RX3 none rm_X3_next) (a0 : Nat) (s : PS) (Q : PS → Prop) (h : w_X3_next G a0 s Q) : WB x G 3 (QfV x G 0 0 Q) 0 0 s 0 [(0, .ref a0)] [] := by
  unfold w_X3_next at h
  obtain ⟨n1, h⟩ := h
  exact tl_X3_next_0 X Q a0 n1 s h
theorem m_X3_next (l : Launch) (G : GT) (g : GK G) (a0 : Nat) (s : PS) (Q : PS → Prop) (h : w_X3_next G a0 s Q) : Met l yX3_next (ws_ yX3_next cX3_next 3 none) rm_X3_next (va_Pc [.ref a0] (Wr G s)) (va_Qv Q (fun u t => Wr G u t) (kF G)) 0 0 (kF G) := by
  refine Met.ofW (cc := cX3_next) (maxL := 3) (ret := none) (by decide) rfl ?_
  intro p e s0 m args below meth c s₁ B hml hv
  obtain ⟨rfl, hw⟩ := hv
  exact wb_of [.ref a0] (Nat.le_of_ble_eq_true rfl) hw.1 rfl (e_X3_next (cx_of g B hml rfl hw) a0 s Q h)
theorem tb_X3_number_32 {x : CT} {G : GT} {MC MS : Nat} (X : Cx x G cX3_number 4 RX3 (some .int) (rm_X3_number MC MS)) (hnt : ∀ z ∈ (xc x).exceptionTable.toList, False) (hfl : (xl x).stackTraces = false) (Q : Int32 → PS → Prop) (E : Nat → PS → Prop) (v0 : Nat) (ce sl : Nat) (s : PS) (h : b_X3_number_32 G MC MS Q E v0 ce sl s) : WB x G 4 (Qx x G MC MS (va_Qi Q (fun u t => Wr G u t) (kF G)) E) ce sl s 32 [(0, .ref v0)] [] := by
  unfold b_X3_number_32 at h
  refine r_aload_n X 0 dX3_number_32 rfl rfl ?_
  refine r_iconst (v := 2) X dX3_number_33 rfl ?_
  obtain ⟨g1, h⟩ := h
  obtain ⟨g2, h⟩ := h
  refine r_ca X (r_okV (As := [.int 2]) (rest := []) X (m_X3_wrong (xl x) G X.2.2.2.2.1 hfl v0 2 s _ h) (cl_X3_70 X ⟨(Nat.le_of_ble_eq_true rfl), (Nat.le_of_ble_eq_true rfl)⟩) 3 g2 rfl rfl rfl rfl (Nat.le_of_ble_eq_true rfl) dX3_number_34 g1) (fun r4 s3 h => ?_)
  obtain ⟨g5, h⟩ := h
  obtain ⟨g6, h⟩ := h
  exact r_athrow X dX3_number_37 (r_out X hnt g5 h g6.1 g6.2)
theorem e_X3_number {x : CT} {G : GT} {MC MS : Nat} (X : Cx x G cX3_number 4 RX3 (some .int) (rm_X3_number MC MS)) (hnt : ∀ z ∈ (xc x).exceptionTable.toList, False) (hfl : (xl x).stackTraces = false) (a0 : Nat) (p1 : Int32) (p2 : Int32) (s : PS) (Q : Int32 → PS → Prop) (E : Nat → PS → Prop) (h : w_X3_number G MC MS a0 p1 p2 s Q E) : WB x G 4 (Qx x G MC MS (va_Qi Q (fun u t => Wr G u t) (kF G)) E) 0 0 s 0 [(0, .ref a0), (1, .int p1), (2, .int p2)] [] := by
  unfold w_X3_number at h
  refine r_aload_n X 0 dX3_number_0 rfl rfl ?_
  obtain ⟨g1, h⟩ := h
  refine gf_X3_25 X g1 dX3_number_1 ?_
  refine r_sipush (v := 300) X dX3_number_4 rfl ?_
  refine r_ic_eq X 16 dX3_number_7 (by decide) (fun c2 => ?_) (fun c2 => ?_)
  · replace h := h.1 c2
    refine r_aload_n X 0 dX3_number_16 rfl rfl ?_
    refine gf_X3_43 X g1 dX3_number_17 ?_
    refine r_iload_n X 1 dX3_number_20 rfl rfl ?_
    refine r_ic_lt X 32 dX3_number_21 (by decide) (fun c3 => ?_) (fun c3 => ?_)
    · replace h := h.1 c3
      refine r_sub [0] rfl ?_
      exact tb_X3_number_32 X hnt hfl Q E a0 0 0 s h
    · replace h := h.2 c3
      refine r_aload_n X 0 dX3_number_24 rfl rfl ?_
      refine gf_X3_43 X g1 dX3_number_25 ?_
      refine r_iload_n X 2 dX3_number_28 rfl rfl ?_
      refine r_ic_le X 38 dX3_number_29 (by decide) (fun c4 => ?_) (fun c4 => ?_)
      · replace h := h.1 c4
        refine r_aload_n X 0 dX3_number_38 rfl rfl ?_
        refine gf_X3_43 X g1 dX3_number_39 ?_
        refine r_nmI (fun y5 e6 => ?_)
        replace h := h y5 e6
        refine r_istore_n (lv' := [(3, .int y5), (0, .ref a0), (1, .int p1), (2, .int p2)]) X dX3_number_42 rfl (Nat.le_of_ble_eq_true rfl) rfl ?_
        refine r_aload_n X 1 dX3_number_43 rfl rfl ?_
        obtain ⟨g7, h⟩ := h
        refine r_cv X (r_okV (As := []) (rest := []) X (m_X3_next (xl x) G X.2.2.2.2.1 a0 s _ h) (cl_X3_74 X ⟨(Nat.le_of_ble_eq_true rfl), (Nat.le_of_ble_eq_true rfl)⟩) 3 g1 rfl rfl rfl rfl (Nat.le_of_ble_eq_true rfl) dX3_number_44 g7) (fun s8 h => ?_)
        refine r_iload_n X 0 dX3_number_47 rfl rfl ?_
        obtain ⟨g9, h⟩ := h
        exact r_thr (r_iret X h g9.1 g9.2 dX3_number_48)
      · replace h := h.2 c4
        refine r_sub [0] rfl ?_
        exact tb_X3_number_32 X hnt hfl Q E a0 0 0 s h
  · replace h := h.2 c2
    refine r_aload_n X 0 dX3_number_10 rfl rfl ?_
    refine r_iconst (v := 1) X dX3_number_11 rfl ?_
    obtain ⟨g10, h⟩ := h
    refine r_ca X (r_okV (As := [.int 1]) (rest := []) X (m_X3_wrong (xl x) G X.2.2.2.2.1 hfl a0 1 s _ h) (cl_X3_70 X ⟨(Nat.le_of_ble_eq_true rfl), (Nat.le_of_ble_eq_true rfl)⟩) 3 g1 rfl rfl rfl rfl (Nat.le_of_ble_eq_true rfl) dX3_number_12 g10) (fun r12 s11 h => ?_)
    obtain ⟨g13, h⟩ := h
    obtain ⟨g14, h⟩ := h
    exact r_athrow X dX3_number_15 (r_out X hnt g13 h g14.1 g14.2)
theorem m_X3_number (l : Launch) (G : GT) (g : GK G) (hfl : l.stackTraces = false) (MC MS : Nat) (a0 : Nat) (p1 : Int32) (p2 : Int32) (s : PS) (Q : Int32 → PS → Prop) (E : Nat → PS → Prop) (h : w_X3_number G MC MS a0 p1 p2 s Q E) : vx_Met l yX3_number (ws_ yX3_number cX3_number 4 (some .int)) (rm_X3_number MC MS) (va_Pc [.ref a0, .int p1, .int p2] (Wr G s)) (va_Qi Q (fun u t => Wr G u t) (kF G)) (XW G E) MC MS (kF G) := by
  refine vx_ofW (cc := cX3_number) (maxL := 4) (ret := (some .int)) (by decide) rfl ?_
  intro p e s0 m args below meth c s₁ B hml hnt hv
  obtain ⟨rfl, hw⟩ := hv
  exact wb_of [.ref a0, .int p1, .int p2] (Nat.le_of_ble_eq_true rfl) hw.1 rfl (e_X3_number (cx_of g B hml rfl hw) hnt hfl a0 p1 p2 s Q E h)
theorem e_J10_init {x : CT} {G : GT} (X : Cx x G cJ10_init 1 RJ10 none rm_J10_init) (hin : (xM x).name = "<init>") (a0 : Nat) (s : PS) (Q : PS → Prop) (h : w_J10_init G a0 s Q) : WB x G 1 (QfV x G 0 0 Q) 0 0 s 0 [(0, .ref a0)] [] := by
  unfold w_J10_init at h
  refine r_aload_n X 0 dJ10_init_0 rfl rfl ?_
  refine r_objinit X q615 q174 q175 (Nat.le_of_ble_eq_true rfl) (Nat.le_of_ble_eq_true rfl) (Nat.le_of_ble_eq_true rfl) dJ10_init_1 ?_
  exact r_vret X h (Nat.le_of_ble_eq_true rfl) (Nat.le_of_ble_eq_true rfl) dJ10_init_4
theorem m_J10_init (l : Launch) (G : GT) (g : GK G) (a0 : Nat) (s : PS) (Q : PS → Prop) (h : w_J10_init G a0 s Q) : Met l yJ10_init (ws_ yJ10_init cJ10_init 1 none) rm_J10_init (va_Pc [.ref a0] (Wr G s)) (va_Qv Q (fun u t => Wr G u t) (kF G)) 0 0 (kF G) := by
  refine Met.ofW (cc := cJ10_init) (maxL := 1) (ret := none) (by decide) rfl ?_
  intro p e s0 m args below meth c s₁ B hml hv
  obtain ⟨rfl, hw⟩ := hv
  exact wb_of [.ref a0] (Nat.le_of_ble_eq_true rfl) hw.1 rfl (e_J10_init (cx_of g B hml rfl hw) (name_of_methodNamed B.named B.method).1 a0 s Q h)
theorem e_X7_init {x : CT} {G : GT} (X : Cx x G cX7_init 2 RX7 none rm_X7_init) (hin : (xM x).name = "<init>") (a0 : Nat) (p1 : Int32) (s : PS) (Q : PS → Prop) (h : w_X7_init G a0 p1 s Q) : WB x G 2 (QfV x G 0 0 Q) 0 0 s 0 [(0, .ref a0), (1, .int p1)] [] := by
  unfold w_X7_init at h
  refine r_aload_n X 0 dX7_init_0 rfl rfl ?_
  refine r_cv X (r_okI (As := []) (rest := []) X (m_J10_init (xl x) G X.2.2.2.2.1 a0 s _ h) (cl_X7_1 X ⟨(Nat.le_of_ble_eq_true rfl), (Nat.le_of_ble_eq_true rfl)⟩) rfl rfl (Nat.le_of_ble_eq_true rfl) dX7_init_1 ⟨Nat.le_of_ble_eq_true rfl, Nat.le_of_ble_eq_true rfl⟩) (fun s1 h => ?_)
  refine r_aload_n X 0 dX7_init_4 rfl rfl ?_
  refine r_iload_n X 1 dX7_init_5 rfl rfl ?_
  obtain ⟨g2, h⟩ := h
  obtain ⟨g3, h⟩ := h
  refine pf_X7_7 X hin g2 g3 dX7_init_6 (fun s4 e5 => ?_)
  replace h := h s4 e5
  exact r_vret X h (Nat.le_of_ble_eq_true rfl) (Nat.le_of_ble_eq_true rfl) dX7_init_9
theorem m_X7_init (l : Launch) (G : GT) (g : GK G) (a0 : Nat) (p1 : Int32) (s : PS) (Q : PS → Prop) (h : w_X7_init G a0 p1 s Q) : Met l yX7_init (ws_ yX7_init cX7_init 2 none) rm_X7_init (va_Pc [.ref a0, .int p1] (Wr G s)) (va_Qv Q (fun u t => Wr G u t) (kF G)) 0 0 (kF G) := by
  refine Met.ofW (cc := cX7_init) (maxL := 2) (ret := none) (by decide) rfl ?_
  intro p e s0 m args below meth c s₁ B hml hv
  obtain ⟨rfl, hw⟩ := hv
  exact wb_of [.ref a0, .int p1] (Nat.le_of_ble_eq_true rfl) hw.1 rfl (e_X7_init (cx_of g B hml rfl hw) (name_of_methodNamed B.named B.method).1 a0 p1 s Q h)
theorem tb_X3_nameNow_131 {x : CT} {G : GT} (X : Cx x G cX3_nameNow 1 RX3 (some .int) rm_X3_nameNow) (Q : Int32 → PS → Prop) (v0 : Nat) (s : PS) (h : b_X3_nameNow_131 G Q v0 s) : WB x G 1 (QfI x G 0 0 Q) 0 0 s 131 [(0, .ref v0)] [] := by
  unfold b_X3_nameNow_131 at h
  refine r_aload_n X 0 dX3_nameNow_131 rfl rfl ?_
  obtain ⟨g1, h⟩ := h
  refine gf_X3_25 X g1 dX3_nameNow_132 ?_
  refine r_sipush (v := 223) X dX3_nameNow_135 rfl ?_
  refine r_isub X dX3_nameNow_138 ?_
  refine r_bipush (v := 8) X dX3_nameNow_139 rfl ?_
  refine r_iadd X dX3_nameNow_141 ?_
  refine r_goto X 180 dX3_nameNow_142 (by decide) ?_
  exact r_iret X h (Nat.le_of_ble_eq_true rfl) (Nat.le_of_ble_eq_true rfl) dX3_nameNow_180
theorem tb_X3_nameNow_111 {x : CT} {G : GT} (X : Cx x G cX3_nameNow 1 RX3 (some .int) rm_X3_nameNow) (Q : Int32 → PS → Prop) (v0 : Nat) (s : PS) (h : b_X3_nameNow_111 G Q v0 s) : WB x G 1 (QfI x G 0 0 Q) 0 0 s 111 [(0, .ref v0)] [] := by
  unfold b_X3_nameNow_111 at h
  refine r_aload_n X 0 dX3_nameNow_111 rfl rfl ?_
  obtain ⟨g1, h⟩ := h
  refine gf_X3_25 X g1 dX3_nameNow_112 ?_
  refine r_sipush (v := 223) X dX3_nameNow_115 rfl ?_
  refine r_ic_eq X 131 dX3_nameNow_118 (by decide) (fun c2 => ?_) (fun c2 => ?_)
  · replace h := h.1 c2
    exact tb_X3_nameNow_131 X Q v0 s h
  · replace h := h.2 c2
    refine r_aload_n X 0 dX3_nameNow_121 rfl rfl ?_
    refine gf_X3_25 X g1 dX3_nameNow_122 ?_
    refine r_sipush (v := 224) X dX3_nameNow_125 rfl ?_
    refine r_ic_ne X 145 dX3_nameNow_128 (by decide) (fun c3 => ?_) (fun c3 => ?_)
    · replace h := h.2 c3
      refine r_aload_n X 0 dX3_nameNow_145 rfl rfl ?_
      refine gf_X3_25 X g1 dX3_nameNow_146 ?_
      refine r_sipush (v := 226) X dX3_nameNow_149 rfl ?_
      refine r_ic_lt X 179 dX3_nameNow_152 (by decide) (fun c4 => ?_) (fun c4 => ?_)
      · replace h := h.1 c4
        refine r_iconst (v := (-1)) X dX3_nameNow_179 rfl ?_
        exact r_iret X h (Nat.le_of_ble_eq_true rfl) (Nat.le_of_ble_eq_true rfl) dX3_nameNow_180
      · replace h := h.2 c4
        refine r_aload_n X 0 dX3_nameNow_155 rfl rfl ?_
        refine gf_X3_25 X g1 dX3_nameNow_156 ?_
        refine r_sipush (v := 228) X dX3_nameNow_159 rfl ?_
        refine r_ic_gt X 179 dX3_nameNow_162 (by decide) (fun c5 => ?_) (fun c5 => ?_)
        · replace h := h.1 c5
          refine r_iconst (v := (-1)) X dX3_nameNow_179 rfl ?_
          exact r_iret X h (Nat.le_of_ble_eq_true rfl) (Nat.le_of_ble_eq_true rfl) dX3_nameNow_180
        · replace h := h.2 c5
          refine r_aload_n X 0 dX3_nameNow_165 rfl rfl ?_
          refine gf_X3_25 X g1 dX3_nameNow_166 ?_
          refine r_sipush (v := 226) X dX3_nameNow_169 rfl ?_
          refine r_isub X dX3_nameNow_172 ?_
          refine r_bipush (v := 12) X dX3_nameNow_173 rfl ?_
          refine r_iadd X dX3_nameNow_175 ?_
          refine r_goto X 180 dX3_nameNow_176 (by decide) ?_
          exact r_iret X h (Nat.le_of_ble_eq_true rfl) (Nat.le_of_ble_eq_true rfl) dX3_nameNow_180
    · replace h := h.1 c3
      exact tb_X3_nameNow_131 X Q v0 s h
theorem e_X3_nameNow {x : CT} {G : GT} (X : Cx x G cX3_nameNow 1 RX3 (some .int) rm_X3_nameNow) (a0 : Nat) (s : PS) (Q : Int32 → PS → Prop) (h : w_X3_nameNow G a0 s Q) : WB x G 1 (QfI x G 0 0 Q) 0 0 s 0 [(0, .ref a0)] [] := by
  unfold w_X3_nameNow at h
  refine r_aload_n X 0 dX3_nameNow_0 rfl rfl ?_
  obtain ⟨g1, h⟩ := h
  refine gf_X3_25 X g1 dX3_nameNow_1 ?_
  refine r_nmI (fun y2 e3 => ?_)
  replace h := h y2 e3
  by_cases c4 : y2 = 204
  · replace h := h.1 c4
    refine r_lsw X 64 dX3_nameNow_4 rfl (by rw [c4] <;> rfl) (by decide) ?_
    refine r_iconst (v := 0) X dX3_nameNow_64 rfl ?_
    exact r_iret X h (Nat.le_of_ble_eq_true rfl) (Nat.le_of_ble_eq_true rfl) dX3_nameNow_65
  · replace h := h.2 c4
    by_cases c5 : y2 = 206
    · replace h := h.1 c5
      refine r_lsw X 72 dX3_nameNow_4 rfl (by rw [c5] <;> rfl) (by decide) ?_
      refine r_bipush (v := 11) X dX3_nameNow_72 rfl ?_
      exact r_iret X h (Nat.le_of_ble_eq_true rfl) (Nat.le_of_ble_eq_true rfl) dX3_nameNow_74
    · replace h := h.2 c5
      by_cases c6 : y2 = 213
      · replace h := h.1 c6
        refine r_lsw X 70 dX3_nameNow_4 rfl (by rw [c6] <;> rfl) (by decide) ?_
        refine r_iconst (v := 3) X dX3_nameNow_70 rfl ?_
        exact r_iret X h (Nat.le_of_ble_eq_true rfl) (Nat.le_of_ble_eq_true rfl) dX3_nameNow_71
      · replace h := h.2 c6
        by_cases c7 : y2 = 217
        · replace h := h.1 c7
          refine r_lsw X 66 dX3_nameNow_4 rfl (by rw [c7] <;> rfl) (by decide) ?_
          refine r_iconst (v := 1) X dX3_nameNow_66 rfl ?_
          exact r_iret X h (Nat.le_of_ble_eq_true rfl) (Nat.le_of_ble_eq_true rfl) dX3_nameNow_67
        · replace h := h.2 c7
          by_cases c8 : y2 = 218
          · replace h := h.1 c8
            refine r_lsw X 68 dX3_nameNow_4 rfl (by rw [c8] <;> rfl) (by decide) ?_
            refine r_iconst (v := 2) X dX3_nameNow_68 rfl ?_
            exact r_iret X h (Nat.le_of_ble_eq_true rfl) (Nat.le_of_ble_eq_true rfl) dX3_nameNow_69
          · replace h := h.2 c8
            by_cases c9 : y2 = 225
            · replace h := h.1 c9
              refine r_lsw X 75 dX3_nameNow_4 rfl (by rw [c9] <;> rfl) (by decide) ?_
              refine r_bipush (v := 10) X dX3_nameNow_75 rfl ?_
              exact r_iret X h (Nat.le_of_ble_eq_true rfl) (Nat.le_of_ble_eq_true rfl) dX3_nameNow_77
            · replace h := h.2 c9
              refine r_lsw (off := 74) X 78 dX3_nameNow_4 rfl ((lv_osw c4 rfl).trans ((lv_osw c5 rfl).trans ((lv_osw c6 rfl).trans ((lv_osw c7 rfl).trans ((lv_osw c8 rfl).trans ((lv_osw c9 rfl).trans rfl)))))) (by decide) ?_
              refine r_aload_n X 0 dX3_nameNow_78 rfl rfl ?_
              refine gf_X3_25 X g1 dX3_nameNow_79 ?_
              refine r_sipush (v := 219) X dX3_nameNow_82 rfl ?_
              refine r_ic_lt X 111 dX3_nameNow_85 (by decide) (fun c10 => ?_) (fun c10 => ?_)
              · replace h := h.1 c10
                exact tb_X3_nameNow_111 X Q a0 s h
              · replace h := h.2 c10
                refine r_aload_n X 0 dX3_nameNow_88 rfl rfl ?_
                refine gf_X3_25 X g1 dX3_nameNow_89 ?_
                refine r_sipush (v := 222) X dX3_nameNow_92 rfl ?_
                refine r_ic_gt X 111 dX3_nameNow_95 (by decide) (fun c11 => ?_) (fun c11 => ?_)
                · replace h := h.1 c11
                  exact tb_X3_nameNow_111 X Q a0 s h
                · replace h := h.2 c11
                  refine r_aload_n X 0 dX3_nameNow_98 rfl rfl ?_
                  refine gf_X3_25 X g1 dX3_nameNow_99 ?_
                  refine r_sipush (v := 219) X dX3_nameNow_102 rfl ?_
                  refine r_isub X dX3_nameNow_105 ?_
                  refine r_iconst (v := 4) X dX3_nameNow_106 rfl ?_
                  refine r_iadd X dX3_nameNow_107 ?_
                  refine r_goto X 180 dX3_nameNow_108 (by decide) ?_
                  exact r_iret X h (Nat.le_of_ble_eq_true rfl) (Nat.le_of_ble_eq_true rfl) dX3_nameNow_180
theorem m_X3_nameNow (l : Launch) (G : GT) (g : GK G) (a0 : Nat) (s : PS) (Q : Int32 → PS → Prop) (h : w_X3_nameNow G a0 s Q) : Met l yX3_nameNow (ws_ yX3_nameNow cX3_nameNow 1 (some .int)) rm_X3_nameNow (va_Pc [.ref a0] (Wr G s)) (va_Qi Q (fun u t => Wr G u t) (kF G)) 0 0 (kF G) := by
  refine Met.ofW (cc := cX3_nameNow) (maxL := 1) (ret := (some .int)) (by decide) rfl ?_
  intro p e s0 m args below meth c s₁ B hml hv
  obtain ⟨rfl, hw⟩ := hv
  exact wb_of [.ref a0] (Nat.le_of_ble_eq_true rfl) hw.1 rfl (e_X3_nameNow (cx_of g B hml rfl hw) a0 s Q h)
theorem e_X3_mayName {x : CT} {G : GT} (X : Cx x G cX3_mayName 2 RX3 (some .boolean) rm_X3_mayName) (a0 : Nat) (p1 : Int32) (s : PS) (Q : Int32 → PS → Prop) (h : w_X3_mayName G a0 p1 s Q) : WB x G 2 (QfI x G 0 0 (fun r u => (r = 0 ∨ r = 1) ∧ Q r u)) 0 0 s 0 [(0, .ref a0), (1, .int p1)] [] := by
  unfold w_X3_mayName at h
  refine r_iload_n X 1 dX3_mayName_0 rfl rfl ?_
  refine r_iconst (v := 2) X dX3_mayName_1 rfl ?_
  refine r_ic_ge X 7 dX3_mayName_2 (by decide) (fun c1 => ?_) (fun c1 => ?_)
  · replace h := h.1 c1
    refine r_iload_n X 1 dX3_mayName_7 rfl rfl ?_
    refine r_bipush (v := 8) X dX3_mayName_8 rfl ?_
    refine r_ic_ge X 31 dX3_mayName_10 (by decide) (fun c2 => ?_) (fun c2 => ?_)
    · replace h := h.1 c2
      refine r_iload_n X 1 dX3_mayName_31 rfl rfl ?_
      refine r_bipush (v := 10) X dX3_mayName_32 rfl ?_
      refine r_ic_ge X 55 dX3_mayName_34 (by decide) (fun c3 => ?_) (fun c3 => ?_)
      · replace h := h.1 c3
        refine r_iload_n X 1 dX3_mayName_55 rfl rfl ?_
        refine r_bipush (v := 14) X dX3_mayName_56 rfl ?_
        refine r_ic_ge X 79 dX3_mayName_58 (by decide) (fun c4 => ?_) (fun c4 => ?_)
        · replace h := h.1 c4
          refine r_aload_n X 0 dX3_mayName_79 rfl rfl ?_
          obtain ⟨g5, h⟩ := h
          refine gf_X3_83 X g5 dX3_mayName_80 ?_
          refine r_sipush (v := 203) X dX3_mayName_83 rfl ?_
          have hJ : WB x G 2 (QfI x G 0 0 (fun r u => (r = 0 ∨ r = 1) ∧ Q r u)) 0 0 s 94 [(0, .ref a0), (1, .int p1)] [.int (if (gI s a0 7) = 203 then 1 else 0 : Int32)] := by
            exact r_zret X (by (repeat' split) <;> first | exact Or.inl rfl | exact Or.inr rfl) h (Nat.le_of_ble_eq_true rfl) (Nat.le_of_ble_eq_true rfl) dX3_mayName_94
          refine r_ic_ne X 93 dX3_mayName_86 (by decide) (fun c6 => ?_) (fun c6 => ?_)
          · rw [if_neg c6] at hJ
            refine r_iconst (v := 0) X dX3_mayName_93 rfl ?_
            exact hJ
          · rw [if_pos c6] at hJ
            refine r_iconst (v := 1) X dX3_mayName_89 rfl ?_
            refine r_goto X 94 dX3_mayName_90 (by decide) ?_
            exact hJ
        · replace h := h.2 c4
          refine r_aload_n X 0 dX3_mayName_61 rfl rfl ?_
          obtain ⟨g7, h⟩ := h
          refine gf_X3_83 X g7 dX3_mayName_62 ?_
          refine r_sipush (v := 202) X dX3_mayName_65 rfl ?_
          have hJ : WB x G 2 (QfI x G 0 0 (fun r u => (r = 0 ∨ r = 1) ∧ Q r u)) 0 0 s 94 [(0, .ref a0), (1, .int p1)] [.int (if (gI s a0 7) = 202 then 1 else 0 : Int32)] := by
            exact r_zret X (by (repeat' split) <;> first | exact Or.inl rfl | exact Or.inr rfl) h (Nat.le_of_ble_eq_true rfl) (Nat.le_of_ble_eq_true rfl) dX3_mayName_94
          refine r_ic_ne X 75 dX3_mayName_68 (by decide) (fun c8 => ?_) (fun c8 => ?_)
          · rw [if_neg c8] at hJ
            refine r_iconst (v := 0) X dX3_mayName_75 rfl ?_
            refine r_goto X 94 dX3_mayName_76 (by decide) ?_
            exact hJ
          · rw [if_pos c8] at hJ
            refine r_iconst (v := 1) X dX3_mayName_71 rfl ?_
            refine r_goto X 94 dX3_mayName_72 (by decide) ?_
            exact hJ
      · replace h := h.2 c3
        refine r_aload_n X 0 dX3_mayName_37 rfl rfl ?_
        obtain ⟨g9, h⟩ := h
        refine gf_X3_83 X g9 dX3_mayName_38 ?_
        refine r_sipush (v := 201) X dX3_mayName_41 rfl ?_
        have hJ : WB x G 2 (QfI x G 0 0 (fun r u => (r = 0 ∨ r = 1) ∧ Q r u)) 0 0 s 94 [(0, .ref a0), (1, .int p1)] [.int (if (gI s a0 7) = 201 then 1 else 0 : Int32)] := by
          exact r_zret X (by (repeat' split) <;> first | exact Or.inl rfl | exact Or.inr rfl) h (Nat.le_of_ble_eq_true rfl) (Nat.le_of_ble_eq_true rfl) dX3_mayName_94
        refine r_ic_ne X 51 dX3_mayName_44 (by decide) (fun c10 => ?_) (fun c10 => ?_)
        · rw [if_neg c10] at hJ
          refine r_iconst (v := 0) X dX3_mayName_51 rfl ?_
          refine r_goto X 94 dX3_mayName_52 (by decide) ?_
          exact hJ
        · rw [if_pos c10] at hJ
          refine r_iconst (v := 1) X dX3_mayName_47 rfl ?_
          refine r_goto X 94 dX3_mayName_48 (by decide) ?_
          exact hJ
    · replace h := h.2 c2
      refine r_aload_n X 0 dX3_mayName_13 rfl rfl ?_
      obtain ⟨g11, h⟩ := h
      refine gf_X3_83 X g11 dX3_mayName_14 ?_
      refine r_sipush (v := 200) X dX3_mayName_17 rfl ?_
      have hJ : WB x G 2 (QfI x G 0 0 (fun r u => (r = 0 ∨ r = 1) ∧ Q r u)) 0 0 s 94 [(0, .ref a0), (1, .int p1)] [.int (if (gI s a0 7) = 200 then 1 else 0 : Int32)] := by
        exact r_zret X (by (repeat' split) <;> first | exact Or.inl rfl | exact Or.inr rfl) h (Nat.le_of_ble_eq_true rfl) (Nat.le_of_ble_eq_true rfl) dX3_mayName_94
      refine r_ic_ne X 27 dX3_mayName_20 (by decide) (fun c12 => ?_) (fun c12 => ?_)
      · rw [if_neg c12] at hJ
        refine r_iconst (v := 0) X dX3_mayName_27 rfl ?_
        refine r_goto X 94 dX3_mayName_28 (by decide) ?_
        exact hJ
      · rw [if_pos c12] at hJ
        refine r_iconst (v := 1) X dX3_mayName_23 rfl ?_
        refine r_goto X 94 dX3_mayName_24 (by decide) ?_
        exact hJ
  · replace h := h.2 c1
    refine r_iconst (v := 1) X dX3_mayName_5 rfl ?_
    exact r_zret X (Or.inr rfl) h (Nat.le_of_ble_eq_true rfl) (Nat.le_of_ble_eq_true rfl) dX3_mayName_6
theorem m_X3_mayName (l : Launch) (G : GT) (g : GK G) (a0 : Nat) (p1 : Int32) (s : PS) (Q : Int32 → PS → Prop) (h : w_X3_mayName G a0 p1 s Q) : Met l yX3_mayName (ws_ yX3_mayName cX3_mayName 2 (some .boolean)) rm_X3_mayName (va_Pc [.ref a0, .int p1] (Wr G s)) (va_Qi (fun r u => (r = 0 ∨ r = 1) ∧ Q r u) (fun u t => Wr G u t) (kF G)) 0 0 (kF G) := by
  refine Met.ofW (cc := cX3_mayName) (maxL := 2) (ret := (some .boolean)) (by decide) rfl ?_
  intro p e s0 m args below meth c s₁ B hml hv
  obtain ⟨rfl, hw⟩ := hv
  exact wb_of [.ref a0, .int p1] (Nat.le_of_ble_eq_true rfl) hw.1 rfl (e_X3_mayName (cx_of g B hml rfl hw) a0 p1 s Q h)
theorem e_X8_init {x : CT} {G : GT} (X : Cx x G cX8_init 2 RX8 none rm_X8_init) (hin : (xM x).name = "<init>") (a0 : Nat) (p1 : Int32) (s : PS) (Q : PS → Prop) (h : w_X8_init G a0 p1 s Q) : WB x G 2 (QfV x G 0 0 Q) 0 0 s 0 [(0, .ref a0), (1, .int p1)] [] := by
  unfold w_X8_init at h
  refine r_aload_n X 0 dX8_init_0 rfl rfl ?_
  refine r_cv X (r_okI (As := []) (rest := []) X (m_J10_init (xl x) G X.2.2.2.2.1 a0 s _ h) (cl_X8_1 X ⟨(Nat.le_of_ble_eq_true rfl), (Nat.le_of_ble_eq_true rfl)⟩) rfl rfl (Nat.le_of_ble_eq_true rfl) dX8_init_1 ⟨Nat.le_of_ble_eq_true rfl, Nat.le_of_ble_eq_true rfl⟩) (fun s1 h => ?_)
  refine r_aload_n X 0 dX8_init_4 rfl rfl ?_
  refine r_iload_n X 1 dX8_init_5 rfl rfl ?_
  obtain ⟨g2, h⟩ := h
  obtain ⟨g3, h⟩ := h
  refine pf_X8_7 X hin g2 g3 dX8_init_6 (fun s4 e5 => ?_)
  replace h := h s4 e5
  exact r_vret X h (Nat.le_of_ble_eq_true rfl) (Nat.le_of_ble_eq_true rfl) dX8_init_9
theorem m_X8_init (l : Launch) (G : GT) (g : GK G) (a0 : Nat) (p1 : Int32) (s : PS) (Q : PS → Prop) (h : w_X8_init G a0 p1 s Q) : Met l yX8_init (ws_ yX8_init cX8_init 2 none) rm_X8_init (va_Pc [.ref a0, .int p1] (Wr G s)) (va_Qv Q (fun u t => Wr G u t) (kF G)) 0 0 (kF G) := by
  refine Met.ofW (cc := cX8_init) (maxL := 2) (ret := none) (by decide) rfl ?_
  intro p e s0 m args below meth c s₁ B hml hv
  obtain ⟨rfl, hw⟩ := hv
  exact wb_of [.ref a0, .int p1] (Nat.le_of_ble_eq_true rfl) hw.1 rfl (e_X8_init (cx_of g B hml rfl hw) (name_of_methodNamed B.named B.method).1 a0 p1 s Q h)
theorem e_X3_opens {x : CT} {G : GT} {MC MS : Nat} (X : Cx x G cX3_opens 1 RX3 none (rm_X3_opens MC MS)) (hnt : ∀ z ∈ (xc x).exceptionTable.toList, False) (hfl : (xl x).stackTraces = false) (a0 : Nat) (s : PS) (Q : PS → Prop) (E : Nat → PS → Prop) (h : w_X3_opens G MC MS a0 s Q E) : WB x G 1 (Qx x G MC MS (va_Qv Q (fun u t => Wr G u t) (kF G)) E) 0 0 s 0 [(0, .ref a0)] [] := by
  unfold w_X3_opens at h
  refine r_aload_n X 0 dX3_opens_0 rfl rfl ?_
  obtain ⟨g1, h⟩ := h
  refine gf_X3_77 X g1 dX3_opens_1 ?_
  refine r_bipush (v := 8) X dX3_opens_4 rfl ?_
  refine r_ic_ne X 15 dX3_opens_6 (by decide) (fun c2 => ?_) (fun c2 => ?_)
  · replace h := h.2 c2
    refine r_aload_n X 0 dX3_opens_15 rfl rfl ?_
    refine r_dup X dX3_opens_16 rfl ?_
    refine gf_X3_77 X g1 dX3_opens_17 ?_
    refine r_iconst (v := 1) X dX3_opens_20 rfl ?_
    refine r_iadd X dX3_opens_21 ?_
    obtain ⟨g8, h⟩ := h
    refine pf_X3_77 X g1 g8 dX3_opens_22 (fun s9 e10 => ?_)
    replace h := h s9 e10
    refine r_aload_n X 0 dX3_opens_25 rfl rfl ?_
    obtain ⟨g11, h⟩ := h
    have g12 : gT s9 a0 = 103 := by rw [e10]; exact g1
    refine r_cv X (r_okV (As := []) (rest := []) X (m_X3_next (xl x) G X.2.2.2.2.1 a0 s9 _ h) (cl_X3_74 X ⟨(Nat.le_of_ble_eq_true rfl), (Nat.le_of_ble_eq_true rfl)⟩) 3 g12 rfl rfl rfl rfl (Nat.le_of_ble_eq_true rfl) dX3_opens_26 g11) (fun s13 h => ?_)
    obtain ⟨g14, h⟩ := h
    exact r_thr (r_vret X h g14.1 g14.2 dX3_opens_29)
  · replace h := h.1 c2
    refine r_aload_n X 0 dX3_opens_9 rfl rfl ?_
    refine r_iconst (v := 3) X dX3_opens_10 rfl ?_
    obtain ⟨g3, h⟩ := h
    refine r_ca X (r_okV (As := [.int 3]) (rest := []) X (m_X3_wrong (xl x) G X.2.2.2.2.1 hfl a0 3 s _ h) (cl_X3_70 X ⟨(Nat.le_of_ble_eq_true rfl), (Nat.le_of_ble_eq_true rfl)⟩) 3 g1 rfl rfl rfl rfl (Nat.le_of_ble_eq_true rfl) dX3_opens_11 g3) (fun r5 s4 h => ?_)
    obtain ⟨g6, h⟩ := h
    obtain ⟨g7, h⟩ := h
    exact r_athrow X dX3_opens_14 (r_out X hnt g6 h g7.1 g7.2)
theorem m_X3_opens (l : Launch) (G : GT) (g : GK G) (hfl : l.stackTraces = false) (MC MS : Nat) (a0 : Nat) (s : PS) (Q : PS → Prop) (E : Nat → PS → Prop) (h : w_X3_opens G MC MS a0 s Q E) : vx_Met l yX3_opens (ws_ yX3_opens cX3_opens 1 none) (rm_X3_opens MC MS) (va_Pc [.ref a0] (Wr G s)) (va_Qv Q (fun u t => Wr G u t) (kF G)) (XW G E) MC MS (kF G) := by
  refine vx_ofW (cc := cX3_opens) (maxL := 1) (ret := none) (by decide) rfl ?_
  intro p e s0 m args below meth c s₁ B hml hnt hv
  obtain ⟨rfl, hw⟩ := hv
  exact wb_of [.ref a0] (Nat.le_of_ble_eq_true rfl) hw.1 rfl (e_X3_opens (cx_of g B hml rfl hw) hnt hfl a0 s Q E h)
theorem e_X9_init {x : CT} {G : GT} (X : Cx x G cX9_init 2 RX9 none rm_X9_init) (hin : (xM x).name = "<init>") (a0 : Nat) (p1 : Nat) (s : PS) (Q : PS → Prop) (h : w_X9_init G a0 p1 s Q) : WB x G 2 (QfV x G 0 0 Q) 0 0 s 0 [(0, .ref a0), (1, .ref p1)] [] := by
  unfold w_X9_init at h
  refine r_aload_n X 0 dX9_init_0 rfl rfl ?_
  refine r_cv X (r_okI (As := []) (rest := []) X (m_J10_init (xl x) G X.2.2.2.2.1 a0 s _ h) (cl_X9_1 X ⟨(Nat.le_of_ble_eq_true rfl), (Nat.le_of_ble_eq_true rfl)⟩) rfl rfl (Nat.le_of_ble_eq_true rfl) dX9_init_1 ⟨Nat.le_of_ble_eq_true rfl, Nat.le_of_ble_eq_true rfl⟩) (fun s1 h => ?_)
  refine r_aload_n X 0 dX9_init_4 rfl rfl ?_
  refine r_aload_n X 1 dX9_init_5 rfl rfl ?_
  obtain ⟨g2, h⟩ := h
  obtain ⟨g3, h⟩ := h
  refine pf_X9_7 X hin g2 (Or.inl (Nat.le_of_ble_eq_true rfl)) g3 dX9_init_6 (fun s4 e5 => ?_)
  replace h := h s4 e5
  exact r_vret X h (Nat.le_of_ble_eq_true rfl) (Nat.le_of_ble_eq_true rfl) dX9_init_9
theorem m_X9_init (l : Launch) (G : GT) (g : GK G) (a0 : Nat) (p1 : Nat) (s : PS) (Q : PS → Prop) (h : w_X9_init G a0 p1 s Q) : Met l yX9_init (ws_ yX9_init cX9_init 2 none) rm_X9_init (va_Pc [.ref a0, .ref p1] (Wr G s)) (va_Qv Q (fun u t => Wr G u t) (kF G)) 0 0 (kF G) := by
  refine Met.ofW (cc := cX9_init) (maxL := 2) (ret := none) (by decide) rfl ?_
  intro p e s0 m args below meth c s₁ B hml hv
  obtain ⟨rfl, hw⟩ := hv
  exact wb_of [.ref a0, .ref p1] (Nat.le_of_ble_eq_true rfl) hw.1 rfl (e_X9_init (cx_of g B hml rfl hw) (name_of_methodNamed B.named B.method).1 a0 p1 s Q h)
theorem e_J0_init {x : CT} {G : GT} (X : Cx x G cJ0_init 1 RJ0 none rm_J0_init) (hin : (xM x).name = "<init>") (a0 : Nat) (s : PS) (Q : PS → Prop) (h : w_J0_init G a0 s Q) : WB x G 1 (QfV x G 0 0 Q) 0 0 s 0 [(0, .ref a0)] [] := by
  unfold w_J0_init at h
  refine r_aload_n X 0 dJ0_init_0 rfl rfl ?_
  refine r_objinit X q423 q174 q175 (Nat.le_of_ble_eq_true rfl) (Nat.le_of_ble_eq_true rfl) (Nat.le_of_ble_eq_true rfl) dJ0_init_1 ?_
  exact r_vret X h (Nat.le_of_ble_eq_true rfl) (Nat.le_of_ble_eq_true rfl) dJ0_init_4
theorem m_J0_init (l : Launch) (G : GT) (g : GK G) (a0 : Nat) (s : PS) (Q : PS → Prop) (h : w_J0_init G a0 s Q) : Met l yJ0_init (ws_ yJ0_init cJ0_init 1 none) rm_J0_init (va_Pc [.ref a0] (Wr G s)) (va_Qv Q (fun u t => Wr G u t) (kF G)) 0 0 (kF G) := by
  refine Met.ofW (cc := cJ0_init) (maxL := 1) (ret := none) (by decide) rfl ?_
  intro p e s0 m args below meth c s₁ B hml hv
  obtain ⟨rfl, hw⟩ := hv
  exact wb_of [.ref a0] (Nat.le_of_ble_eq_true rfl) hw.1 rfl (e_J0_init (cx_of g B hml rfl hw) (name_of_methodNamed B.named B.method).1 a0 s Q h)
theorem e_J1_init {x : CT} {G : GT} (X : Cx x G cJ1_init 1 RJ1 none rm_J1_init) (hin : (xM x).name = "<init>") (a0 : Nat) (s : PS) (Q : PS → Prop) (h : w_J1_init G a0 s Q) : WB x G 1 (QfV x G 0 0 Q) 0 0 s 0 [(0, .ref a0)] [] := by
  unfold w_J1_init at h
  refine r_aload_n X 0 dJ1_init_0 rfl rfl ?_
  refine r_cv X (r_okI (As := []) (rest := []) X (m_J0_init (xl x) G X.2.2.2.2.1 a0 s _ h) (cl_J1_1 X ⟨(Nat.le_of_ble_eq_true rfl), (Nat.le_of_ble_eq_true rfl)⟩) rfl rfl (Nat.le_of_ble_eq_true rfl) dJ1_init_1 ⟨Nat.le_of_ble_eq_true rfl, Nat.le_of_ble_eq_true rfl⟩) (fun s1 h => ?_)
  refine r_aload_n X 0 dJ1_init_4 rfl rfl ?_
  refine r_iconst (v := 0) X dJ1_init_5 rfl ?_
  obtain ⟨g2, h⟩ := h
  obtain ⟨g3, h⟩ := h
  refine pf_J1_7 X g2 g3 dJ1_init_6 (fun s4 e5 => ?_)
  replace h := h s4 e5
  exact r_vret X h (Nat.le_of_ble_eq_true rfl) (Nat.le_of_ble_eq_true rfl) dJ1_init_9
theorem m_J1_init (l : Launch) (G : GT) (g : GK G) (a0 : Nat) (s : PS) (Q : PS → Prop) (h : w_J1_init G a0 s Q) : Met l yJ1_init (ws_ yJ1_init cJ1_init 1 none) rm_J1_init (va_Pc [.ref a0] (Wr G s)) (va_Qv Q (fun u t => Wr G u t) (kF G)) 0 0 (kF G) := by
  refine Met.ofW (cc := cJ1_init) (maxL := 1) (ret := none) (by decide) rfl ?_
  intro p e s0 m args below meth c s₁ B hml hv
  obtain ⟨rfl, hw⟩ := hv
  exact wb_of [.ref a0] (Nat.le_of_ble_eq_true rfl) hw.1 rfl (e_J1_init (cx_of g B hml rfl hw) (name_of_methodNamed B.named B.method).1 a0 s Q h)
theorem e_J2_init {x : CT} {G : GT} (X : Cx x G cJ2_init 1 RJ2 none rm_J2_init) (hin : (xM x).name = "<init>") (a0 : Nat) (s : PS) (Q : PS → Prop) (h : w_J2_init G a0 s Q) : WB x G 1 (QfV x G 0 0 Q) 0 0 s 0 [(0, .ref a0)] [] := by
  unfold w_J2_init at h
  refine r_aload_n X 0 dJ2_init_0 rfl rfl ?_
  refine r_cv X (r_okI (As := []) (rest := []) X (m_J1_init (xl x) G X.2.2.2.2.1 a0 s _ h) (cl_J2_1 X ⟨(Nat.le_of_ble_eq_true rfl), (Nat.le_of_ble_eq_true rfl)⟩) rfl rfl (Nat.le_of_ble_eq_true rfl) dJ2_init_1 ⟨Nat.le_of_ble_eq_true rfl, Nat.le_of_ble_eq_true rfl⟩) (fun s1 h => ?_)
  refine r_aload_n X 0 dJ2_init_4 rfl rfl ?_
  refine r_gets X X.2.2.2.2.1.2.2.2.2.2.2.1 q424 dJ2_init_5 ?_
  obtain ⟨g2, h⟩ := h
  obtain ⟨g3, h⟩ := h
  refine pf_J2_9 X g2 (Or.inl (Nat.le_of_ble_eq_true rfl)) g3 dJ2_init_8 (fun s4 e5 => ?_)
  replace h := h s4 e5
  exact r_vret X h (Nat.le_of_ble_eq_true rfl) (Nat.le_of_ble_eq_true rfl) dJ2_init_11
theorem m_J2_init (l : Launch) (G : GT) (g : GK G) (a0 : Nat) (s : PS) (Q : PS → Prop) (h : w_J2_init G a0 s Q) : Met l yJ2_init (ws_ yJ2_init cJ2_init 1 none) rm_J2_init (va_Pc [.ref a0] (Wr G s)) (va_Qv Q (fun u t => Wr G u t) (kF G)) 0 0 (kF G) := by
  refine Met.ofW (cc := cJ2_init) (maxL := 1) (ret := none) (by decide) rfl ?_
  intro p e s0 m args below meth c s₁ B hml hv
  obtain ⟨rfl, hw⟩ := hv
  exact wb_of [.ref a0] (Nat.le_of_ble_eq_true rfl) hw.1 rfl (e_J2_init (cx_of g B hml rfl hw) (name_of_methodNamed B.named B.method).1 a0 s Q h)
theorem e_X6_init {x : CT} {G : GT} (X : Cx x G cX6_init 2 RX6 none rm_X6_init) (hin : (xM x).name = "<init>") (a0 : Nat) (p1 : Nat) (s : PS) (Q : PS → Prop) (h : w_X6_init G a0 p1 s Q) : WB x G 2 (QfV x G 2 6 Q) 0 0 s 0 [(0, .ref a0), (1, .ref p1)] [] := by
  unfold w_X6_init at h
  refine r_aload_n X 0 dX6_init_0 rfl rfl ?_
  refine r_objinit X q669 q174 q175 (Nat.le_of_ble_eq_true rfl) (Nat.le_of_ble_eq_true rfl) (Nat.le_of_ble_eq_true rfl) dX6_init_1 ?_
  refine r_aload_n X 0 dX6_init_4 rfl rfl ?_
  refine r_new X 13 in_J2 tyJ2_ok rfl q670 q413 q145 (df_of df_J2) ⟨Nat.le_of_ble_eq_true rfl, Nat.le_of_ble_eq_true rfl⟩ dX6_init_5 (fun z1 e2 w3 u4 s5 e6 => ?_)
  replace h := h z1 e2 w3 u4 s5 e6
  have g7 : gT s5 z1 = 113 := by rw [e6, gT_pNew, if_pos e2]
  refine r_dup X dX6_init_8 rfl ?_
  refine r_cv X (r_okI (As := []) (rest := [.ref z1, .ref a0]) X (m_J2_init (xl x) G X.2.2.2.2.1 z1 s5 _ h) (cl_X6_11 X ⟨(Nat.le_of_ble_eq_true rfl), (Nat.le_of_ble_eq_true rfl)⟩) rfl rfl (Nat.le_of_ble_eq_true rfl) dX6_init_9 ⟨Nat.le_of_ble_eq_true rfl, Nat.le_of_ble_eq_true rfl⟩) (fun s8 h => ?_)
  obtain ⟨g9, h⟩ := h
  obtain ⟨g10, h⟩ := h
  refine pf_X6_12 X hin g9 (Or.inl (Nat.le_of_ble_eq_true rfl)) g10 dX6_init_12 (fun s11 e12 => ?_)
  replace h := h s11 e12
  refine r_aload_n X 0 dX6_init_15 rfl rfl ?_
  refine r_new X 13 in_J2 tyJ2_ok rfl q670 q413 q145 (df_of df_J2) ⟨Nat.le_of_ble_eq_true rfl, Nat.le_of_ble_eq_true rfl⟩ dX6_init_16 (fun z13 e14 w15 u16 s17 e18 => ?_)
  replace h := h z13 e14 w15 u16 s17 e18
  have g19 : gT s17 z13 = 113 := by rw [e18, gT_pNew, if_pos e14]
  refine r_dup X dX6_init_19 rfl ?_
  refine r_cv X (r_okI (As := []) (rest := [.ref z13, .ref a0]) X (m_J2_init (xl x) G X.2.2.2.2.1 z13 s17 _ h) (cl_X6_11 X ⟨(Nat.le_of_ble_eq_true rfl), (Nat.le_of_ble_eq_true rfl)⟩) rfl rfl (Nat.le_of_ble_eq_true rfl) dX6_init_20 ⟨Nat.le_of_ble_eq_true rfl, Nat.le_of_ble_eq_true rfl⟩) (fun s20 h => ?_)
  obtain ⟨g21, h⟩ := h
  refine pf_X6_18 X hin g21 (Or.inl (Nat.le_of_ble_eq_true rfl)) g10 dX6_init_23 (fun s22 e23 => ?_)
  replace h := h s22 e23
  refine r_aload_n X 0 dX6_init_26 rfl rfl ?_
  refine r_aload_n X 1 dX6_init_27 rfl rfl ?_
  have g24 : gT s22 a0 = 106 := by rw [e23]; exact g21
  refine pf_X6_21 X hin g24 (Or.inl (Nat.le_of_ble_eq_true rfl)) g10 dX6_init_28 (fun s25 e26 => ?_)
  replace h := h s25 e26
  exact r_vret X h (Nat.le_of_ble_eq_true rfl) (Nat.le_of_ble_eq_true rfl) dX6_init_31
theorem m_X6_init (l : Launch) (G : GT) (g : GK G) (a0 : Nat) (p1 : Nat) (s : PS) (Q : PS → Prop) (h : w_X6_init G a0 p1 s Q) : Met l yX6_init (ws_ yX6_init cX6_init 2 none) rm_X6_init (va_Pc [.ref a0, .ref p1] (Wr G s)) (va_Qv Q (fun u t => Wr G u t) (kF G)) 2 6 (kF G) := by
  refine Met.ofW (cc := cX6_init) (maxL := 2) (ret := none) (by decide) rfl ?_
  intro p e s0 m args below meth c s₁ B hml hv
  obtain ⟨rfl, hw⟩ := hv
  exact wb_of [.ref a0, .ref p1] (Nat.le_of_ble_eq_true rfl) hw.1 rfl (e_X6_init (cx_of g B hml rfl hw) (name_of_methodNamed B.named B.method).1 a0 p1 s Q h)
theorem e_J11_init {x : CT} {G : GT} (X : Cx x G cJ11_init 1 RJ11 none rm_J11_init) (hin : (xM x).name = "<init>") (a0 : Nat) (s : PS) (Q : PS → Prop) (h : w_J11_init G a0 s Q) : WB x G 1 (QfV x G 0 0 Q) 0 0 s 0 [(0, .ref a0)] [] := by
  unfold w_J11_init at h
  refine r_aload_n X 0 dJ11_init_0 rfl rfl ?_
  refine r_objinit X q701 q174 q175 (Nat.le_of_ble_eq_true rfl) (Nat.le_of_ble_eq_true rfl) (Nat.le_of_ble_eq_true rfl) dJ11_init_1 ?_
  exact r_vret X h (Nat.le_of_ble_eq_true rfl) (Nat.le_of_ble_eq_true rfl) dJ11_init_4
theorem m_J11_init (l : Launch) (G : GT) (g : GK G) (a0 : Nat) (s : PS) (Q : PS → Prop) (h : w_J11_init G a0 s Q) : Met l yJ11_init (ws_ yJ11_init cJ11_init 1 none) rm_J11_init (va_Pc [.ref a0] (Wr G s)) (va_Qv Q (fun u t => Wr G u t) (kF G)) 0 0 (kF G) := by
  refine Met.ofW (cc := cJ11_init) (maxL := 1) (ret := none) (by decide) rfl ?_
  intro p e s0 m args below meth c s₁ B hml hv
  obtain ⟨rfl, hw⟩ := hv
  exact wb_of [.ref a0] (Nat.le_of_ble_eq_true rfl) hw.1 rfl (e_J11_init (cx_of g B hml rfl hw) (name_of_methodNamed B.named B.method).1 a0 s Q h)
theorem e_J12_init {x : CT} {G : GT} (X : Cx x G cJ12_init 2 RJ12 none rm_J12_init) (hin : (xM x).name = "<init>") (a0 : Nat) (p1 : Int32) (s : PS) (Q : PS → Prop) (h : w_J12_init G a0 p1 s Q) : WB x G 2 (QfV x G 0 0 Q) 0 0 s 0 [(0, .ref a0), (1, .int p1)] [] := by
  unfold w_J12_init at h
  refine r_aload_n X 0 dJ12_init_0 rfl rfl ?_
  refine r_cv X (r_okI (As := []) (rest := []) X (m_J11_init (xl x) G X.2.2.2.2.1 a0 s _ h) (cl_J12_202 X ⟨(Nat.le_of_ble_eq_true rfl), (Nat.le_of_ble_eq_true rfl)⟩) rfl rfl (Nat.le_of_ble_eq_true rfl) dJ12_init_1 ⟨Nat.le_of_ble_eq_true rfl, Nat.le_of_ble_eq_true rfl⟩) (fun s1 h => ?_)
  refine r_aload_n X 0 dJ12_init_4 rfl rfl ?_
  refine r_iload_n X 1 dJ12_init_5 rfl rfl ?_
  obtain ⟨g2, h⟩ := h
  obtain ⟨g3, h⟩ := h
  refine pf_J12_205 X hin g2 g3 dJ12_init_6 (fun s4 e5 => ?_)
  replace h := h s4 e5
  exact r_vret X h (Nat.le_of_ble_eq_true rfl) (Nat.le_of_ble_eq_true rfl) dJ12_init_9
theorem m_J12_init (l : Launch) (G : GT) (g : GK G) (a0 : Nat) (p1 : Int32) (s : PS) (Q : PS → Prop) (h : w_J12_init G a0 p1 s Q) : Met l yJ12_init (ws_ yJ12_init cJ12_init 2 none) rm_J12_init (va_Pc [.ref a0, .int p1] (Wr G s)) (va_Qv Q (fun u t => Wr G u t) (kF G)) 0 0 (kF G) := by
  refine Met.ofW (cc := cJ12_init) (maxL := 2) (ret := none) (by decide) rfl ?_
  intro p e s0 m args below meth c s₁ B hml hv
  obtain ⟨rfl, hw⟩ := hv
  exact wb_of [.ref a0, .int p1] (Nat.le_of_ble_eq_true rfl) hw.1 rfl (e_J12_init (cx_of g B hml rfl hw) (name_of_methodNamed B.named B.method).1 a0 p1 s Q h)
theorem tb_J12_valueOf_23 {x : CT} {G : GT} (X : Cx x G cJ12_valueOf 1 RJ12 (some (.object "java/lang/Integer")) rm_J12_valueOf) (Q : Nat → PS → Prop) (v0 : Int32) (s : PS) (h : b_J12_valueOf_23 G Q v0 s) : WB x G 1 (QfA x G 1 1 Q) 0 0 s 23 [(0, .int v0)] [] := by
  unfold b_J12_valueOf_23 at h
  refine r_new X 14 in_J12 tyJ12_ok rfl q693 q694 q161 (df_of df_J12) ⟨Nat.le_of_ble_eq_true rfl, Nat.le_of_ble_eq_true rfl⟩ dJ12_valueOf_23 (fun z1 e2 w3 u4 s5 e6 => ?_)
  replace h := h z1 e2 w3 u4 s5 e6
  have g7 : gT s5 z1 = 114 := by rw [e6, gT_pNew, if_pos e2]
  refine r_dup X dJ12_valueOf_26 rfl ?_
  refine r_iload_n X 0 dJ12_valueOf_27 rfl rfl ?_
  refine r_cv X (r_okI (As := [.int v0]) (rest := [.ref z1]) X (m_J12_init (xl x) G X.2.2.2.2.1 z1 v0 s5 _ h) (cl_J12_199 X ⟨(Nat.le_of_ble_eq_true rfl), (Nat.le_of_ble_eq_true rfl)⟩) rfl rfl (Nat.le_of_ble_eq_true rfl) dJ12_valueOf_28 ⟨Nat.le_of_ble_eq_true rfl, Nat.le_of_ble_eq_true rfl⟩) (fun s8 h => ?_)
  exact r_aret X (Or.inl ⟨_, rfl⟩) h (Nat.le_of_ble_eq_true rfl) (Nat.le_of_ble_eq_true rfl) dJ12_valueOf_31
theorem e_J12_valueOf {x : CT} {G : GT} (X : Cx x G cJ12_valueOf 1 RJ12 (some (.object "java/lang/Integer")) rm_J12_valueOf) (p1 : Int32) (s : PS) (Q : Nat → PS → Prop) (h : w_J12_valueOf G p1 s Q) : WB x G 1 (QfA x G 1 1 Q) 0 0 s 0 [(0, .int p1)] [] := by
  unfold w_J12_valueOf at h
  refine r_iload_n X 0 dJ12_valueOf_0 rfl rfl ?_
  refine r_bipush (v := (-128)) X dJ12_valueOf_1 rfl ?_
  refine r_ic_lt X 23 dJ12_valueOf_3 (by decide) (fun c1 => ?_) (fun c1 => ?_)
  · replace h := h.1 c1
    exact tb_J12_valueOf_23 X Q p1 s h
  · replace h := h.2 c1
    refine r_iload_n X 0 dJ12_valueOf_6 rfl rfl ?_
    refine r_gets X X.2.2.2.2.1.2.2.2.2.2.2.2.1 q689 dJ12_valueOf_7 ?_
    refine r_ic_gt X 23 dJ12_valueOf_10 (by decide) (fun c2 => ?_) (fun c2 => ?_)
    · replace h := h.1 c2
      exact tb_J12_valueOf_23 X Q p1 s h
    · replace h := h.2 c2
      refine r_gets X X.2.2.2.2.1.2.2.2.2.2.2.2.2.1 q691 dJ12_valueOf_13 ?_
      refine r_iload_n X 0 dJ12_valueOf_16 rfl rfl ?_
      refine r_sipush (v := 128) X dJ12_valueOf_17 rfl ?_
      refine r_iadd X dJ12_valueOf_20 ?_
      obtain ⟨g3, h⟩ := h
      obtain ⟨g4, h⟩ := h
      refine r_aaldM X g3 (by decide) g4 dJ12_valueOf_21 ?_
      obtain ⟨q5, g6, h⟩ := h
      refine r_top (show va_rf (gR s (kX G 4) (Int32.toNatClampNeg (p1 + 128))) = Value.ref q5 by rw [g6]; rfl) ?_
      exact r_aret X (Or.inl ⟨_, rfl⟩) h (Nat.le_of_ble_eq_true rfl) (Nat.le_of_ble_eq_true rfl) dJ12_valueOf_22
theorem m_J12_valueOf (l : Launch) (G : GT) (g : GK G) (p1 : Int32) (s : PS) (Q : Nat → PS → Prop) (h : w_J12_valueOf G p1 s Q) : Met l yJ12_valueOf (ws_ yJ12_valueOf cJ12_valueOf 1 (some (.object "java/lang/Integer"))) rm_J12_valueOf (va_Pc [.int p1] (Wr G s)) (va_Qr (fun u : Nat × PS => Q u.1 u.2) (fun u a t => a = u.1 ∧ Wr G u.2 t) (kF G)) 1 1 (kF G) := by
  refine Met.ofW (cc := cJ12_valueOf) (maxL := 1) (ret := (some (.object "java/lang/Integer"))) (by decide) rfl ?_
  intro p e s0 m args below meth c s₁ B hml hv
  obtain ⟨rfl, hw⟩ := hv
  exact wb_of [.int p1] (Nat.le_of_ble_eq_true rfl) hw.1 rfl (e_J12_valueOf (cx_of g B hml rfl hw) p1 s Q h)
theorem e_J13_hugeLength {x : CT} {G : GT} (X : Cx x G cJ13_hugeLength 3 RJ13 (some .int) rm_J13_hugeLength) (p1 : Int32) (p2 : Int32) (s : PS) (Q : Int32 → PS → Prop) (h : w_J13_hugeLength G p1 p2 s Q) : WB x G 3 (QfI x G 0 0 Q) 0 0 s 0 [(0, .int p1), (1, .int p2)] [] := by
  unfold w_J13_hugeLength at h
  refine r_iload_n X 0 dJ13_hugeLength_0 rfl rfl ?_
  refine r_iload_n X 1 dJ13_hugeLength_1 rfl rfl ?_
  refine r_iadd X dJ13_hugeLength_2 ?_
  refine r_nmI (fun y1 e2 => ?_)
  replace h := h y1 e2
  refine r_istore_n (lv' := [(2, .int y1), (0, .int p1), (1, .int p2)]) X dJ13_hugeLength_3 rfl (Nat.le_of_ble_eq_true rfl) rfl ?_
  refine r_iload_n X 0 dJ13_hugeLength_4 rfl rfl ?_
  refine r_if_ge X 49 dJ13_hugeLength_5 (by decide) (fun c3 => ?_) (fun c3 => ?_)
  · replace h := h.1 c3
    refine r_iload_n X 0 dJ13_hugeLength_49 rfl rfl ?_
    refine r_ldc X q728 dJ13_hugeLength_50 ?_
    refine r_ic_gt X 58 dJ13_hugeLength_52 (by decide) (fun c4 => ?_) (fun c4 => ?_)
    · replace h := h.1 c4
      refine r_iload_n X 0 dJ13_hugeLength_58 rfl rfl ?_
      exact r_iret X h (Nat.le_of_ble_eq_true rfl) (Nat.le_of_ble_eq_true rfl) dJ13_hugeLength_59
    · replace h := h.2 c4
      refine r_ldc X q728 dJ13_hugeLength_55 ?_
      exact r_iret X h (Nat.le_of_ble_eq_true rfl) (Nat.le_of_ble_eq_true rfl) dJ13_hugeLength_57
  · replace h := h.2 c3
    exact h.elim
theorem m_J13_hugeLength (l : Launch) (G : GT) (g : GK G) (p1 : Int32) (p2 : Int32) (s : PS) (Q : Int32 → PS → Prop) (h : w_J13_hugeLength G p1 p2 s Q) : Met l yJ13_hugeLength (ws_ yJ13_hugeLength cJ13_hugeLength 3 (some .int)) rm_J13_hugeLength (va_Pc [.int p1, .int p2] (Wr G s)) (va_Qi Q (fun u t => Wr G u t) (kF G)) 0 0 (kF G) := by
  refine Met.ofW (cc := cJ13_hugeLength) (maxL := 3) (ret := (some .int)) (by decide) rfl ?_
  intro p e s0 m args below meth c s₁ B hml hv
  obtain ⟨rfl, hw⟩ := hv
  exact wb_of [.int p1, .int p2] (Nat.le_of_ble_eq_true rfl) hw.1 rfl (e_J13_hugeLength (cx_of g B hml rfl hw) p1 p2 s Q h)
theorem tb_J13_newLength_21 {x : CT} {G : GT} (X : Cx x G cJ13_newLength 4 RJ13 (some .int) rm_J13_newLength) (Q : Int32 → PS → Prop) (v0 : Int32) (v1 : Int32) (s : PS) (h : b_J13_newLength_21 G Q v0 v1 s) : WB x G 4 (QfI x G 0 0 Q) 0 0 s 21 [(0, .int v0), (1, .int v1)] [] := by
  unfold b_J13_newLength_21 at h
  refine r_iload_n X 0 dJ13_newLength_21 rfl rfl ?_
  refine r_iload_n X 1 dJ13_newLength_22 rfl rfl ?_
  refine r_ci X (r_okS (As := [.int v0, .int v1]) (rest := []) X (m_J13_hugeLength (xl x) G X.2.2.2.2.1 v0 v1 s _ h) (cl_J13_201 X ⟨(Nat.le_of_ble_eq_true rfl), (Nat.le_of_ble_eq_true rfl)⟩) rfl rfl (Nat.le_of_ble_eq_true rfl) dJ13_newLength_23 ⟨Nat.le_of_ble_eq_true rfl, Nat.le_of_ble_eq_true rfl⟩) (fun r2 s1 h => ?_)
  exact r_iret X h (Nat.le_of_ble_eq_true rfl) (Nat.le_of_ble_eq_true rfl) dJ13_newLength_26
theorem e_J13_newLength {x : CT} {G : GT} (X : Cx x G cJ13_newLength 4 RJ13 (some .int) rm_J13_newLength) (p1 : Int32) (p2 : Int32) (p3 : Int32) (s : PS) (Q : Int32 → PS → Prop) (h : w_J13_newLength G p1 p2 p3 s Q) : WB x G 4 (QfI x G 0 0 Q) 0 0 s 0 [(0, .int p1), (1, .int p2), (2, .int p3)] [] := by
  unfold w_J13_newLength at h
  refine r_iload_n X 0 dJ13_newLength_0 rfl rfl ?_
  refine r_iload_n X 1 dJ13_newLength_1 rfl rfl ?_
  refine r_iload_n X 2 dJ13_newLength_2 rfl rfl ?_
  refine r_mmax X q725 q726 q150 q727 (Nat.le_of_ble_eq_true rfl) (Nat.le_of_ble_eq_true rfl) (Nat.le_of_ble_eq_true rfl) ⟨Nat.le_of_ble_eq_true rfl, Nat.le_of_ble_eq_true rfl⟩ dJ13_newLength_3 ?_
  refine r_iadd X dJ13_newLength_6 ?_
  refine r_nmI (fun y1 e2 => ?_)
  replace h := h y1 e2
  refine r_istore_n (lv' := [(3, .int y1), (0, .int p1), (1, .int p2), (2, .int p3)]) X dJ13_newLength_7 rfl (Nat.le_of_ble_eq_true rfl) rfl ?_
  refine r_iconst (v := 0) X dJ13_newLength_8 rfl ?_
  refine r_iload_n X 0 dJ13_newLength_9 rfl rfl ?_
  refine r_ic_ge X 21 dJ13_newLength_10 (by decide) (fun c3 => ?_) (fun c3 => ?_)
  · replace h := h.1 c3
    refine r_sub [1, 2] rfl ?_
    exact tb_J13_newLength_21 X Q p1 p2 s h
  · replace h := h.2 c3
    refine r_iload_n X 0 dJ13_newLength_13 rfl rfl ?_
    refine r_ldc X q728 dJ13_newLength_14 ?_
    refine r_ic_gt X 21 dJ13_newLength_16 (by decide) (fun c4 => ?_) (fun c4 => ?_)
    · replace h := h.1 c4
      refine r_sub [1, 2] rfl ?_
      exact tb_J13_newLength_21 X Q p1 p2 s h
    · replace h := h.2 c4
      refine r_iload_n X 0 dJ13_newLength_19 rfl rfl ?_
      exact r_iret X h (Nat.le_of_ble_eq_true rfl) (Nat.le_of_ble_eq_true rfl) dJ13_newLength_20
theorem m_J13_newLength (l : Launch) (G : GT) (g : GK G) (p1 : Int32) (p2 : Int32) (p3 : Int32) (s : PS) (Q : Int32 → PS → Prop) (h : w_J13_newLength G p1 p2 p3 s Q) : Met l yJ13_newLength (ws_ yJ13_newLength cJ13_newLength 4 (some .int)) rm_J13_newLength (va_Pc [.int p1, .int p2, .int p3] (Wr G s)) (va_Qi Q (fun u t => Wr G u t) (kF G)) 0 0 (kF G) := by
  refine Met.ofW (cc := cJ13_newLength) (maxL := 4) (ret := (some .int)) (by decide) rfl ?_
  intro p e s0 m args below meth c s₁ B hml hv
  obtain ⟨rfl, hw⟩ := hv
  exact wb_of [.int p1, .int p2, .int p3] (Nat.le_of_ble_eq_true rfl) hw.1 rfl (e_J13_newLength (cx_of g B hml rfl hw) p1 p2 p3 s Q h)
theorem e_J14_copyOf_2 {x : CT} {G : GT} {MC MS : Nat} (X : Cx x G cJ14_copyOf_2 4 RJ14 (some (.array (.object "java/lang/Object"))) (rm_J14_copyOf_2 MC MS)) (p1 : Nat) (p2 : Int32) (p3 : Nat) (s : PS) (Q : Nat → PS → Prop) (h : w_J14_copyOf_2 G MC MS p1 p2 p3 s Q) : WB x G 4 (QfA x G MC MS Q) 0 0 s 0 [(0, .ref p1), (1, .int p2), (2, .ref p3)] [] := by
  unfold w_J14_copyOf_2 at h
  refine r_aload_n X 2 dJ14_copyOf_2_0 rfl rfl ?_
  refine r_ldcM X q757 dJ14_copyOf_2_1 ?_
  refine r_ac_ne X 13 dJ14_copyOf_2_3 (by decide) (fun c1 => ?_) (fun c1 => ?_)
  · replace h := h.2 c1
    exact h.elim
  · replace h := h.1 c1
    refine r_iload_n X 1 dJ14_copyOf_2_6 rfl rfl ?_
    obtain ⟨g2, h⟩ := h
    obtain ⟨g3, h⟩ := h
    obtain ⟨g4, h⟩ := h
    refine r_newo X 7 (by decide) rfl q759 (nw_A X.2.2.2.2.1 X.2.2.2.2.2.1 q758) rfl g2 g3 g4 dJ14_copyOf_2_7 (fun z5 e6 w7 u8 s9 e10 => ?_)
    replace h := h z5 e6 w7 u8 s9 e10
    have g11 : gT s9 z5 = 7 := by rw [e10, gT_pNew, if_pos e6]
    refine r_goto X 24 dJ14_copyOf_2_10 (by decide) ?_
    refine r_astore_n (lv' := [(3, .ref z5), (0, .ref p1), (1, .int p2), (2, .ref p3)]) X dJ14_copyOf_2_24 rfl (Nat.le_of_ble_eq_true rfl) rfl ?_
    refine r_aload_n X 1 dJ14_copyOf_2_25 rfl rfl ?_
    refine r_iconst (v := 0) X dJ14_copyOf_2_26 rfl ?_
    refine r_aload_n X 0 dJ14_copyOf_2_27 rfl rfl ?_
    refine r_iconst (v := 0) X dJ14_copyOf_2_28 rfl ?_
    refine r_aload_n X 1 dJ14_copyOf_2_29 rfl rfl ?_
    obtain ⟨g12, h⟩ := h
    refine r_alenM X g12 (by decide) dJ14_copyOf_2_30 ?_
    refine r_iload_n X 2 dJ14_copyOf_2_31 rfl rfl ?_
    obtain ⟨g13, h⟩ := h
    refine r_mmin X q760 q518 q150 q519 (Nat.le_of_ble_eq_true rfl) (Nat.le_of_ble_eq_true rfl) (Nat.le_of_ble_eq_true rfl) g13 dJ14_copyOf_2_32 ?_
    obtain ⟨g14, h⟩ := h
    obtain ⟨g15, h⟩ := h
    obtain ⟨g16, h⟩ := h
    obtain ⟨g17, h⟩ := h
    obtain ⟨g18, h⟩ := h
    refine r_cpyO X q761 q235 q234 q139 g14 g11 (by decide) (by decide) g15 g16 g17 w7 g18 (Nat.le_of_ble_eq_true rfl) (Nat.le_of_ble_eq_true rfl) (Nat.le_of_ble_eq_true rfl) dJ14_copyOf_2_35 (fun s19 e20 => ?_)
    replace h := h s19 e20
    refine r_aload_n X 0 dJ14_copyOf_2_38 rfl rfl ?_
    obtain ⟨g21, h⟩ := h
    exact r_aret X (Or.inr ⟨_, rfl⟩) h g21.1 g21.2 dJ14_copyOf_2_39
theorem m_J14_copyOf_2 (l : Launch) (G : GT) (g : GK G) (MC MS : Nat) (p1 : Nat) (p2 : Int32) (p3 : Nat) (s : PS) (Q : Nat → PS → Prop) (h : w_J14_copyOf_2 G MC MS p1 p2 p3 s Q) : Met l yJ14_copyOf_2 (ws_ yJ14_copyOf_2 cJ14_copyOf_2 4 (some (.array (.object "java/lang/Object")))) (rm_J14_copyOf_2 MC MS) (va_Pc [.ref p1, .int p2, .ref p3] (Wr G s)) (va_Qr (fun u : Nat × PS => Q u.1 u.2) (fun u a t => a = u.1 ∧ Wr G u.2 t) (kF G)) MC MS (kF G) := by
  refine Met.ofW (cc := cJ14_copyOf_2) (maxL := 4) (ret := (some (.array (.object "java/lang/Object")))) (by decide) rfl ?_
  intro p e s0 m args below meth c s₁ B hml hv
  obtain ⟨rfl, hw⟩ := hv
  exact wb_of [.ref p1, .int p2, .ref p3] (Nat.le_of_ble_eq_true rfl) hw.1 rfl (e_J14_copyOf_2 (cx_of g B hml rfl hw) p1 p2 p3 s Q h)
theorem e_J14_copyOf {x : CT} {G : GT} {MC MS : Nat} (X : Cx x G cJ14_copyOf 2 RJ14 (some (.array (.object "java/lang/Object"))) (rm_J14_copyOf MC MS)) (p1 : Nat) (p2 : Int32) (s : PS) (Q : Nat → PS → Prop) (h : w_J14_copyOf G MC MS p1 p2 s Q) : WB x G 2 (QfA x G MC MS Q) 0 0 s 0 [(0, .ref p1), (1, .int p2)] [] := by
  unfold w_J14_copyOf at h
  refine r_aload_n X 0 dJ14_copyOf_0 rfl rfl ?_
  refine r_iload_n X 1 dJ14_copyOf_1 rfl rfl ?_
  refine r_aload_n X 0 dJ14_copyOf_2 rfl rfl ?_
  obtain ⟨g1, h⟩ := h
  refine r_getC X q735 q2009 q736 q753 q2010 g1 (Nat.le_of_ble_eq_true rfl) (Nat.le_of_ble_eq_true rfl) (Nat.le_of_ble_eq_true rfl) dJ14_copyOf_3 ?_
  obtain ⟨A2, B3, h⟩ := h
  obtain ⟨g4, h⟩ := h
  refine r_ca X (r_okS (As := [.ref p1, .int p2, .ref (kX G 6)]) (rest := []) X (m_J14_copyOf_2 (xl x) G X.2.2.2.2.1 A2 B3 p1 p2 (kX G 6) s _ h) (cl_J14_300 X ⟨(Nat.le_of_ble_eq_true rfl), (Nat.le_of_ble_eq_true rfl)⟩) rfl rfl (Nat.le_of_ble_eq_true rfl) dJ14_copyOf_6 g4) (fun r6 s5 h => ?_)
  obtain ⟨g7, h⟩ := h
  exact r_aret X (Or.inr ⟨_, rfl⟩) h g7.1 g7.2 dJ14_copyOf_9
theorem m_J14_copyOf (l : Launch) (G : GT) (g : GK G) (MC MS : Nat) (p1 : Nat) (p2 : Int32) (s : PS) (Q : Nat → PS → Prop) (h : w_J14_copyOf G MC MS p1 p2 s Q) : Met l yJ14_copyOf (ws_ yJ14_copyOf cJ14_copyOf 2 (some (.array (.object "java/lang/Object")))) (rm_J14_copyOf MC MS) (va_Pc [.ref p1, .int p2] (Wr G s)) (va_Qr (fun u : Nat × PS => Q u.1 u.2) (fun u a t => a = u.1 ∧ Wr G u.2 t) (kF G)) MC MS (kF G) := by
  refine Met.ofW (cc := cJ14_copyOf) (maxL := 2) (ret := (some (.array (.object "java/lang/Object")))) (by decide) rfl ?_
  intro p e s0 m args below meth c s₁ B hml hv
  obtain ⟨rfl, hw⟩ := hv
  exact wb_of [.ref p1, .int p2] (Nat.le_of_ble_eq_true rfl) hw.1 rfl (e_J14_copyOf (cx_of g B hml rfl hw) p1 p2 s Q h)
theorem tb_J2_grow_2_20 {x : CT} {G : GT} {MC MS : Nat} (X : Cx x G cJ2_grow_2 4 RJ2 (some (.array (.object "java/lang/Object"))) (rm_J2_grow_2 MC MS)) (Q : Nat → PS → Prop) (v0 : Nat) (v1 : Int32) (v2 : Int32) (ce sl : Nat) (s : PS) (h : b_J2_grow_2_20 G MC MS Q v0 v1 v2 ce sl s) : WB x G 4 (QfA x G MC MS Q) ce sl s 20 [(0, .ref v0), (1, .int v1), (2, .int v2)] [] := by
  unfold b_J2_grow_2_20 at h
  refine r_iload_n X 2 dJ2_grow_2_20 rfl rfl ?_
  refine r_iload_n X 1 dJ2_grow_2_21 rfl rfl ?_
  refine r_iload_n X 2 dJ2_grow_2_22 rfl rfl ?_
  refine r_isub X dJ2_grow_2_23 ?_
  refine r_iload_n X 2 dJ2_grow_2_24 rfl rfl ?_
  refine r_iconst (v := 1) X dJ2_grow_2_25 rfl ?_
  refine r_ishr X dJ2_grow_2_26 ?_
  obtain ⟨g1, h⟩ := h
  refine r_ci X (r_okS (As := [.int v2, .int (v1 - v2), .int (v2 >>> (1 &&& 31))]) (rest := []) X (m_J13_newLength (xl x) G X.2.2.2.2.1 v2 (v1 - v2) (v2 >>> (1 &&& 31)) s _ h) (cl_J2_73 X ⟨(Nat.le_of_ble_eq_true rfl), (Nat.le_of_ble_eq_true rfl)⟩) rfl rfl (Nat.le_of_ble_eq_true rfl) dJ2_grow_2_27 g1) (fun r3 s2 h => ?_)
  refine r_istore_n (lv' := [(3, .int r3), (0, .ref v0), (1, .int v1), (2, .int v2)]) X dJ2_grow_2_30 rfl (Nat.le_of_ble_eq_true rfl) rfl ?_
  refine r_aload_n X 1 dJ2_grow_2_31 rfl rfl ?_
  refine r_aload_n X 1 dJ2_grow_2_32 rfl rfl ?_
  obtain ⟨g4, h⟩ := h
  refine gf_J2_9 X g4 dJ2_grow_2_33 ?_
  obtain ⟨q5, g6, h⟩ := h
  refine r_top (show va_rf (gR s2 v0 1) = Value.ref q5 by rw [g6]; rfl) ?_
  refine r_iload_n X 0 dJ2_grow_2_36 rfl rfl ?_
  obtain ⟨A7, B8, h⟩ := h
  obtain ⟨g9, h⟩ := h
  refine r_ca X (r_okS (As := [.ref q5, .int r3]) (rest := [.ref v0]) X (m_J14_copyOf (xl x) G X.2.2.2.2.1 A7 B8 q5 r3 s2 _ h) (cl_J2_66 X ⟨(Nat.le_of_ble_eq_true rfl), (Nat.le_of_ble_eq_true rfl)⟩) rfl rfl (Nat.le_of_ble_eq_true rfl) dJ2_grow_2_37 g9) (fun r11 s10 h => ?_)
  refine r_dup_x1 X dJ2_grow_2_40 rfl rfl ?_
  obtain ⟨g12, h⟩ := h
  obtain ⟨g13, h⟩ := h
  refine pf_J2_9 X g12 (Or.inl (Nat.le_of_ble_eq_true rfl)) g13 dJ2_grow_2_41 (fun s14 e15 => ?_)
  replace h := h s14 e15
  obtain ⟨g16, h⟩ := h
  exact r_aret X (Or.inr ⟨_, rfl⟩) h g16.1 g16.2 dJ2_grow_2_44
theorem e_J2_grow_2 {x : CT} {G : GT} {MC MS : Nat} (X : Cx x G cJ2_grow_2 4 RJ2 (some (.array (.object "java/lang/Object"))) (rm_J2_grow_2 MC MS)) (a0 : Nat) (p1 : Int32) (s : PS) (Q : Nat → PS → Prop) (h : w_J2_grow_2 G MC MS a0 p1 s Q) : WB x G 4 (QfA x G MC MS Q) 0 0 s 0 [(0, .ref a0), (1, .int p1)] [] := by
  unfold w_J2_grow_2 at h
  refine r_aload_n X 0 dJ2_grow_2_0 rfl rfl ?_
  obtain ⟨g1, h⟩ := h
  refine gf_J2_9 X g1 dJ2_grow_2_1 ?_
  obtain ⟨q2, g3, h⟩ := h
  refine r_top (show va_rf (gR s a0 1) = Value.ref q2 by rw [g3]; rfl) ?_
  obtain ⟨g4, h⟩ := h
  refine r_alenM X g4 (by decide) dJ2_grow_2_4 ?_
  refine r_nmI (fun y5 e6 => ?_)
  replace h := h y5 e6
  refine r_istore_n (lv' := [(2, .int y5), (0, .ref a0), (1, .int p1)]) X dJ2_grow_2_5 rfl (Nat.le_of_ble_eq_true rfl) rfl ?_
  refine r_iload_n X 0 dJ2_grow_2_6 rfl rfl ?_
  refine r_if_gt X 20 dJ2_grow_2_7 (by decide) (fun c7 => ?_) (fun c7 => ?_)
  · replace h := h.1 c7
    refine r_sub [1, 2, 0] rfl ?_
    exact tb_J2_grow_2_20 X Q a0 p1 y5 0 0 s h
  · replace h := h.2 c7
    refine r_aload_n X 1 dJ2_grow_2_10 rfl rfl ?_
    refine gf_J2_9 X g1 dJ2_grow_2_11 ?_
    obtain ⟨q8, g9, h⟩ := h
    refine r_top (show va_rf (gR s a0 1) = Value.ref q8 by rw [g9]; rfl) ?_
    refine r_gets X X.2.2.2.2.1.2.2.2.2.2.2.1 q424 dJ2_grow_2_14 ?_
    refine r_ac_eq X 45 dJ2_grow_2_17 (by decide) (fun c10 => ?_) (fun c10 => ?_)
    · replace h := h.1 c10
      refine r_aload_n X 1 dJ2_grow_2_45 rfl rfl ?_
      refine r_bipush (v := 10) X dJ2_grow_2_46 rfl ?_
      refine r_iload_n X 2 dJ2_grow_2_48 rfl rfl ?_
      obtain ⟨g11, h⟩ := h
      refine r_mmax X q762 q726 q150 q727 (Nat.le_of_ble_eq_true rfl) (Nat.le_of_ble_eq_true rfl) (Nat.le_of_ble_eq_true rfl) g11 dJ2_grow_2_49 ?_
      obtain ⟨g12, h⟩ := h
      obtain ⟨g13, h⟩ := h
      obtain ⟨g14, h⟩ := h
      refine r_newo X 7 (by decide) rfl q763 (nw_A X.2.2.2.2.1 X.2.2.2.2.2.1 q758) rfl g12 g13 g14 dJ2_grow_2_52 (fun z15 e16 w17 u18 s19 e20 => ?_)
      replace h := h z15 e16 w17 u18 s19 e20
      have g21 : gT s19 z15 = 7 := by rw [e20, gT_pNew, if_pos e16]
      refine r_dup_x1 X dJ2_grow_2_55 rfl rfl ?_
      have g22 : gT s19 a0 = 113 := by rw [e20, gT_pNew, if_neg (fun c => by have := u18 _ (show gT s a0 ≠ 0 by rw [g1]; decide); rw [e16] at this; omega)]; exact g1
      obtain ⟨g23, h⟩ := h
      refine pf_J2_9 X g22 (Or.inl (Nat.le_of_ble_eq_true rfl)) g23 dJ2_grow_2_56 (fun s24 e25 => ?_)
      replace h := h s24 e25
      obtain ⟨g26, h⟩ := h
      exact r_aret X (Or.inr ⟨_, rfl⟩) h g26.1 g26.2 dJ2_grow_2_59
    · replace h := h.2 c10
      refine r_sub [1, 2, 0] rfl ?_
      exact tb_J2_grow_2_20 X Q a0 p1 y5 0 0 s h
theorem m_J2_grow_2 (l : Launch) (G : GT) (g : GK G) (MC MS : Nat) (a0 : Nat) (p1 : Int32) (s : PS) (Q : Nat → PS → Prop) (h : w_J2_grow_2 G MC MS a0 p1 s Q) : Met l yJ2_grow_2 (ws_ yJ2_grow_2 cJ2_grow_2 4 (some (.array (.object "java/lang/Object")))) (rm_J2_grow_2 MC MS) (va_Pc [.ref a0, .int p1] (Wr G s)) (va_Qr (fun u : Nat × PS => Q u.1 u.2) (fun u a t => a = u.1 ∧ Wr G u.2 t) (kF G)) MC MS (kF G) := by
  refine Met.ofW (cc := cJ2_grow_2) (maxL := 4) (ret := (some (.array (.object "java/lang/Object")))) (by decide) rfl ?_
  intro p e s0 m args below meth c s₁ B hml hv
  obtain ⟨rfl, hw⟩ := hv
  exact wb_of [.ref a0, .int p1] (Nat.le_of_ble_eq_true rfl) hw.1 rfl (e_J2_grow_2 (cx_of g B hml rfl hw) a0 p1 s Q h)
theorem e_J2_grow {x : CT} {G : GT} {MC MS : Nat} (X : Cx x G cJ2_grow 1 RJ2 (some (.array (.object "java/lang/Object"))) (rm_J2_grow MC MS)) (a0 : Nat) (s : PS) (Q : Nat → PS → Prop) (h : w_J2_grow G MC MS a0 s Q) : WB x G 1 (QfA x G MC MS Q) 0 0 s 0 [(0, .ref a0)] [] := by
  unfold w_J2_grow at h
  refine r_aload_n X 0 dJ2_grow_0 rfl rfl ?_
  refine r_aload_n X 0 dJ2_grow_1 rfl rfl ?_
  obtain ⟨g1, h⟩ := h
  refine gf_J2_48 X g1 dJ2_grow_2 ?_
  refine r_iconst (v := 1) X dJ2_grow_5 rfl ?_
  refine r_iadd X dJ2_grow_6 ?_
  obtain ⟨A2, B3, h⟩ := h
  obtain ⟨g4, h⟩ := h
  refine r_ca X (r_okV (As := [.int ((gI s a0 2) + 1)]) (rest := []) X (m_J2_grow_2 (xl x) G X.2.2.2.2.1 A2 B3 a0 ((gI s a0 2) + 1) s _ h) (cl_J2_69 X ⟨(Nat.le_of_ble_eq_true rfl), (Nat.le_of_ble_eq_true rfl)⟩) 13 g1 rfl rfl rfl rfl (Nat.le_of_ble_eq_true rfl) dJ2_grow_7 g4) (fun r6 s5 h => ?_)
  obtain ⟨g7, h⟩ := h
  exact r_aret X (Or.inr ⟨_, rfl⟩) h g7.1 g7.2 dJ2_grow_10
theorem m_J2_grow (l : Launch) (G : GT) (g : GK G) (MC MS : Nat) (a0 : Nat) (s : PS) (Q : Nat → PS → Prop) (h : w_J2_grow G MC MS a0 s Q) : Met l yJ2_grow (ws_ yJ2_grow cJ2_grow 1 (some (.array (.object "java/lang/Object")))) (rm_J2_grow MC MS) (va_Pc [.ref a0] (Wr G s)) (va_Qr (fun u : Nat × PS => Q u.1 u.2) (fun u a t => a = u.1 ∧ Wr G u.2 t) (kF G)) MC MS (kF G) := by
  refine Met.ofW (cc := cJ2_grow) (maxL := 1) (ret := (some (.array (.object "java/lang/Object")))) (by decide) rfl ?_
  intro p e s0 m args below meth c s₁ B hml hv
  obtain ⟨rfl, hw⟩ := hv
  exact wb_of [.ref a0] (Nat.le_of_ble_eq_true rfl) hw.1 rfl (e_J2_grow (cx_of g B hml rfl hw) a0 s Q h)
theorem tb_J2_add_2_11 {x : CT} {G : GT} {MC MS : Nat} (X : Cx x G cJ2_add_2 4 RJ2 none (rm_J2_add_2 MC MS)) (Q : PS → Prop) (v0 : Nat) (v1 : Nat) (v2 : Nat) (v3 : Int32) (ce sl : Nat) (s : PS) (h : b_J2_add_2_11 G MC MS Q v0 v1 v2 v3 ce sl s) : WB x G 4 (QfV x G MC MS Q) ce sl s 11 [(0, .ref v0), (1, .ref v1), (2, .ref v2), (3, .int v3)] [] := by
  unfold b_J2_add_2_11 at h
  refine r_aload_n X 2 dJ2_add_2_11 rfl rfl ?_
  refine r_iload_n X 3 dJ2_add_2_12 rfl rfl ?_
  refine r_aload_n X 1 dJ2_add_2_13 rfl rfl ?_
  obtain ⟨g1, h⟩ := h
  obtain ⟨g2, h⟩ := h
  obtain ⟨g3, h⟩ := h
  refine r_aast X g1 g2 g3 dJ2_add_2_14 (fun s4 e5 => ?_)
  replace h := h s4 e5
  refine r_aload_n X 0 dJ2_add_2_15 rfl rfl ?_
  refine r_iload_n X 3 dJ2_add_2_16 rfl rfl ?_
  refine r_iconst (v := 1) X dJ2_add_2_17 rfl ?_
  refine r_iadd X dJ2_add_2_18 ?_
  obtain ⟨g6, h⟩ := h
  obtain ⟨g7, h⟩ := h
  refine pf_J2_48 X g6 g7 dJ2_add_2_19 (fun s8 e9 => ?_)
  replace h := h s8 e9
  obtain ⟨g10, h⟩ := h
  exact r_vret X h g10.1 g10.2 dJ2_add_2_22
theorem e_J2_add_2 {x : CT} {G : GT} {MC MS : Nat} (X : Cx x G cJ2_add_2 4 RJ2 none (rm_J2_add_2 MC MS)) (a0 : Nat) (p1 : Nat) (p2 : Nat) (p3 : Int32) (s : PS) (Q : PS → Prop) (h : w_J2_add_2 G MC MS a0 p1 p2 p3 s Q) : WB x G 4 (QfV x G MC MS Q) 0 0 s 0 [(0, .ref a0), (1, .ref p1), (2, .ref p2), (3, .int p3)] [] := by
  unfold w_J2_add_2 at h
  refine r_iload_n X 3 dJ2_add_2_0 rfl rfl ?_
  refine r_aload_n X 2 dJ2_add_2_1 rfl rfl ?_
  obtain ⟨g1, h⟩ := h
  refine r_alenM X g1 (by decide) dJ2_add_2_2 ?_
  refine r_ic_ne X 11 dJ2_add_2_3 (by decide) (fun c2 => ?_) (fun c2 => ?_)
  · replace h := h.2 c2
    exact tb_J2_add_2_11 X Q a0 p1 p2 p3 0 0 s h
  · replace h := h.1 c2
    refine r_aload_n X 0 dJ2_add_2_6 rfl rfl ?_
    obtain ⟨A3, B4, h⟩ := h
    obtain ⟨g5, h⟩ := h
    obtain ⟨g6, h⟩ := h
    refine r_ca X (r_okV (As := []) (rest := []) X (m_J2_grow (xl x) G X.2.2.2.2.1 A3 B4 a0 s _ h) (cl_J2_129 X ⟨(Nat.le_of_ble_eq_true rfl), (Nat.le_of_ble_eq_true rfl)⟩) 13 g6 rfl rfl rfl rfl (Nat.le_of_ble_eq_true rfl) dJ2_add_2_7 g5) (fun r8 s7 h => ?_)
    refine r_astore_n (lv' := [(2, .ref r8), (0, .ref a0), (1, .ref p1), (3, .int p3)]) X dJ2_add_2_10 rfl (Nat.le_of_ble_eq_true rfl) rfl ?_
    refine r_sub [1, 2, 0, 3] rfl ?_
    exact tb_J2_add_2_11 X Q a0 p1 r8 p3 (0 + A3) (0 + B4) s7 h
theorem m_J2_add_2 (l : Launch) (G : GT) (g : GK G) (MC MS : Nat) (a0 : Nat) (p1 : Nat) (p2 : Nat) (p3 : Int32) (s : PS) (Q : PS → Prop) (h : w_J2_add_2 G MC MS a0 p1 p2 p3 s Q) : Met l yJ2_add_2 (ws_ yJ2_add_2 cJ2_add_2 4 none) (rm_J2_add_2 MC MS) (va_Pc [.ref a0, .ref p1, .ref p2, .int p3] (Wr G s)) (va_Qv Q (fun u t => Wr G u t) (kF G)) MC MS (kF G) := by
  refine Met.ofW (cc := cJ2_add_2) (maxL := 4) (ret := none) (by decide) rfl ?_
  intro p e s0 m args below meth c s₁ B hml hv
  obtain ⟨rfl, hw⟩ := hv
  exact wb_of [.ref a0, .ref p1, .ref p2, .int p3] (Nat.le_of_ble_eq_true rfl) hw.1 rfl (e_J2_add_2 (cx_of g B hml rfl hw) a0 p1 p2 p3 s Q h)
theorem e_J2_add {x : CT} {G : GT} {MC MS : Nat} (X : Cx x G cJ2_add 2 RJ2 (some .boolean) (rm_J2_add MC MS)) (a0 : Nat) (p1 : Nat) (s : PS) (Q : Int32 → PS → Prop) (h : w_J2_add G MC MS a0 p1 s Q) : WB x G 2 (QfI x G MC MS (fun r u => (r = 0 ∨ r = 1) ∧ Q r u)) 0 0 s 0 [(0, .ref a0), (1, .ref p1)] [] := by
  unfold w_J2_add at h
  refine r_aload_n X 0 dJ2_add_0 rfl rfl ?_
  refine r_dup X dJ2_add_1 rfl ?_
  obtain ⟨g1, h⟩ := h
  refine gf_J2_63 X g1 dJ2_add_2 ?_
  refine r_iconst (v := 1) X dJ2_add_5 rfl ?_
  refine r_iadd X dJ2_add_6 ?_
  obtain ⟨g2, h⟩ := h
  refine pf_J2_63 X g1 g2 dJ2_add_7 (fun s3 e4 => ?_)
  replace h := h s3 e4
  refine r_aload_n X 0 dJ2_add_10 rfl rfl ?_
  refine r_aload_n X 1 dJ2_add_11 rfl rfl ?_
  refine r_aload_n X 0 dJ2_add_12 rfl rfl ?_
  have g5 : gT s3 a0 = 113 := by rw [e4]; exact g1
  refine gf_J2_9 X g5 dJ2_add_13 ?_
  obtain ⟨q6, g7, h⟩ := h
  refine r_top (show va_rf (gR s3 a0 1) = Value.ref q6 by rw [g7]; rfl) ?_
  refine r_aload_n X 0 dJ2_add_16 rfl rfl ?_
  refine gf_J2_48 X g5 dJ2_add_17 ?_
  obtain ⟨A8, B9, h⟩ := h
  obtain ⟨g10, h⟩ := h
  refine r_cv X (r_okV (As := [.ref p1, .ref q6, .int (gI s3 a0 2)]) (rest := []) X (m_J2_add_2 (xl x) G X.2.2.2.2.1 A8 B9 a0 p1 q6 (gI s3 a0 2) s3 _ h) (cl_J2_131 X ⟨(Nat.le_of_ble_eq_true rfl), (Nat.le_of_ble_eq_true rfl)⟩) 13 g5 rfl rfl rfl rfl (Nat.le_of_ble_eq_true rfl) dJ2_add_20 g10) (fun s11 h => ?_)
  refine r_iconst (v := 1) X dJ2_add_23 rfl ?_
  obtain ⟨g12, h⟩ := h
  exact r_zret X (Or.inr rfl) h g12.1 g12.2 dJ2_add_24
theorem m_J2_add (l : Launch) (G : GT) (g : GK G) (MC MS : Nat) (a0 : Nat) (p1 : Nat) (s : PS) (Q : Int32 → PS → Prop) (h : w_J2_add G MC MS a0 p1 s Q) : Met l yJ2_add (ws_ yJ2_add cJ2_add 2 (some .boolean)) (rm_J2_add MC MS) (va_Pc [.ref a0, .ref p1] (Wr G s)) (va_Qi (fun r u => (r = 0 ∨ r = 1) ∧ Q r u) (fun u t => Wr G u t) (kF G)) MC MS (kF G) := by
  refine Met.ofW (cc := cJ2_add) (maxL := 2) (ret := (some .boolean)) (by decide) rfl ?_
  intro p e s0 m args below meth c s₁ B hml hv
  obtain ⟨rfl, hw⟩ := hv
  exact wb_of [.ref a0, .ref p1] (Nat.le_of_ble_eq_true rfl) hw.1 rfl (e_J2_add (cx_of g B hml rfl hw) a0 p1 s Q h)
theorem e_X6_add {x : CT} {G : GT} {MC MS : Nat} (X : Cx x G cX6_add 3 RX6 none (rm_X6_add MC MS)) (a0 : Nat) (p1 : Int32) (p2 : Nat) (s : PS) (Q : PS → Prop) (h : w_X6_add G MC MS a0 p1 p2 s Q) : WB x G 3 (QfV x G MC MS Q) 0 0 s 0 [(0, .ref a0), (1, .int p1), (2, .ref p2)] [] := by
  unfold w_X6_add at h
  refine r_aload_n X 0 dX6_add_0 rfl rfl ?_
  obtain ⟨g1, h⟩ := h
  refine gf_X6_18 X g1 dX6_add_1 ?_
  obtain ⟨q2, g3, h⟩ := h
  refine r_top (show va_rf (gR s a0 2) = Value.ref q2 by rw [g3]; rfl) ?_
  refine r_iload_n X 1 dX6_add_4 rfl rfl ?_
  obtain ⟨g4, h⟩ := h
  refine r_ca X (r_okS (As := [.int p1]) (rest := [.ref q2]) X (m_J12_valueOf (xl x) G X.2.2.2.2.1 p1 s _ h) (cl_X6_25 X ⟨(Nat.le_of_ble_eq_true rfl), (Nat.le_of_ble_eq_true rfl)⟩) rfl rfl (Nat.le_of_ble_eq_true rfl) dX6_add_5 g4) (fun r6 s5 h => ?_)
  obtain ⟨A7, B8, h⟩ := h
  obtain ⟨g9, h⟩ := h
  obtain ⟨g10, h⟩ := h
  refine r_ci X (r_okV (As := [.ref r6]) (rest := []) X (m_J2_add (xl x) G X.2.2.2.2.1 A7 B8 q2 r6 s5 _ h) (cl_X6_31 X ⟨(Nat.le_of_ble_eq_true rfl), (Nat.le_of_ble_eq_true rfl)⟩) 13 g10 rfl rfl rfl rfl (Nat.le_of_ble_eq_true rfl) dX6_add_8 g9) (fun r12 s11 h => ?_)
  obtain ⟨z13, h⟩ := h
  refine r_pop X dX6_add_11 rfl ?_
  refine r_aload_n X 0 dX6_add_12 rfl rfl ?_
  obtain ⟨g14, h⟩ := h
  refine gf_X6_12 X g14 dX6_add_13 ?_
  obtain ⟨q15, g16, h⟩ := h
  refine r_top (show va_rf (gR s11 a0 1) = Value.ref q15 by rw [g16]; rfl) ?_
  refine r_aload_n X 2 dX6_add_16 rfl rfl ?_
  obtain ⟨A17, B18, h⟩ := h
  obtain ⟨g19, h⟩ := h
  obtain ⟨g20, h⟩ := h
  refine r_ci X (r_okV (As := [.ref p2]) (rest := []) X (m_J2_add (xl x) G X.2.2.2.2.1 A17 B18 q15 p2 s11 _ h) (cl_X6_31 X ⟨(Nat.le_of_ble_eq_true rfl), (Nat.le_of_ble_eq_true rfl)⟩) 13 g20 rfl rfl rfl rfl (Nat.le_of_ble_eq_true rfl) dX6_add_17 g19) (fun r22 s21 h => ?_)
  obtain ⟨z23, h⟩ := h
  refine r_pop X dX6_add_20 rfl ?_
  obtain ⟨g24, h⟩ := h
  exact r_vret X h g24.1 g24.2 dX6_add_21
theorem m_X6_add (l : Launch) (G : GT) (g : GK G) (MC MS : Nat) (a0 : Nat) (p1 : Int32) (p2 : Nat) (s : PS) (Q : PS → Prop) (h : w_X6_add G MC MS a0 p1 p2 s Q) : Met l yX6_add (ws_ yX6_add cX6_add 3 none) (rm_X6_add MC MS) (va_Pc [.ref a0, .int p1, .ref p2] (Wr G s)) (va_Qv Q (fun u t => Wr G u t) (kF G)) MC MS (kF G) := by
  refine Met.ofW (cc := cX6_add) (maxL := 3) (ret := none) (by decide) rfl ?_
  intro p e s0 m args below meth c s₁ B hml hv
  obtain ⟨rfl, hw⟩ := hv
  exact wb_of [.ref a0, .int p1, .ref p2] (Nat.le_of_ble_eq_true rfl) hw.1 rfl (e_X6_add (cx_of g B hml rfl hw) a0 p1 p2 s Q h)
theorem e_J2_isEmpty {x : CT} {G : GT} (X : Cx x G cJ2_isEmpty 1 RJ2 (some .boolean) rm_J2_isEmpty) (a0 : Nat) (s : PS) (Q : Int32 → PS → Prop) (h : w_J2_isEmpty G a0 s Q) : WB x G 1 (QfI x G 0 0 (fun r u => (r = 0 ∨ r = 1) ∧ Q r u)) 0 0 s 0 [(0, .ref a0)] [] := by
  unfold w_J2_isEmpty at h
  refine r_aload_n X 0 dJ2_isEmpty_0 rfl rfl ?_
  obtain ⟨g1, h⟩ := h
  refine gf_J2_48 X g1 dJ2_isEmpty_1 ?_
  have hJ : WB x G 1 (QfI x G 0 0 (fun r u => (r = 0 ∨ r = 1) ∧ Q r u)) 0 0 s 12 [(0, .ref a0)] [.int (if (gI s a0 2) = 0 then 1 else 0 : Int32)] := by
    exact r_zret X (by (repeat' split) <;> first | exact Or.inl rfl | exact Or.inr rfl) h (Nat.le_of_ble_eq_true rfl) (Nat.le_of_ble_eq_true rfl) dJ2_isEmpty_12
  refine r_if_ne X 11 dJ2_isEmpty_4 (by decide) (fun c2 => ?_) (fun c2 => ?_)
  · rw [if_neg c2] at hJ
    refine r_iconst (v := 0) X dJ2_isEmpty_11 rfl ?_
    exact hJ
  · rw [if_pos c2] at hJ
    refine r_iconst (v := 1) X dJ2_isEmpty_7 rfl ?_
    refine r_goto X 12 dJ2_isEmpty_8 (by decide) ?_
    exact hJ
theorem m_J2_isEmpty (l : Launch) (G : GT) (g : GK G) (a0 : Nat) (s : PS) (Q : Int32 → PS → Prop) (h : w_J2_isEmpty G a0 s Q) : Met l yJ2_isEmpty (ws_ yJ2_isEmpty cJ2_isEmpty 1 (some .boolean)) rm_J2_isEmpty (va_Pc [.ref a0] (Wr G s)) (va_Qi (fun r u => (r = 0 ∨ r = 1) ∧ Q r u) (fun u t => Wr G u t) (kF G)) 0 0 (kF G) := by
  refine Met.ofW (cc := cJ2_isEmpty) (maxL := 1) (ret := (some .boolean)) (by decide) rfl ?_
  intro p e s0 m args below meth c s₁ B hml hv
  obtain ⟨rfl, hw⟩ := hv
  exact wb_of [.ref a0] (Nat.le_of_ble_eq_true rfl) hw.1 rfl (e_J2_isEmpty (cx_of g B hml rfl hw) a0 s Q h)
theorem e_X6_itself {x : CT} {G : GT} (X : Cx x G cX6_itself 1 RX6 (some (.object "AgainstFeather$Sum")) rm_X6_itself) (a0 : Nat) (s : PS) (Q : Nat → PS → Prop) (h : w_X6_itself G a0 s Q) : WB x G 1 (QfA x G 0 0 Q) 0 0 s 0 [(0, .ref a0)] [] := by
  unfold w_X6_itself at h
  refine r_aload_n X 0 dX6_itself_0 rfl rfl ?_
  obtain ⟨g1, h⟩ := h
  refine gf_X6_12 X g1 dX6_itself_1 ?_
  obtain ⟨q2, g3, h⟩ := h
  refine r_top (show va_rf (gR s a0 1) = Value.ref q2 by rw [g3]; rfl) ?_
  obtain ⟨g4, h⟩ := h
  refine r_ci X (r_okV (As := []) (rest := []) X (m_J2_isEmpty (xl x) G X.2.2.2.2.1 q2 s _ h) (cl_X6_35 X ⟨(Nat.le_of_ble_eq_true rfl), (Nat.le_of_ble_eq_true rfl)⟩) 13 g4 rfl rfl rfl rfl (Nat.le_of_ble_eq_true rfl) dX6_itself_4 ⟨Nat.le_of_ble_eq_true rfl, Nat.le_of_ble_eq_true rfl⟩) (fun r6 s5 h => ?_)
  obtain ⟨z7, h⟩ := h
  refine r_if_eq X 17 dX6_itself_7 (by decide) (fun c8 => ?_) (fun c8 => ?_)
  · replace h := h.1 c8
    refine r_aload_n X 0 dX6_itself_17 rfl rfl ?_
    exact r_aret X (Or.inl ⟨_, rfl⟩) h (Nat.le_of_ble_eq_true rfl) (Nat.le_of_ble_eq_true rfl) dX6_itself_18
  · replace h := h.2 c8
    refine r_aload_n X 0 dX6_itself_10 rfl rfl ?_
    obtain ⟨g9, h⟩ := h
    refine gf_X6_21 X g9 dX6_itself_11 ?_
    obtain ⟨q10, g11, h⟩ := h
    refine r_top (show va_rf (gR s5 a0 0) = Value.ref q10 by rw [g11]; rfl) ?_
    refine r_goto X 18 dX6_itself_14 (by decide) ?_
    exact r_aret X (Or.inl ⟨_, rfl⟩) h (Nat.le_of_ble_eq_true rfl) (Nat.le_of_ble_eq_true rfl) dX6_itself_18
theorem m_X6_itself (l : Launch) (G : GT) (g : GK G) (a0 : Nat) (s : PS) (Q : Nat → PS → Prop) (h : w_X6_itself G a0 s Q) : Met l yX6_itself (ws_ yX6_itself cX6_itself 1 (some (.object "AgainstFeather$Sum"))) rm_X6_itself (va_Pc [.ref a0] (Wr G s)) (va_Qr (fun u : Nat × PS => Q u.1 u.2) (fun u a t => a = u.1 ∧ Wr G u.2 t) (kF G)) 0 0 (kF G) := by
  refine Met.ofW (cc := cX6_itself) (maxL := 1) (ret := (some (.object "AgainstFeather$Sum"))) (by decide) rfl ?_
  intro p e s0 m args below meth c s₁ B hml hv
  obtain ⟨rfl, hw⟩ := hv
  exact wb_of [.ref a0] (Nat.le_of_ble_eq_true rfl) hw.1 rfl (e_X6_itself (cx_of g B hml rfl hw) a0 s Q h)
theorem tb_X3_product_30 {x : CT} {G : GT} {MC MS : Nat} {d : Nat} (X : Cx x G cX3_product 3 RX3 (some (.object "AgainstFeather$Sum")) (rT 1 d MC MS)) (hnt : ∀ z ∈ (xc x).exceptionTable.toList, False) (hfl : (xl x).stackTraces = false) (RC : Nat → Nat → Nat → PS → (Nat → PS → Prop) → (Nat → PS → Prop) → Prop) (hRC : ∀ (A B a0 : Nat) (s : PS) (Q : Nat → PS → Prop) (E : Nat → PS → Prop), RC A B a0 s Q E → vx_Met (xl x) yX3_one (ws_ yX3_one cX3_one 4 (some (.object "AgainstFeather$Sum"))) (rT 0 d A B) (va_Pc [.ref a0] (Wr G s)) (va_Qr (fun u : Nat × PS => Q u.1 u.2) (fun u a t => a = u.1 ∧ Wr G u.2 t) (kF G)) (XW G E) A B (kF G)) (Q : Nat → PS → Prop) (E : Nat → PS → Prop) (K12 : Nat → Nat → PS → Prop) (v0 : Nat) (v1 : Nat) (ce sl : Nat) (s : PS) (hK12 : ∀ (ce' : Nat) (sl' : Nat) (s' : PS), K12 ce' sl' s' → WB x G 3 (Qx x G MC MS (va_Qr (fun u : Nat × PS => Q u.1 u.2) (fun u a t => a = u.1 ∧ Wr G u.2 t) (kF G)) E) ce' sl' s' 12 [(0, .ref v0), (1, .ref v1)] []) (h : b_X3_product_30 G MC MS RC Q E K12 v0 v1 ce sl s) : WB x G 3 (Qx x G MC MS (va_Qr (fun u : Nat × PS => Q u.1 u.2) (fun u a t => a = u.1 ∧ Wr G u.2 t) (kF G)) E) ce sl s 30 [(0, .ref v0), (1, .ref v1)] [] := by
  unfold b_X3_product_30 at h
  refine r_aload_n X 0 dX3_product_30 rfl rfl ?_
  obtain ⟨g1, h⟩ := h
  refine gf_X3_25 X g1 dX3_product_31 ?_
  refine r_nmI (fun y2 e3 => ?_)
  replace h := h y2 e3
  refine r_istore_n (lv' := [(2, .int y2), (0, .ref v0), (1, .ref v1)]) X dX3_product_34 rfl (Nat.le_of_ble_eq_true rfl) rfl ?_
  refine r_aload_n X 1 dX3_product_35 rfl rfl ?_
  obtain ⟨g4, h⟩ := h
  refine r_cv X (r_okV (As := []) (rest := []) X (m_X3_next (xl x) G X.2.2.2.2.1 v0 s _ h) (cl_X3_74 X ⟨(by simp only [rT, rm_X3_next] <;> omega), (by simp only [rT, rm_X3_next] <;> omega)⟩) 3 g1 rfl rfl rfl rfl (Nat.le_of_ble_eq_true rfl) dX3_product_36 g4) (fun s5 h => ?_)
  refine r_aload_n X 2 dX3_product_39 rfl rfl ?_
  refine r_iload_n X 0 dX3_product_40 rfl rfl ?_
  refine r_aload_n X 1 dX3_product_41 rfl rfl ?_
  obtain ⟨A6, B7, h⟩ := h
  obtain ⟨g8, h⟩ := h
  obtain ⟨g9, h⟩ := h
  refine r_xa X (r_okVX (As := []) (rest := [.int y2, .ref v1]) X (hRC A6 B7 v0 s5 _ _ h) (cl_X3_145 (d := d) X ⟨(by simp only [rT] <;> omega), (by simp only [rT] <;> omega)⟩) 3 g9 rfl rfl rfl rfl (Nat.le_of_ble_eq_true rfl) dX3_product_42 g8) (fun q11 s12 g13 h => r_out X hnt g13 h (g8).1 (g8).2) (fun r14 s10 h => ?_)
  obtain ⟨A15, B16, h⟩ := h
  obtain ⟨g17, h⟩ := h
  obtain ⟨g18, h⟩ := h
  refine r_cv X (r_okV (As := [.int y2, .ref r14]) (rest := []) X (m_X6_add (xl x) G X.2.2.2.2.1 A15 B16 v1 y2 r14 s10 _ h) (cl_X3_139 X ⟨(by simp only [rT, rm_X6_add] <;> omega), (by simp only [rT, rm_X6_add] <;> omega)⟩) 6 g18 rfl rfl rfl rfl (Nat.le_of_ble_eq_true rfl) dX3_product_45 g17) (fun s19 h => ?_)
  refine r_goto X 12 dX3_product_48 (by decide) ?_
  refine r_sub [1, 2] rfl ?_
  exact hK12 (((ce + 0) + A6) + A15) (((sl + 0) + B7) + B16) s19 h
theorem tl_X3_product_12 {x : CT} {G : GT} {MC MS : Nat} {d : Nat} (X : Cx x G cX3_product 3 RX3 (some (.object "AgainstFeather$Sum")) (rT 1 d MC MS)) (hnt : ∀ z ∈ (xc x).exceptionTable.toList, False) (hfl : (xl x).stackTraces = false) (RC : Nat → Nat → Nat → PS → (Nat → PS → Prop) → (Nat → PS → Prop) → Prop) (hRC : ∀ (A B a0 : Nat) (s : PS) (Q : Nat → PS → Prop) (E : Nat → PS → Prop), RC A B a0 s Q E → vx_Met (xl x) yX3_one (ws_ yX3_one cX3_one 4 (some (.object "AgainstFeather$Sum"))) (rT 0 d A B) (va_Pc [.ref a0] (Wr G s)) (va_Qr (fun u : Nat × PS => Q u.1 u.2) (fun u a t => a = u.1 ∧ Wr G u.2 t) (kF G)) (XW G E) A B (kF G)) (Q : Nat → PS → Prop) (E : Nat → PS → Prop) (v0 : Nat) (v1 : Nat) : ∀ (n : Nat) (ce : Nat) (sl : Nat) (s : PS) (h : l_X3_product_12 G MC MS RC Q E v0 v1 n ce sl s), WB x G 3 (Qx x G MC MS (va_Qr (fun u : Nat × PS => Q u.1 u.2) (fun u a t => a = u.1 ∧ Wr G u.2 t) (kF G)) E) ce sl s 12 [(0, .ref v0), (1, .ref v1)] [] := by
  intro n
  induction n with
  | zero =>
    intro ce sl s h
    exact False.elim h
  | succ n ih =>
    intro ce sl s h
    unfold l_X3_product_12 at h
    refine r_aload_n X 0 dX3_product_12 rfl rfl ?_
    obtain ⟨g1, h⟩ := h
    refine gf_X3_25 X g1 dX3_product_13 ?_
    refine r_bipush (v := 42) X dX3_product_16 rfl ?_
    refine r_ic_eq X 30 dX3_product_18 (by decide) (fun c2 => ?_) (fun c2 => ?_)
    · replace h := h.1 c2
      exact tb_X3_product_30 X hnt hfl RC hRC Q E (l_X3_product_12 G MC MS RC Q E v0 v1 n) v0 v1 ce sl s ih h
    · replace h := h.2 c2
      refine r_aload_n X 0 dX3_product_21 rfl rfl ?_
      refine gf_X3_25 X g1 dX3_product_22 ?_
      refine r_bipush (v := 47) X dX3_product_25 rfl ?_
      refine r_ic_ne X 51 dX3_product_27 (by decide) (fun c3 => ?_) (fun c3 => ?_)
      · replace h := h.2 c3
        refine r_aload_n X 1 dX3_product_51 rfl rfl ?_
        obtain ⟨g4, h⟩ := h
        obtain ⟨g5, h⟩ := h
        refine r_ca X (r_okV (As := []) (rest := []) X (m_X6_itself (xl x) G X.2.2.2.2.1 v1 s _ h) (cl_X3_142 X ⟨(by simp only [rT, rm_X6_itself] <;> omega), (by simp only [rT, rm_X6_itself] <;> omega)⟩) 6 g5 rfl rfl rfl rfl (Nat.le_of_ble_eq_true rfl) dX3_product_52 g4) (fun r7 s6 h => ?_)
        obtain ⟨g8, h⟩ := h
        exact r_thr (r_aret X (Or.inl ⟨_, rfl⟩) h g8.1 g8.2 dX3_product_55)
      · replace h := h.1 c3
        exact tb_X3_product_30 X hnt hfl RC hRC Q E (l_X3_product_12 G MC MS RC Q E v0 v1 n) v0 v1 ce sl s ih h
theorem e_X3_product {x : CT} {G : GT} {MC MS : Nat} {d : Nat} (X : Cx x G cX3_product 3 RX3 (some (.object "AgainstFeather$Sum")) (rT 1 d MC MS)) (hnt : ∀ z ∈ (xc x).exceptionTable.toList, False) (hfl : (xl x).stackTraces = false) (RC : Nat → Nat → Nat → PS → (Nat → PS → Prop) → (Nat → PS → Prop) → Prop) (hRC : ∀ (A B a0 : Nat) (s : PS) (Q : Nat → PS → Prop) (E : Nat → PS → Prop), RC A B a0 s Q E → vx_Met (xl x) yX3_one (ws_ yX3_one cX3_one 4 (some (.object "AgainstFeather$Sum"))) (rT 0 d A B) (va_Pc [.ref a0] (Wr G s)) (va_Qr (fun u : Nat × PS => Q u.1 u.2) (fun u a t => a = u.1 ∧ Wr G u.2 t) (kF G)) (XW G E) A B (kF G)) (a0 : Nat) (s : PS) (Q : Nat → PS → Prop) (E : Nat → PS → Prop) (h : w_X3_product G MC MS RC a0 s Q E) : WB x G 3 (Qx x G MC MS (va_Qr (fun u : Nat × PS => Q u.1 u.2) (fun u a t => a = u.1 ∧ Wr G u.2 t) (kF G)) E) 0 0 s 0 [(0, .ref a0)] [] := by
  unfold w_X3_product at h
  obtain ⟨g1, h⟩ := h
  refine r_new X 6 in_X6 tyX6_ok rfl q593 q594 q154 (df_of df_X6) g1 dX3_product_0 (fun z2 e3 w4 u5 s6 e7 => ?_)
  replace h := h z2 e3 w4 u5 s6 e7
  have g8 : gT s6 z2 = 106 := by rw [e7, gT_pNew, if_pos e3]
  refine r_dup X dX3_product_3 rfl ?_
  refine r_aload_n X 0 dX3_product_4 rfl rfl ?_
  obtain ⟨A9, B10, h⟩ := h
  obtain ⟨g11, h⟩ := h
  obtain ⟨g12, h⟩ := h
  refine r_xa X (r_okVX (As := []) (rest := [.ref z2, .ref z2]) X (hRC A9 B10 a0 s6 _ _ h) (cl_X3_145 (d := d) X ⟨(by simp only [rT] <;> omega), (by simp only [rT] <;> omega)⟩) 3 g12 rfl rfl rfl rfl (Nat.le_of_ble_eq_true rfl) dX3_product_5 g11) (fun q14 s15 g16 h => r_out X hnt g16 h (g11).1 (g11).2) (fun r17 s13 h => ?_)
  obtain ⟨g18, h⟩ := h
  refine r_cv X (r_okI (As := [.ref r17]) (rest := [.ref z2]) X (m_X6_init (xl x) G X.2.2.2.2.1 z2 r17 s13 _ h) (cl_X3_136 X ⟨(by simp only [rT, rm_X6_init] <;> omega), (by simp only [rT, rm_X6_init] <;> omega)⟩) rfl rfl (Nat.le_of_ble_eq_true rfl) dX3_product_8 g18) (fun s19 h => ?_)
  refine r_astore_n (lv' := [(1, .ref z2), (0, .ref a0)]) X dX3_product_11 rfl (Nat.le_of_ble_eq_true rfl) rfl ?_
  refine r_sub [1, 0] rfl ?_
  obtain ⟨n20, h⟩ := h
  exact tl_X3_product_12 X hnt hfl RC hRC Q E a0 z2 n20 (((0 + 1) + A9) + 2) (((0 + 3) + B10) + 6) s19 h
theorem m_X3_product (l : Launch) (G : GT) (g : GK G) (hfl : l.stackTraces = false) (MC MS : Nat) (d : Nat) (RC : Nat → Nat → Nat → PS → (Nat → PS → Prop) → (Nat → PS → Prop) → Prop) (hRC : ∀ (A B a0 : Nat) (s : PS) (Q : Nat → PS → Prop) (E : Nat → PS → Prop), RC A B a0 s Q E → vx_Met l yX3_one (ws_ yX3_one cX3_one 4 (some (.object "AgainstFeather$Sum"))) (rT 0 d A B) (va_Pc [.ref a0] (Wr G s)) (va_Qr (fun u : Nat × PS => Q u.1 u.2) (fun u a t => a = u.1 ∧ Wr G u.2 t) (kF G)) (XW G E) A B (kF G)) (a0 : Nat) (s : PS) (Q : Nat → PS → Prop) (E : Nat → PS → Prop) (h : w_X3_product G MC MS RC a0 s Q E) : vx_Met l yX3_product (ws_ yX3_product cX3_product 3 (some (.object "AgainstFeather$Sum"))) (rT 1 d MC MS) (va_Pc [.ref a0] (Wr G s)) (va_Qr (fun u : Nat × PS => Q u.1 u.2) (fun u a t => a = u.1 ∧ Wr G u.2 t) (kF G)) (XW G E) MC MS (kF G) := by
  refine vx_ofW (cc := cX3_product) (maxL := 3) (ret := (some (.object "AgainstFeather$Sum"))) (by decide) rfl ?_
  intro p e s0 m args below meth c s₁ B hml hnt hv
  obtain ⟨rfl, hw⟩ := hv
  exact wb_of [.ref a0] (Nat.le_of_ble_eq_true rfl) hw.1 rfl (e_X3_product (cx_of g B hml rfl hw) hnt hfl RC hRC a0 s Q E h)
theorem tb_X3_sum_30 {x : CT} {G : GT} {MC MS : Nat} {d : Nat} (X : Cx x G cX3_sum 3 RX3 (some (.object "AgainstFeather$Sum")) (rT 2 d MC MS)) (hnt : ∀ z ∈ (xc x).exceptionTable.toList, False) (hfl : (xl x).stackTraces = false) (RC : Nat → Nat → Nat → PS → (Nat → PS → Prop) → (Nat → PS → Prop) → Prop) (hRC : ∀ (A B a0 : Nat) (s : PS) (Q : Nat → PS → Prop) (E : Nat → PS → Prop), RC A B a0 s Q E → vx_Met (xl x) yX3_one (ws_ yX3_one cX3_one 4 (some (.object "AgainstFeather$Sum"))) (rT 0 d A B) (va_Pc [.ref a0] (Wr G s)) (va_Qr (fun u : Nat × PS => Q u.1 u.2) (fun u a t => a = u.1 ∧ Wr G u.2 t) (kF G)) (XW G E) A B (kF G)) (Q : Nat → PS → Prop) (E : Nat → PS → Prop) (K12 : Nat → Nat → PS → Prop) (v0 : Nat) (v1 : Nat) (ce sl : Nat) (s : PS) (hK12 : ∀ (ce' : Nat) (sl' : Nat) (s' : PS), K12 ce' sl' s' → WB x G 3 (Qx x G MC MS (va_Qr (fun u : Nat × PS => Q u.1 u.2) (fun u a t => a = u.1 ∧ Wr G u.2 t) (kF G)) E) ce' sl' s' 12 [(0, .ref v0), (1, .ref v1)] []) (h : b_X3_sum_30 G MC MS RC Q E K12 v0 v1 ce sl s) : WB x G 3 (Qx x G MC MS (va_Qr (fun u : Nat × PS => Q u.1 u.2) (fun u a t => a = u.1 ∧ Wr G u.2 t) (kF G)) E) ce sl s 30 [(0, .ref v0), (1, .ref v1)] [] := by
  unfold b_X3_sum_30 at h
  refine r_aload_n X 0 dX3_sum_30 rfl rfl ?_
  obtain ⟨g1, h⟩ := h
  refine gf_X3_25 X g1 dX3_sum_31 ?_
  refine r_nmI (fun y2 e3 => ?_)
  replace h := h y2 e3
  refine r_istore_n (lv' := [(2, .int y2), (0, .ref v0), (1, .ref v1)]) X dX3_sum_34 rfl (Nat.le_of_ble_eq_true rfl) rfl ?_
  refine r_aload_n X 1 dX3_sum_35 rfl rfl ?_
  obtain ⟨g4, h⟩ := h
  refine r_cv X (r_okV (As := []) (rest := []) X (m_X3_next (xl x) G X.2.2.2.2.1 v0 s _ h) (cl_X3_74 X ⟨(by simp only [rT, rm_X3_next] <;> omega), (by simp only [rT, rm_X3_next] <;> omega)⟩) 3 g1 rfl rfl rfl rfl (Nat.le_of_ble_eq_true rfl) dX3_sum_36 g4) (fun s5 h => ?_)
  refine r_aload_n X 2 dX3_sum_39 rfl rfl ?_
  refine r_iload_n X 0 dX3_sum_40 rfl rfl ?_
  refine r_aload_n X 1 dX3_sum_41 rfl rfl ?_
  obtain ⟨A6, B7, h⟩ := h
  obtain ⟨g8, h⟩ := h
  obtain ⟨g9, h⟩ := h
  refine r_xa X (r_okVX (As := []) (rest := [.int y2, .ref v1]) X (m_X3_product (xl x) G X.2.2.2.2.1 hfl A6 B7 d RC hRC v0 s5 _ _ h) (cl_X3_133 (d := d) X ⟨(by simp only [rT] <;> omega), (by simp only [rT] <;> omega)⟩) 3 g9 rfl rfl rfl rfl (Nat.le_of_ble_eq_true rfl) dX3_sum_42 g8) (fun q11 s12 g13 h => r_out X hnt g13 h (g8).1 (g8).2) (fun r14 s10 h => ?_)
  obtain ⟨A15, B16, h⟩ := h
  obtain ⟨g17, h⟩ := h
  obtain ⟨g18, h⟩ := h
  refine r_cv X (r_okV (As := [.int y2, .ref r14]) (rest := []) X (m_X6_add (xl x) G X.2.2.2.2.1 A15 B16 v1 y2 r14 s10 _ h) (cl_X3_139 X ⟨(by simp only [rT, rm_X6_add] <;> omega), (by simp only [rT, rm_X6_add] <;> omega)⟩) 6 g18 rfl rfl rfl rfl (Nat.le_of_ble_eq_true rfl) dX3_sum_45 g17) (fun s19 h => ?_)
  refine r_goto X 12 dX3_sum_48 (by decide) ?_
  refine r_sub [1, 2] rfl ?_
  exact hK12 (((ce + 0) + A6) + A15) (((sl + 0) + B7) + B16) s19 h
theorem tl_X3_sum_12 {x : CT} {G : GT} {MC MS : Nat} {d : Nat} (X : Cx x G cX3_sum 3 RX3 (some (.object "AgainstFeather$Sum")) (rT 2 d MC MS)) (hnt : ∀ z ∈ (xc x).exceptionTable.toList, False) (hfl : (xl x).stackTraces = false) (RC : Nat → Nat → Nat → PS → (Nat → PS → Prop) → (Nat → PS → Prop) → Prop) (hRC : ∀ (A B a0 : Nat) (s : PS) (Q : Nat → PS → Prop) (E : Nat → PS → Prop), RC A B a0 s Q E → vx_Met (xl x) yX3_one (ws_ yX3_one cX3_one 4 (some (.object "AgainstFeather$Sum"))) (rT 0 d A B) (va_Pc [.ref a0] (Wr G s)) (va_Qr (fun u : Nat × PS => Q u.1 u.2) (fun u a t => a = u.1 ∧ Wr G u.2 t) (kF G)) (XW G E) A B (kF G)) (Q : Nat → PS → Prop) (E : Nat → PS → Prop) (v0 : Nat) (v1 : Nat) : ∀ (n : Nat) (ce : Nat) (sl : Nat) (s : PS) (h : l_X3_sum_12 G MC MS RC Q E v0 v1 n ce sl s), WB x G 3 (Qx x G MC MS (va_Qr (fun u : Nat × PS => Q u.1 u.2) (fun u a t => a = u.1 ∧ Wr G u.2 t) (kF G)) E) ce sl s 12 [(0, .ref v0), (1, .ref v1)] [] := by
  intro n
  induction n with
  | zero =>
    intro ce sl s h
    exact False.elim h
  | succ n ih =>
    intro ce sl s h
    unfold l_X3_sum_12 at h
    refine r_aload_n X 0 dX3_sum_12 rfl rfl ?_
    obtain ⟨g1, h⟩ := h
    refine gf_X3_25 X g1 dX3_sum_13 ?_
    refine r_bipush (v := 43) X dX3_sum_16 rfl ?_
    refine r_ic_eq X 30 dX3_sum_18 (by decide) (fun c2 => ?_) (fun c2 => ?_)
    · replace h := h.1 c2
      exact tb_X3_sum_30 X hnt hfl RC hRC Q E (l_X3_sum_12 G MC MS RC Q E v0 v1 n) v0 v1 ce sl s ih h
    · replace h := h.2 c2
      refine r_aload_n X 0 dX3_sum_21 rfl rfl ?_
      refine gf_X3_25 X g1 dX3_sum_22 ?_
      refine r_bipush (v := 45) X dX3_sum_25 rfl ?_
      refine r_ic_ne X 51 dX3_sum_27 (by decide) (fun c3 => ?_) (fun c3 => ?_)
      · replace h := h.2 c3
        refine r_aload_n X 1 dX3_sum_51 rfl rfl ?_
        obtain ⟨g4, h⟩ := h
        obtain ⟨g5, h⟩ := h
        refine r_ca X (r_okV (As := []) (rest := []) X (m_X6_itself (xl x) G X.2.2.2.2.1 v1 s _ h) (cl_X3_142 X ⟨(by simp only [rT, rm_X6_itself] <;> omega), (by simp only [rT, rm_X6_itself] <;> omega)⟩) 6 g5 rfl rfl rfl rfl (Nat.le_of_ble_eq_true rfl) dX3_sum_52 g4) (fun r7 s6 h => ?_)
        obtain ⟨g8, h⟩ := h
        exact r_thr (r_aret X (Or.inl ⟨_, rfl⟩) h g8.1 g8.2 dX3_sum_55)
      · replace h := h.1 c3
        exact tb_X3_sum_30 X hnt hfl RC hRC Q E (l_X3_sum_12 G MC MS RC Q E v0 v1 n) v0 v1 ce sl s ih h
theorem e_X3_sum {x : CT} {G : GT} {MC MS : Nat} {d : Nat} (X : Cx x G cX3_sum 3 RX3 (some (.object "AgainstFeather$Sum")) (rT 2 d MC MS)) (hnt : ∀ z ∈ (xc x).exceptionTable.toList, False) (hfl : (xl x).stackTraces = false) (RC : Nat → Nat → Nat → PS → (Nat → PS → Prop) → (Nat → PS → Prop) → Prop) (hRC : ∀ (A B a0 : Nat) (s : PS) (Q : Nat → PS → Prop) (E : Nat → PS → Prop), RC A B a0 s Q E → vx_Met (xl x) yX3_one (ws_ yX3_one cX3_one 4 (some (.object "AgainstFeather$Sum"))) (rT 0 d A B) (va_Pc [.ref a0] (Wr G s)) (va_Qr (fun u : Nat × PS => Q u.1 u.2) (fun u a t => a = u.1 ∧ Wr G u.2 t) (kF G)) (XW G E) A B (kF G)) (a0 : Nat) (s : PS) (Q : Nat → PS → Prop) (E : Nat → PS → Prop) (h : w_X3_sum G MC MS RC a0 s Q E) : WB x G 3 (Qx x G MC MS (va_Qr (fun u : Nat × PS => Q u.1 u.2) (fun u a t => a = u.1 ∧ Wr G u.2 t) (kF G)) E) 0 0 s 0 [(0, .ref a0)] [] := by
  unfold w_X3_sum at h
  obtain ⟨g1, h⟩ := h
  refine r_new X 6 in_X6 tyX6_ok rfl q593 q594 q154 (df_of df_X6) g1 dX3_sum_0 (fun z2 e3 w4 u5 s6 e7 => ?_)
  replace h := h z2 e3 w4 u5 s6 e7
  have g8 : gT s6 z2 = 106 := by rw [e7, gT_pNew, if_pos e3]
  refine r_dup X dX3_sum_3 rfl ?_
  refine r_aload_n X 0 dX3_sum_4 rfl rfl ?_
  obtain ⟨A9, B10, h⟩ := h
  obtain ⟨g11, h⟩ := h
  obtain ⟨g12, h⟩ := h
  refine r_xa X (r_okVX (As := []) (rest := [.ref z2, .ref z2]) X (m_X3_product (xl x) G X.2.2.2.2.1 hfl A9 B10 d RC hRC a0 s6 _ _ h) (cl_X3_133 (d := d) X ⟨(by simp only [rT] <;> omega), (by simp only [rT] <;> omega)⟩) 3 g12 rfl rfl rfl rfl (Nat.le_of_ble_eq_true rfl) dX3_sum_5 g11) (fun q14 s15 g16 h => r_out X hnt g16 h (g11).1 (g11).2) (fun r17 s13 h => ?_)
  obtain ⟨g18, h⟩ := h
  refine r_cv X (r_okI (As := [.ref r17]) (rest := [.ref z2]) X (m_X6_init (xl x) G X.2.2.2.2.1 z2 r17 s13 _ h) (cl_X3_136 X ⟨(by simp only [rT, rm_X6_init] <;> omega), (by simp only [rT, rm_X6_init] <;> omega)⟩) rfl rfl (Nat.le_of_ble_eq_true rfl) dX3_sum_8 g18) (fun s19 h => ?_)
  refine r_astore_n (lv' := [(1, .ref z2), (0, .ref a0)]) X dX3_sum_11 rfl (Nat.le_of_ble_eq_true rfl) rfl ?_
  refine r_sub [1, 0] rfl ?_
  obtain ⟨n20, h⟩ := h
  exact tl_X3_sum_12 X hnt hfl RC hRC Q E a0 z2 n20 (((0 + 1) + A9) + 2) (((0 + 3) + B10) + 6) s19 h
theorem m_X3_sum (l : Launch) (G : GT) (g : GK G) (hfl : l.stackTraces = false) (MC MS : Nat) (d : Nat) (RC : Nat → Nat → Nat → PS → (Nat → PS → Prop) → (Nat → PS → Prop) → Prop) (hRC : ∀ (A B a0 : Nat) (s : PS) (Q : Nat → PS → Prop) (E : Nat → PS → Prop), RC A B a0 s Q E → vx_Met l yX3_one (ws_ yX3_one cX3_one 4 (some (.object "AgainstFeather$Sum"))) (rT 0 d A B) (va_Pc [.ref a0] (Wr G s)) (va_Qr (fun u : Nat × PS => Q u.1 u.2) (fun u a t => a = u.1 ∧ Wr G u.2 t) (kF G)) (XW G E) A B (kF G)) (a0 : Nat) (s : PS) (Q : Nat → PS → Prop) (E : Nat → PS → Prop) (h : w_X3_sum G MC MS RC a0 s Q E) : vx_Met l yX3_sum (ws_ yX3_sum cX3_sum 3 (some (.object "AgainstFeather$Sum"))) (rT 2 d MC MS) (va_Pc [.ref a0] (Wr G s)) (va_Qr (fun u : Nat × PS => Q u.1 u.2) (fun u a t => a = u.1 ∧ Wr G u.2 t) (kF G)) (XW G E) MC MS (kF G) := by
  refine vx_ofW (cc := cX3_sum) (maxL := 3) (ret := (some (.object "AgainstFeather$Sum"))) (by decide) rfl ?_
  intro p e s0 m args below meth c s₁ B hml hnt hv
  obtain ⟨rfl, hw⟩ := hv
  exact wb_of [.ref a0] (Nat.le_of_ble_eq_true rfl) hw.1 rfl (e_X3_sum (cx_of g B hml rfl hw) hnt hfl RC hRC a0 s Q E h)
theorem e_X3_want {x : CT} {G : GT} {MC MS : Nat} (X : Cx x G cX3_want 2 RX3 none (rm_X3_want MC MS)) (hnt : ∀ z ∈ (xc x).exceptionTable.toList, False) (hfl : (xl x).stackTraces = false) (a0 : Nat) (p1 : Int32) (s : PS) (Q : PS → Prop) (E : Nat → PS → Prop) (h : w_X3_want G MC MS a0 p1 s Q E) : WB x G 2 (Qx x G MC MS (va_Qv Q (fun u t => Wr G u t) (kF G)) E) 0 0 s 0 [(0, .ref a0), (1, .int p1)] [] := by
  unfold w_X3_want at h
  refine r_aload_n X 0 dX3_want_0 rfl rfl ?_
  obtain ⟨g1, h⟩ := h
  refine gf_X3_25 X g1 dX3_want_1 ?_
  refine r_iload_n X 1 dX3_want_4 rfl rfl ?_
  refine r_ic_eq X 14 dX3_want_5 (by decide) (fun c2 => ?_) (fun c2 => ?_)
  · replace h := h.1 c2
    refine r_aload_n X 0 dX3_want_14 rfl rfl ?_
    obtain ⟨g3, h⟩ := h
    refine r_cv X (r_okV (As := []) (rest := []) X (m_X3_next (xl x) G X.2.2.2.2.1 a0 s _ h) (cl_X3_74 X ⟨(Nat.le_of_ble_eq_true rfl), (Nat.le_of_ble_eq_true rfl)⟩) 3 g1 rfl rfl rfl rfl (Nat.le_of_ble_eq_true rfl) dX3_want_15 g3) (fun s4 h => ?_)
    obtain ⟨g5, h⟩ := h
    exact r_thr (r_vret X h g5.1 g5.2 dX3_want_18)
  · replace h := h.2 c2
    refine r_aload_n X 0 dX3_want_8 rfl rfl ?_
    refine r_iconst (v := 1) X dX3_want_9 rfl ?_
    obtain ⟨g6, h⟩ := h
    refine r_ca X (r_okV (As := [.int 1]) (rest := []) X (m_X3_wrong (xl x) G X.2.2.2.2.1 hfl a0 1 s _ h) (cl_X3_70 X ⟨(Nat.le_of_ble_eq_true rfl), (Nat.le_of_ble_eq_true rfl)⟩) 3 g1 rfl rfl rfl rfl (Nat.le_of_ble_eq_true rfl) dX3_want_10 g6) (fun r8 s7 h => ?_)
    obtain ⟨g9, h⟩ := h
    obtain ⟨g10, h⟩ := h
    exact r_athrow X dX3_want_13 (r_out X hnt g9 h g10.1 g10.2)
theorem m_X3_want (l : Launch) (G : GT) (g : GK G) (hfl : l.stackTraces = false) (MC MS : Nat) (a0 : Nat) (p1 : Int32) (s : PS) (Q : PS → Prop) (E : Nat → PS → Prop) (h : w_X3_want G MC MS a0 p1 s Q E) : vx_Met l yX3_want (ws_ yX3_want cX3_want 2 none) (rm_X3_want MC MS) (va_Pc [.ref a0, .int p1] (Wr G s)) (va_Qv Q (fun u t => Wr G u t) (kF G)) (XW G E) MC MS (kF G) := by
  refine vx_ofW (cc := cX3_want) (maxL := 2) (ret := none) (by decide) rfl ?_
  intro p e s0 m args below meth c s₁ B hml hnt hv
  obtain ⟨rfl, hw⟩ := hv
  exact wb_of [.ref a0, .int p1] (Nat.le_of_ble_eq_true rfl) hw.1 rfl (e_X3_want (cx_of g B hml rfl hw) hnt hfl a0 p1 s Q E h)
theorem e_X10_init {x : CT} {G : GT} (X : Cx x G cX10_init 2 RX10 none rm_X10_init) (hin : (xM x).name = "<init>") (a0 : Nat) (p1 : Nat) (s : PS) (Q : PS → Prop) (h : w_X10_init G a0 p1 s Q) : WB x G 2 (QfV x G 0 0 Q) 0 0 s 0 [(0, .ref a0), (1, .ref p1)] [] := by
  unfold w_X10_init at h
  refine r_aload_n X 0 dX10_init_0 rfl rfl ?_
  refine r_cv X (r_okI (As := []) (rest := []) X (m_J10_init (xl x) G X.2.2.2.2.1 a0 s _ h) (cl_X10_1 X ⟨(Nat.le_of_ble_eq_true rfl), (Nat.le_of_ble_eq_true rfl)⟩) rfl rfl (Nat.le_of_ble_eq_true rfl) dX10_init_1 ⟨Nat.le_of_ble_eq_true rfl, Nat.le_of_ble_eq_true rfl⟩) (fun s1 h => ?_)
  refine r_aload_n X 0 dX10_init_4 rfl rfl ?_
  refine r_aload_n X 1 dX10_init_5 rfl rfl ?_
  obtain ⟨g2, h⟩ := h
  obtain ⟨g3, h⟩ := h
  refine pf_X10_7 X hin g2 (Or.inl (Nat.le_of_ble_eq_true rfl)) g3 dX10_init_6 (fun s4 e5 => ?_)
  replace h := h s4 e5
  exact r_vret X h (Nat.le_of_ble_eq_true rfl) (Nat.le_of_ble_eq_true rfl) dX10_init_9
theorem m_X10_init (l : Launch) (G : GT) (g : GK G) (a0 : Nat) (p1 : Nat) (s : PS) (Q : PS → Prop) (h : w_X10_init G a0 p1 s Q) : Met l yX10_init (ws_ yX10_init cX10_init 2 none) rm_X10_init (va_Pc [.ref a0, .ref p1] (Wr G s)) (va_Qv Q (fun u t => Wr G u t) (kF G)) 0 0 (kF G) := by
  refine Met.ofW (cc := cX10_init) (maxL := 2) (ret := none) (by decide) rfl ?_
  intro p e s0 m args below meth c s₁ B hml hv
  obtain ⟨rfl, hw⟩ := hv
  exact wb_of [.ref a0, .ref p1] (Nat.le_of_ble_eq_true rfl) hw.1 rfl (e_X10_init (cx_of g B hml rfl hw) (name_of_methodNamed B.named B.method).1 a0 p1 s Q h)
theorem tb_X3_one_153 {x : CT} {G : GT} {MC MS : Nat} {d : Nat} (X : Cx x G cX3_one 4 RX3 (some (.object "AgainstFeather$Sum")) (rT 0 (d + 1) MC MS)) (hnt : ∀ z ∈ (xc x).exceptionTable.toList, False) (hfl : (xl x).stackTraces = false) (RC : Nat → Nat → Nat → PS → (Nat → PS → Prop) → (Nat → PS → Prop) → Prop) (hRC : ∀ (A B a0 : Nat) (s : PS) (Q : Nat → PS → Prop) (E : Nat → PS → Prop), RC A B a0 s Q E → vx_Met (xl x) yX3_one (ws_ yX3_one cX3_one 4 (some (.object "AgainstFeather$Sum"))) (rT 0 d A B) (va_Pc [.ref a0] (Wr G s)) (va_Qr (fun u : Nat × PS => Q u.1 u.2) (fun u a t => a = u.1 ∧ Wr G u.2 t) (kF G)) (XW G E) A B (kF G)) (Q : Nat → PS → Prop) (E : Nat → PS → Prop) (v0 : Nat) (v2 : Int32) (v3 : Nat) (ce sl : Nat) (s : PS) (h : b_X3_one_153 G MC MS RC Q E v0 v2 v3 ce sl s) : WB x G 4 (Qx x G MC MS (va_Qr (fun u : Nat × PS => Q u.1 u.2) (fun u a t => a = u.1 ∧ Wr G u.2 t) (kF G)) E) ce sl s 153 [(0, .ref v0), (2, .int v2), (3, .ref v3)] [] := by
  unfold b_X3_one_153 at h
  refine r_aload_n X 0 dX3_one_153 rfl rfl ?_
  refine r_dup X dX3_one_154 rfl ?_
  obtain ⟨g1, h⟩ := h
  refine gf_X3_77 X g1 dX3_one_155 ?_
  refine r_iconst (v := 1) X dX3_one_158 rfl ?_
  refine r_isub X dX3_one_159 ?_
  obtain ⟨g2, h⟩ := h
  refine pf_X3_77 X g1 g2 dX3_one_160 (fun s3 e4 => ?_)
  replace h := h s3 e4
  refine r_iload_n X 1 dX3_one_163 rfl rfl ?_
  refine r_bipush (v := 124) X dX3_one_164 rfl ?_
  refine r_ic_ne X 180 dX3_one_166 (by decide) (fun c5 => ?_) (fun c5 => ?_)
  · replace h := h.2 c5
    refine r_aload_n X 2 dX3_one_180 rfl rfl ?_
    obtain ⟨g17, h⟩ := h
    exact r_thr (r_aret X (Or.inl ⟨_, rfl⟩) h g17.1 g17.2 dX3_one_181)
  · replace h := h.1 c5
    obtain ⟨g6, h⟩ := h
    refine r_new X 10 in_X10 tyX10_ok rfl q656 q657 q159 (df_of df_X10) g6 dX3_one_169 (fun z7 e8 w9 u10 s11 e12 => ?_)
    replace h := h z7 e8 w9 u10 s11 e12
    have g13 : gT s11 z7 = 110 := by rw [e12, gT_pNew, if_pos e8]
    refine r_dup X dX3_one_172 rfl ?_
    refine r_aload_n X 2 dX3_one_173 rfl rfl ?_
    obtain ⟨g14, h⟩ := h
    refine r_cv X (r_okIN (As := [.ref v3]) (rest := [.ref z7]) X (m_X10_init (xl x) G X.2.2.2.2.1 z7 v3 s11 _ h) (cl_X3_169 X ⟨(by simp only [rT, rm_X10_init] <;> omega), (by simp only [rT, rm_X10_init] <;> omega)⟩) rfl rfl (Nat.le_of_ble_eq_true rfl) dX3_one_174 g14) (fun s15 h => ?_)
    refine r_goto X 181 dX3_one_177 (by decide) ?_
    obtain ⟨g16, h⟩ := h
    exact r_thr (r_aret X (Or.inl ⟨_, rfl⟩) h g16.1 g16.2 dX3_one_181)
theorem tb_X3_one_129 {x : CT} {G : GT} {MC MS : Nat} {d : Nat} (X : Cx x G cX3_one 4 RX3 (some (.object "AgainstFeather$Sum")) (rT 0 (d + 1) MC MS)) (hnt : ∀ z ∈ (xc x).exceptionTable.toList, False) (hfl : (xl x).stackTraces = false) (RC : Nat → Nat → Nat → PS → (Nat → PS → Prop) → (Nat → PS → Prop) → Prop) (hRC : ∀ (A B a0 : Nat) (s : PS) (Q : Nat → PS → Prop) (E : Nat → PS → Prop), RC A B a0 s Q E → vx_Met (xl x) yX3_one (ws_ yX3_one cX3_one 4 (some (.object "AgainstFeather$Sum"))) (rT 0 d A B) (va_Pc [.ref a0] (Wr G s)) (va_Qr (fun u : Nat × PS => Q u.1 u.2) (fun u a t => a = u.1 ∧ Wr G u.2 t) (kF G)) (XW G E) A B (kF G)) (Q : Nat → PS → Prop) (E : Nat → PS → Prop) (v0 : Nat) (v2 : Int32) (t0 : Nat) (ce sl : Nat) (s : PS) (h : b_X3_one_129 G MC MS RC Q E v0 v2 t0 ce sl s) : WB x G 4 (Qx x G MC MS (va_Qr (fun u : Nat × PS => Q u.1 u.2) (fun u a t => a = u.1 ∧ Wr G u.2 t) (kF G)) E) ce sl s 129 [(0, .ref v0), (2, .int v2)] [.ref t0] := by
  unfold b_X3_one_129 at h
  refine r_astore_n (lv' := [(3, .ref t0), (0, .ref v0), (2, .int v2)]) X dX3_one_129 rfl (Nat.le_of_ble_eq_true rfl) rfl ?_
  refine r_iload_n X 2 dX3_one_130 rfl rfl ?_
  refine r_bipush (v := 45) X dX3_one_131 rfl ?_
  refine r_ic_eq X 153 dX3_one_133 (by decide) (fun c1 => ?_) (fun c1 => ?_)
  · replace h := h.1 c1
    refine r_sub [1, 2, 0] rfl ?_
    exact tb_X3_one_153 X hnt hfl RC hRC Q E v0 v2 t0 ce sl s h
  · replace h := h.2 c1
    refine r_aload_n X 1 dX3_one_136 rfl rfl ?_
    refine r_iload_n X 2 dX3_one_137 rfl rfl ?_
    refine r_bipush (v := 40) X dX3_one_138 rfl ?_
    have hJ : WB x G 4 (Qx x G MC MS (va_Qr (fun u : Nat × PS => Q u.1 u.2) (fun u a t => a = u.1 ∧ Wr G u.2 t) (kF G)) E) ce sl s 150 [(3, .ref t0), (0, .ref v0), (2, .int v2)] [.int (if v2 = 40 then 41 else 124 : Int32), .ref v0] := by
      obtain ⟨A3, B4, h⟩ := h
      obtain ⟨g5, h⟩ := h
      obtain ⟨g6, h⟩ := h
      refine r_xv X (r_okVX (As := [.int (if v2 = 40 then 41 else 124 : Int32)]) (rest := []) X (m_X3_want (xl x) G X.2.2.2.2.1 hfl A3 B4 v0 (if v2 = 40 then 41 else 124 : Int32) s _ _ h) (cl_X3_111 X ⟨(by simp only [rT, rm_X3_want] <;> omega), (by simp only [rT, rm_X3_want] <;> omega)⟩) 3 g6 rfl rfl rfl rfl (Nat.le_of_ble_eq_true rfl) dX3_one_150 g5) (fun q8 s9 g10 h => r_out X hnt g10 h (g5).1 (g5).2) (fun s7 h => ?_)
      refine r_sub [1, 2, 0] rfl ?_
      exact tb_X3_one_153 X hnt hfl RC hRC Q E v0 v2 t0 (ce + A3) (sl + B4) s7 h
    refine r_ic_ne X 148 dX3_one_140 (by decide) (fun c2 => ?_) (fun c2 => ?_)
    · rw [if_neg c2] at hJ
      refine r_bipush (v := 124) X dX3_one_148 rfl ?_
      exact hJ
    · rw [if_pos c2] at hJ
      refine r_bipush (v := 41) X dX3_one_143 rfl ?_
      refine r_goto X 150 dX3_one_145 (by decide) ?_
      exact hJ
theorem tb_X3_one_96 {x : CT} {G : GT} {MC MS : Nat} {d : Nat} (X : Cx x G cX3_one 4 RX3 (some (.object "AgainstFeather$Sum")) (rT 0 (d + 1) MC MS)) (hnt : ∀ z ∈ (xc x).exceptionTable.toList, False) (hfl : (xl x).stackTraces = false) (RC : Nat → Nat → Nat → PS → (Nat → PS → Prop) → (Nat → PS → Prop) → Prop) (hRC : ∀ (A B a0 : Nat) (s : PS) (Q : Nat → PS → Prop) (E : Nat → PS → Prop), RC A B a0 s Q E → vx_Met (xl x) yX3_one (ws_ yX3_one cX3_one 4 (some (.object "AgainstFeather$Sum"))) (rT 0 d A B) (va_Pc [.ref a0] (Wr G s)) (va_Qr (fun u : Nat × PS => Q u.1 u.2) (fun u a t => a = u.1 ∧ Wr G u.2 t) (kF G)) (XW G E) A B (kF G)) (Q : Nat → PS → Prop) (E : Nat → PS → Prop) (v0 : Nat) (ce sl : Nat) (s : PS) (h : b_X3_one_96 G MC MS RC Q E v0 ce sl s) : WB x G 4 (Qx x G MC MS (va_Qr (fun u : Nat × PS => Q u.1 u.2) (fun u a t => a = u.1 ∧ Wr G u.2 t) (kF G)) E) ce sl s 96 [(0, .ref v0)] [] := by
  unfold b_X3_one_96 at h
  refine r_aload_n X 0 dX3_one_96 rfl rfl ?_
  obtain ⟨g1, h⟩ := h
  refine gf_X3_25 X g1 dX3_one_97 ?_
  refine r_nmI (fun y2 e3 => ?_)
  replace h := h y2 e3
  refine r_istore_n (lv' := [(2, .int y2), (0, .ref v0)]) X dX3_one_100 rfl (Nat.le_of_ble_eq_true rfl) rfl ?_
  refine r_aload_n X 1 dX3_one_101 rfl rfl ?_
  obtain ⟨A4, B5, h⟩ := h
  obtain ⟨g6, h⟩ := h
  refine r_xv X (r_okVX (As := []) (rest := []) X (m_X3_opens (xl x) G X.2.2.2.2.1 hfl A4 B5 v0 s _ _ h) (cl_X3_161 X ⟨(by simp only [rT, rm_X3_opens] <;> omega), (by simp only [rT, rm_X3_opens] <;> omega)⟩) 3 g1 rfl rfl rfl rfl (Nat.le_of_ble_eq_true rfl) dX3_one_102 g6) (fun q8 s9 g10 h => r_out X hnt g10 h (g6).1 (g6).2) (fun s7 h => ?_)
  refine r_iload_n X 0 dX3_one_105 rfl rfl ?_
  refine r_bipush (v := 45) X dX3_one_106 rfl ?_
  refine r_ic_ne X 125 dX3_one_108 (by decide) (fun c12 => ?_) (fun c12 => ?_)
  · replace h := h.2 c12
    refine r_aload_n X 1 dX3_one_125 rfl rfl ?_
    obtain ⟨A32, B33, h⟩ := h
    obtain ⟨g34, h⟩ := h
    obtain ⟨g35, h⟩ := h
    refine r_xa X (r_okVX (As := []) (rest := []) X (m_X3_sum (xl x) G X.2.2.2.2.1 hfl A32 B33 d RC hRC v0 s7 _ _ h) (cl_X3_93 (d := d) X ⟨(by simp only [rT] <;> omega), (by simp only [rT] <;> omega)⟩) 3 g35 rfl rfl rfl rfl (Nat.le_of_ble_eq_true rfl) dX3_one_126 g34) (fun q37 s38 g39 h => r_out X hnt g39 h (g34).1 (g34).2) (fun r40 s36 h => ?_)
    refine r_sub [1, 0] rfl ?_
    exact tb_X3_one_129 X hnt hfl RC hRC Q E v0 y2 r40 ((ce + A4) + A32) ((sl + B5) + B33) s36 h
  · replace h := h.1 c12
    obtain ⟨g13, h⟩ := h
    refine r_new X 9 in_X9 tyX9_ok rfl q642 q643 q158 (df_of df_X9) g13 dX3_one_111 (fun z14 e15 w16 u17 s18 e19 => ?_)
    replace h := h z14 e15 w16 u17 s18 e19
    have g20 : gT s18 z14 = 109 := by rw [e19, gT_pNew, if_pos e15]
    refine r_dup X dX3_one_114 rfl ?_
    refine r_aload_n X 1 dX3_one_115 rfl rfl ?_
    obtain ⟨A21, B22, h⟩ := h
    obtain ⟨g23, h⟩ := h
    obtain ⟨g24, h⟩ := h
    refine r_xa X (r_okVX (As := []) (rest := [.ref z14, .ref z14]) X (hRC A21 B22 v0 s18 _ _ h) (cl_X3_145 (d := d) X ⟨(by simp only [rT] <;> omega), (by simp only [rT] <;> omega)⟩) 3 g24 rfl rfl rfl rfl (Nat.le_of_ble_eq_true rfl) dX3_one_116 g23) (fun q26 s27 g28 h => r_out X hnt g28 h (g23).1 (g23).2) (fun r29 s25 h => ?_)
    obtain ⟨g30, h⟩ := h
    refine r_cv X (r_okIN (As := [.ref r29]) (rest := [.ref z14]) X (m_X9_init (xl x) G X.2.2.2.2.1 z14 r29 s25 _ h) (cl_X3_166 X ⟨(by simp only [rT, rm_X9_init] <;> omega), (by simp only [rT, rm_X9_init] <;> omega)⟩) rfl rfl (Nat.le_of_ble_eq_true rfl) dX3_one_119 g30) (fun s31 h => ?_)
    refine r_goto X 129 dX3_one_122 (by decide) ?_
    refine r_sub [1, 0] rfl ?_
    exact tb_X3_one_129 X hnt hfl RC hRC Q E v0 y2 z14 ((((ce + A4) + 1) + A21) + 0) ((((sl + B5) + 1) + B22) + 0) s31 h
theorem e_X3_one {x : CT} {G : GT} {MC MS : Nat} {d : Nat} (X : Cx x G cX3_one 4 RX3 (some (.object "AgainstFeather$Sum")) (rT 0 (d + 1) MC MS)) (hnt : ∀ z ∈ (xc x).exceptionTable.toList, False) (hfl : (xl x).stackTraces = false) (RC : Nat → Nat → Nat → PS → (Nat → PS → Prop) → (Nat → PS → Prop) → Prop) (hRC : ∀ (A B a0 : Nat) (s : PS) (Q : Nat → PS → Prop) (E : Nat → PS → Prop), RC A B a0 s Q E → vx_Met (xl x) yX3_one (ws_ yX3_one cX3_one 4 (some (.object "AgainstFeather$Sum"))) (rT 0 d A B) (va_Pc [.ref a0] (Wr G s)) (va_Qr (fun u : Nat × PS => Q u.1 u.2) (fun u a t => a = u.1 ∧ Wr G u.2 t) (kF G)) (XW G E) A B (kF G)) (a0 : Nat) (s : PS) (Q : Nat → PS → Prop) (E : Nat → PS → Prop) (h : w_X3_one G MC MS RC a0 s Q E) : WB x G 4 (Qx x G MC MS (va_Qr (fun u : Nat × PS => Q u.1 u.2) (fun u a t => a = u.1 ∧ Wr G u.2 t) (kF G)) E) 0 0 s 0 [(0, .ref a0)] [] := by
  unfold w_X3_one at h
  refine r_aload_n X 0 dX3_one_0 rfl rfl ?_
  obtain ⟨g1, h⟩ := h
  refine gf_X3_25 X g1 dX3_one_1 ?_
  refine r_sipush (v := 300) X dX3_one_4 rfl ?_
  refine r_ic_ne X 26 dX3_one_7 (by decide) (fun c2 => ?_) (fun c2 => ?_)
  · replace h := h.2 c2
    refine r_aload_n X 0 dX3_one_26 rfl rfl ?_
    obtain ⟨g23, h⟩ := h
    refine r_ci X (r_okV (As := []) (rest := []) X (m_X3_nameNow (xl x) G X.2.2.2.2.1 a0 s _ h) (cl_X3_152 X ⟨(by simp only [rT, rm_X3_nameNow] <;> omega), (by simp only [rT, rm_X3_nameNow] <;> omega)⟩) 3 g1 rfl rfl rfl rfl (Nat.le_of_ble_eq_true rfl) dX3_one_27 g23) (fun r25 s24 h => ?_)
    refine r_istore_n (lv' := [(1, .int r25), (0, .ref a0)]) X dX3_one_30 rfl (Nat.le_of_ble_eq_true rfl) rfl ?_
    refine r_iload_n X 0 dX3_one_31 rfl rfl ?_
    refine r_iconst (v := (-1)) X dX3_one_32 rfl ?_
    refine r_ic_eq X 63 dX3_one_33 (by decide) (fun c26 => ?_) (fun c26 => ?_)
    · replace h := h.1 c26
      refine r_aload_n X 1 dX3_one_63 rfl rfl ?_
      obtain ⟨g27, h⟩ := h
      refine gf_X3_25 X g27 dX3_one_64 ?_
      refine r_bipush (v := 40) X dX3_one_67 rfl ?_
      refine r_ic_eq X 96 dX3_one_69 (by decide) (fun c28 => ?_) (fun c28 => ?_)
      · replace h := h.1 c28
        refine r_sub [1] rfl ?_
        exact tb_X3_one_96 X hnt hfl RC hRC Q E a0 (0 + 0) (0 + 0) s24 h
      · replace h := h.2 c28
        refine r_aload_n X 1 dX3_one_72 rfl rfl ?_
        refine gf_X3_25 X g27 dX3_one_73 ?_
        refine r_bipush (v := 45) X dX3_one_76 rfl ?_
        refine r_ic_eq X 96 dX3_one_78 (by decide) (fun c29 => ?_) (fun c29 => ?_)
        · replace h := h.1 c29
          refine r_sub [1] rfl ?_
          exact tb_X3_one_96 X hnt hfl RC hRC Q E a0 (0 + 0) (0 + 0) s24 h
        · replace h := h.2 c29
          refine r_aload_n X 1 dX3_one_81 rfl rfl ?_
          refine gf_X3_25 X g27 dX3_one_82 ?_
          refine r_bipush (v := 124) X dX3_one_85 rfl ?_
          refine r_ic_eq X 96 dX3_one_87 (by decide) (fun c30 => ?_) (fun c30 => ?_)
          · replace h := h.1 c30
            refine r_sub [1] rfl ?_
            exact tb_X3_one_96 X hnt hfl RC hRC Q E a0 (0 + 0) (0 + 0) s24 h
          · replace h := h.2 c30
            refine r_aload_n X 1 dX3_one_90 rfl rfl ?_
            refine r_iconst (v := 1) X dX3_one_91 rfl ?_
            obtain ⟨g31, h⟩ := h
            refine r_ca X (r_okV (As := [.int 1]) (rest := []) X (m_X3_wrong (xl x) G X.2.2.2.2.1 hfl a0 1 s24 _ h) (cl_X3_70 X ⟨(by simp only [rT, rm_X3_wrong] <;> omega), (by simp only [rT, rm_X3_wrong] <;> omega)⟩) 3 g27 rfl rfl rfl rfl (Nat.le_of_ble_eq_true rfl) dX3_one_92 g31) (fun r33 s32 h => ?_)
            obtain ⟨g34, h⟩ := h
            obtain ⟨g35, h⟩ := h
            exact r_athrow X dX3_one_95 (r_out X hnt g34 h g35.1 g35.2)
    · replace h := h.2 c26
      refine r_aload_n X 1 dX3_one_36 rfl rfl ?_
      refine r_iload_n X 0 dX3_one_37 rfl rfl ?_
      obtain ⟨g36, h⟩ := h
      obtain ⟨g37, h⟩ := h
      refine r_ci X (r_okV (As := [.int r25]) (rest := []) X (m_X3_mayName (xl x) G X.2.2.2.2.1 a0 r25 s24 _ h) (cl_X3_155 X ⟨(by simp only [rT, rm_X3_mayName] <;> omega), (by simp only [rT, rm_X3_mayName] <;> omega)⟩) 3 g37 rfl rfl rfl rfl (Nat.le_of_ble_eq_true rfl) dX3_one_38 g36) (fun r39 s38 h => ?_)
      obtain ⟨z40, h⟩ := h
      refine r_if_ne X 50 dX3_one_41 (by decide) (fun c41 => ?_) (fun c41 => ?_)
      · replace h := h.2 c41
        refine r_aload_n X 1 dX3_one_50 rfl rfl ?_
        obtain ⟨g48, h⟩ := h
        obtain ⟨g49, h⟩ := h
        refine r_cv X (r_okV (As := []) (rest := []) X (m_X3_next (xl x) G X.2.2.2.2.1 a0 s38 _ h) (cl_X3_74 X ⟨(by simp only [rT, rm_X3_next] <;> omega), (by simp only [rT, rm_X3_next] <;> omega)⟩) 3 g49 rfl rfl rfl rfl (Nat.le_of_ble_eq_true rfl) dX3_one_51 g48) (fun s50 h => ?_)
        obtain ⟨g51, h⟩ := h
        refine r_new X 8 in_X8 tyX8_ok rfl q628 q629 q157 (df_of df_X8) g51 dX3_one_54 (fun z52 e53 w54 u55 s56 e57 => ?_)
        replace h := h z52 e53 w54 u55 s56 e57
        have g58 : gT s56 z52 = 108 := by rw [e57, gT_pNew, if_pos e53]
        refine r_dup X dX3_one_57 rfl ?_
        refine r_iload_n X 0 dX3_one_58 rfl rfl ?_
        obtain ⟨g59, h⟩ := h
        refine r_cv X (r_okIN (As := [.int r25]) (rest := [.ref z52]) X (m_X8_init (xl x) G X.2.2.2.2.1 z52 r25 s56 _ h) (cl_X3_160 X ⟨(by simp only [rT, rm_X8_init] <;> omega), (by simp only [rT, rm_X8_init] <;> omega)⟩) rfl rfl (Nat.le_of_ble_eq_true rfl) dX3_one_59 g59) (fun s60 h => ?_)
        obtain ⟨g61, h⟩ := h
        exact r_thr (r_aret X (Or.inl ⟨_, rfl⟩) h g61.1 g61.2 dX3_one_62)
      · replace h := h.1 c41
        refine r_aload_n X 1 dX3_one_44 rfl rfl ?_
        refine r_iconst (v := 5) X dX3_one_45 rfl ?_
        obtain ⟨g42, h⟩ := h
        obtain ⟨g43, h⟩ := h
        refine r_ca X (r_okV (As := [.int 5]) (rest := []) X (m_X3_wrong (xl x) G X.2.2.2.2.1 hfl a0 5 s38 _ h) (cl_X3_70 X ⟨(by simp only [rT, rm_X3_wrong] <;> omega), (by simp only [rT, rm_X3_wrong] <;> omega)⟩) 3 g43 rfl rfl rfl rfl (Nat.le_of_ble_eq_true rfl) dX3_one_46 g42) (fun r45 s44 h => ?_)
        obtain ⟨g46, h⟩ := h
        obtain ⟨g47, h⟩ := h
        exact r_athrow X dX3_one_49 (r_out X hnt g46 h g47.1 g47.2)
  · replace h := h.1 c2
    obtain ⟨g3, h⟩ := h
    refine r_new X 7 in_X7 tyX7_ok rfl q603 q604 q156 (df_of df_X7) g3 dX3_one_10 (fun z4 e5 w6 u7 s8 e9 => ?_)
    replace h := h z4 e5 w6 u7 s8 e9
    have g10 : gT s8 z4 = 107 := by rw [e9, gT_pNew, if_pos e5]
    refine r_dup X dX3_one_13 rfl ?_
    refine r_aload_n X 0 dX3_one_14 rfl rfl ?_
    refine r_iconst (v := 0) X dX3_one_15 rfl ?_
    refine r_sipush (v := 9999) X dX3_one_16 rfl ?_
    obtain ⟨A11, B12, h⟩ := h
    obtain ⟨g13, h⟩ := h
    have g14 : gT s8 a0 = 103 := by rw [e9, gT_pNew, if_neg (fun c => by have := u7 _ (show gT s a0 ≠ 0 by rw [g1]; decide); rw [e5] at this; omega)]; exact g1
    refine r_xi X (r_okVX (As := [.int 0, .int 9999]) (rest := [.ref z4, .ref z4]) X (m_X3_number (xl x) G X.2.2.2.2.1 hfl A11 B12 a0 0 9999 s8 _ _ h) (cl_X3_115 X ⟨(by simp only [rT, rm_X3_number] <;> omega), (by simp only [rT, rm_X3_number] <;> omega)⟩) 3 g14 rfl rfl rfl rfl (Nat.le_of_ble_eq_true rfl) dX3_one_19 g13) (fun q16 s17 g18 h => r_out X hnt g18 h (g13).1 (g13).2) (fun r19 s15 h => ?_)
    obtain ⟨g20, h⟩ := h
    refine r_cv X (r_okIN (As := [.int r19]) (rest := [.ref z4]) X (m_X7_init (xl x) G X.2.2.2.2.1 z4 r19 s15 _ h) (cl_X3_150 X ⟨(by simp only [rT, rm_X7_init] <;> omega), (by simp only [rT, rm_X7_init] <;> omega)⟩) rfl rfl (Nat.le_of_ble_eq_true rfl) dX3_one_22 g20) (fun s21 h => ?_)
    obtain ⟨g22, h⟩ := h
    exact r_thr (r_aret X (Or.inl ⟨_, rfl⟩) h g22.1 g22.2 dX3_one_25)
theorem m_X3_one (l : Launch) (G : GT) (g : GK G) (hfl : l.stackTraces = false) (MC MS : Nat) (d : Nat) (RC : Nat → Nat → Nat → PS → (Nat → PS → Prop) → (Nat → PS → Prop) → Prop) (hRC : ∀ (A B a0 : Nat) (s : PS) (Q : Nat → PS → Prop) (E : Nat → PS → Prop), RC A B a0 s Q E → vx_Met l yX3_one (ws_ yX3_one cX3_one 4 (some (.object "AgainstFeather$Sum"))) (rT 0 d A B) (va_Pc [.ref a0] (Wr G s)) (va_Qr (fun u : Nat × PS => Q u.1 u.2) (fun u a t => a = u.1 ∧ Wr G u.2 t) (kF G)) (XW G E) A B (kF G)) (a0 : Nat) (s : PS) (Q : Nat → PS → Prop) (E : Nat → PS → Prop) (h : w_X3_one G MC MS RC a0 s Q E) : vx_Met l yX3_one (ws_ yX3_one cX3_one 4 (some (.object "AgainstFeather$Sum"))) (rT 0 (d + 1) MC MS) (va_Pc [.ref a0] (Wr G s)) (va_Qr (fun u : Nat × PS => Q u.1 u.2) (fun u a t => a = u.1 ∧ Wr G u.2 t) (kF G)) (XW G E) MC MS (kF G) := by
  refine vx_ofW (cc := cX3_one) (maxL := 4) (ret := (some (.object "AgainstFeather$Sum"))) (by decide) rfl ?_
  intro p e s0 m args below meth c s₁ B hml hnt hv
  obtain ⟨rfl, hw⟩ := hv
  exact wb_of [.ref a0] (Nat.le_of_ble_eq_true rfl) hw.1 rfl (e_X3_one (cx_of g B hml rfl hw) hnt hfl RC hRC a0 s Q E h)
theorem mr_X3_one (l : Launch) (G : GT) (g : GK G) (hfl : l.stackTraces = false) : ∀ (d A B a0 : Nat) (s : PS) (Q : Nat → PS → Prop) (E : Nat → PS → Prop) (h : wr_X3_one G d A B a0 s Q E), vx_Met l yX3_one (ws_ yX3_one cX3_one 4 (some (.object "AgainstFeather$Sum"))) (rT 0 d A B) (va_Pc [.ref a0] (Wr G s)) (va_Qr (fun u : Nat × PS => Q u.1 u.2) (fun u a t => a = u.1 ∧ Wr G u.2 t) (kF G)) (XW G E) A B (kF G) := by
  intro d
  induction d with
  | zero =>
    intro A B a0 s Q E h
    exact False.elim h
  | succ d ih =>
    intro A B a0 s Q E h
    exact m_X3_one l G g hfl A B d (wr_X3_one G d) ih a0 s Q E h
theorem e_J2_size {x : CT} {G : GT} (X : Cx x G cJ2_size 1 RJ2 (some .int) rm_J2_size) (a0 : Nat) (s : PS) (Q : Int32 → PS → Prop) (h : w_J2_size G a0 s Q) : WB x G 1 (QfI x G 0 0 Q) 0 0 s 0 [(0, .ref a0)] [] := by
  unfold w_J2_size at h
  refine r_aload_n X 0 dJ2_size_0 rfl rfl ?_
  obtain ⟨g1, h⟩ := h
  refine gf_J2_48 X g1 dJ2_size_1 ?_
  exact r_iret X h (Nat.le_of_ble_eq_true rfl) (Nat.le_of_ble_eq_true rfl) dJ2_size_4
theorem m_J2_size (l : Launch) (G : GT) (g : GK G) (a0 : Nat) (s : PS) (Q : Int32 → PS → Prop) (h : w_J2_size G a0 s Q) : Met l yJ2_size (ws_ yJ2_size cJ2_size 1 (some .int)) rm_J2_size (va_Pc [.ref a0] (Wr G s)) (va_Qi Q (fun u t => Wr G u t) (kF G)) 0 0 (kF G) := by
  refine Met.ofW (cc := cJ2_size) (maxL := 1) (ret := (some .int)) (by decide) rfl ?_
  intro p e s0 m args below meth c s₁ B hml hv
  obtain ⟨rfl, hw⟩ := hv
  exact wb_of [.ref a0] (Nat.le_of_ble_eq_true rfl) hw.1 rfl (e_J2_size (cx_of g B hml rfl hw) a0 s Q h)
theorem e_J15_checkIndex {x : CT} {G : GT} (X : Cx x G cJ15_checkIndex 2 RJ15 (some .int) rm_J15_checkIndex) (p1 : Int32) (p2 : Int32) (s : PS) (Q : Int32 → PS → Prop) (h : w_J15_checkIndex G p1 p2 s Q) : WB x G 2 (QfI x G 0 0 Q) 0 0 s 0 [(0, .int p1), (1, .int p2)] [] := by
  unfold w_J15_checkIndex at h
  refine r_iload_n X 0 dJ15_checkIndex_0 rfl rfl ?_
  refine r_iload_n X 1 dJ15_checkIndex_1 rfl rfl ?_
  refine r_anull X dJ15_checkIndex_2 ?_
  refine r_ci X (r_okS (As := [.int p1, .int p2, .null]) (rest := []) X (m_J5_checkIndex (xl x) G X.2.2.2.2.1 p1 p2 none s _ h) (cl_J15_105 X ⟨(Nat.le_of_ble_eq_true rfl), (Nat.le_of_ble_eq_true rfl)⟩) rfl rfl (Nat.le_of_ble_eq_true rfl) dJ15_checkIndex_3 ⟨Nat.le_of_ble_eq_true rfl, Nat.le_of_ble_eq_true rfl⟩) (fun r2 s1 h => ?_)
  exact r_iret X h (Nat.le_of_ble_eq_true rfl) (Nat.le_of_ble_eq_true rfl) dJ15_checkIndex_6
theorem m_J15_checkIndex (l : Launch) (G : GT) (g : GK G) (p1 : Int32) (p2 : Int32) (s : PS) (Q : Int32 → PS → Prop) (h : w_J15_checkIndex G p1 p2 s Q) : Met l yJ15_checkIndex (ws_ yJ15_checkIndex cJ15_checkIndex 2 (some .int)) rm_J15_checkIndex (va_Pc [.int p1, .int p2] (Wr G s)) (va_Qi Q (fun u t => Wr G u t) (kF G)) 0 0 (kF G) := by
  refine Met.ofW (cc := cJ15_checkIndex) (maxL := 2) (ret := (some .int)) (by decide) rfl ?_
  intro p e s0 m args below meth c s₁ B hml hv
  obtain ⟨rfl, hw⟩ := hv
  exact wb_of [.int p1, .int p2] (Nat.le_of_ble_eq_true rfl) hw.1 rfl (e_J15_checkIndex (cx_of g B hml rfl hw) p1 p2 s Q h)
theorem e_J2_elementData {x : CT} {G : GT} (X : Cx x G cJ2_elementData 2 RJ2 (some (.object "java/lang/Object")) rm_J2_elementData) (a0 : Nat) (p1 : Int32) (s : PS) (Q : Nat → PS → Prop) (h : w_J2_elementData G a0 p1 s Q) : WB x G 2 (QfA x G 0 0 Q) 0 0 s 0 [(0, .ref a0), (1, .int p1)] [] := by
  unfold w_J2_elementData at h
  refine r_aload_n X 0 dJ2_elementData_0 rfl rfl ?_
  obtain ⟨g1, h⟩ := h
  refine gf_J2_9 X g1 dJ2_elementData_1 ?_
  obtain ⟨q2, g3, h⟩ := h
  refine r_top (show va_rf (gR s a0 1) = Value.ref q2 by rw [g3]; rfl) ?_
  refine r_iload_n X 1 dJ2_elementData_4 rfl rfl ?_
  obtain ⟨g4, h⟩ := h
  obtain ⟨g5, h⟩ := h
  refine r_aaldM X g4 (by decide) g5 dJ2_elementData_5 ?_
  obtain ⟨q6, g7, h⟩ := h
  refine r_top (show va_rf (gR s q2 (Int32.toNatClampNeg p1)) = Value.ref q6 by rw [g7]; rfl) ?_
  exact r_aret X (Or.inl ⟨_, rfl⟩) h (Nat.le_of_ble_eq_true rfl) (Nat.le_of_ble_eq_true rfl) dJ2_elementData_6
theorem m_J2_elementData (l : Launch) (G : GT) (g : GK G) (a0 : Nat) (p1 : Int32) (s : PS) (Q : Nat → PS → Prop) (h : w_J2_elementData G a0 p1 s Q) : Met l yJ2_elementData (ws_ yJ2_elementData cJ2_elementData 2 (some (.object "java/lang/Object"))) rm_J2_elementData (va_Pc [.ref a0, .int p1] (Wr G s)) (va_Qr (fun u : Nat × PS => Q u.1 u.2) (fun u a t => a = u.1 ∧ Wr G u.2 t) (kF G)) 0 0 (kF G) := by
  refine Met.ofW (cc := cJ2_elementData) (maxL := 2) (ret := (some (.object "java/lang/Object"))) (by decide) rfl ?_
  intro p e s0 m args below meth c s₁ B hml hv
  obtain ⟨rfl, hw⟩ := hv
  exact wb_of [.ref a0, .int p1] (Nat.le_of_ble_eq_true rfl) hw.1 rfl (e_J2_elementData (cx_of g B hml rfl hw) a0 p1 s Q h)
theorem e_J2_get {x : CT} {G : GT} (X : Cx x G cJ2_get 2 RJ2 (some (.object "java/lang/Object")) rm_J2_get) (a0 : Nat) (p1 : Int32) (s : PS) (Q : Nat → PS → Prop) (h : w_J2_get G a0 p1 s Q) : WB x G 2 (QfA x G 0 0 Q) 0 0 s 0 [(0, .ref a0), (1, .int p1)] [] := by
  unfold w_J2_get at h
  refine r_iload_n X 1 dJ2_get_0 rfl rfl ?_
  refine r_aload_n X 0 dJ2_get_1 rfl rfl ?_
  obtain ⟨g1, h⟩ := h
  refine gf_J2_48 X g1 dJ2_get_2 ?_
  refine r_ci X (r_okS (As := [.int p1, .int (gI s a0 2)]) (rest := []) X (m_J15_checkIndex (xl x) G X.2.2.2.2.1 p1 (gI s a0 2) s _ h) (cl_J2_118 X ⟨(Nat.le_of_ble_eq_true rfl), (Nat.le_of_ble_eq_true rfl)⟩) rfl rfl (Nat.le_of_ble_eq_true rfl) dJ2_get_5 ⟨Nat.le_of_ble_eq_true rfl, Nat.le_of_ble_eq_true rfl⟩) (fun r3 s2 h => ?_)
  refine r_pop X dJ2_get_8 rfl ?_
  refine r_aload_n X 0 dJ2_get_9 rfl rfl ?_
  refine r_iload_n X 1 dJ2_get_10 rfl rfl ?_
  obtain ⟨g4, h⟩ := h
  refine r_ca X (r_okV (As := [.int p1]) (rest := []) X (m_J2_elementData (xl x) G X.2.2.2.2.1 a0 p1 s2 _ h) (cl_J2_123 X ⟨(Nat.le_of_ble_eq_true rfl), (Nat.le_of_ble_eq_true rfl)⟩) 13 g4 rfl rfl rfl rfl (Nat.le_of_ble_eq_true rfl) dJ2_get_11 ⟨Nat.le_of_ble_eq_true rfl, Nat.le_of_ble_eq_true rfl⟩) (fun r6 s5 h => ?_)
  exact r_aret X (Or.inl ⟨_, rfl⟩) h (Nat.le_of_ble_eq_true rfl) (Nat.le_of_ble_eq_true rfl) dJ2_get_14
theorem m_J2_get (l : Launch) (G : GT) (g : GK G) (a0 : Nat) (p1 : Int32) (s : PS) (Q : Nat → PS → Prop) (h : w_J2_get G a0 p1 s Q) : Met l yJ2_get (ws_ yJ2_get cJ2_get 2 (some (.object "java/lang/Object"))) rm_J2_get (va_Pc [.ref a0, .int p1] (Wr G s)) (va_Qr (fun u : Nat × PS => Q u.1 u.2) (fun u a t => a = u.1 ∧ Wr G u.2 t) (kF G)) 0 0 (kF G) := by
  refine Met.ofW (cc := cJ2_get) (maxL := 2) (ret := (some (.object "java/lang/Object"))) (by decide) rfl ?_
  intro p e s0 m args below meth c s₁ B hml hv
  obtain ⟨rfl, hw⟩ := hv
  exact wb_of [.ref a0, .int p1] (Nat.le_of_ble_eq_true rfl) hw.1 rfl (e_J2_get (cx_of g B hml rfl hw) a0 p1 s Q h)
theorem e_J12_intValue {x : CT} {G : GT} (X : Cx x G cJ12_intValue 1 RJ12 (some .int) rm_J12_intValue) (a0 : Nat) (s : PS) (Q : Int32 → PS → Prop) (h : w_J12_intValue G a0 s Q) : WB x G 1 (QfI x G 0 0 Q) 0 0 s 0 [(0, .ref a0)] [] := by
  unfold w_J12_intValue at h
  refine r_aload_n X 0 dJ12_intValue_0 rfl rfl ?_
  obtain ⟨g1, h⟩ := h
  refine r_getInt X q702 g1 dJ12_intValue_1 ?_
  exact r_iret X h (Nat.le_of_ble_eq_true rfl) (Nat.le_of_ble_eq_true rfl) dJ12_intValue_4
theorem m_J12_intValue (l : Launch) (G : GT) (g : GK G) (a0 : Nat) (s : PS) (Q : Int32 → PS → Prop) (h : w_J12_intValue G a0 s Q) : Met l yJ12_intValue (ws_ yJ12_intValue cJ12_intValue 1 (some .int)) rm_J12_intValue (va_Pc [.ref a0] (Wr G s)) (va_Qi Q (fun u t => Wr G u t) (kF G)) 0 0 (kF G) := by
  refine Met.ofW (cc := cJ12_intValue) (maxL := 1) (ret := (some .int)) (by decide) rfl ?_
  intro p e s0 m args below meth c s₁ B hml hv
  obtain ⟨rfl, hw⟩ := hv
  exact wb_of [.ref a0] (Nat.le_of_ble_eq_true rfl) hw.1 rfl (e_J12_intValue (cx_of g B hml rfl hw) a0 s Q h)
theorem tb_X6_of_120 {x : CT} {G : GT} {d : Nat} (X : Cx x G cX6_of 10 RX6 (some .long) (rS (d + 1))) (RC : Nat → Nat → PS → (Int64 → PS → Prop) → Prop) (hRC : ∀ (a v : Nat) (s : PS) (Q : Int64 → PS → Prop), RC a v s Q → SumOk (xl x) G (rS d) a v s Q) (Q : Int64 → PS → Prop) (K14 : Int64 → Int32 → PS → Prop) (v0 : Nat) (v1 : Nat) (v4 : Int32) (t0 : Int64) (s : PS) (hK14 : ∀ (v2' : Int64) (v4' : Int32) (s' : PS), K14 v2' v4' s' → WB x G 10 (QfL x G 0 0 Q) 0 0 s' 14 [(0, .ref v0), (1, .ref v1), (2, .long v2'), (4, .int v4')] []) (h : b_X6_of_120 G RC Q K14 v0 v1 v4 t0 s) : WB x G 10 (QfL x G 0 0 Q) 0 0 s 120 [(0, .ref v0), (1, .ref v1), (4, .int v4)] [.long t0] := by
  unfold b_X6_of_120 at h
  refine r_lstore (lv' := [(8, .long t0), (0, .ref v0), (1, .ref v1), (4, .int v4)]) X dX6_of_120 (Nat.le_of_ble_eq_true rfl) rfl ?_
  refine r_ldc2 X q954 dX6_of_122 ?_
  refine r_ldc2 X q955 dX6_of_125 ?_
  refine r_lload X 0 dX6_of_128 rfl ?_
  refine r_mminL X q956 q957 q150 q958 (by simp only [rS] <;> omega) (by simp only [rS] <;> omega) (Nat.le_of_ble_eq_true rfl) ⟨Nat.le_of_ble_eq_true rfl, Nat.le_of_ble_eq_true rfl⟩ dX6_of_130 ?_
  refine r_mmaxL X q959 q960 q150 q961 (by simp only [rS] <;> omega) (by simp only [rS] <;> omega) (Nat.le_of_ble_eq_true rfl) ⟨Nat.le_of_ble_eq_true rfl, Nat.le_of_ble_eq_true rfl⟩ dX6_of_133 ?_
  refine r_nmL (fun y1 e2 => ?_)
  replace h := h y1 e2
  refine r_lstore_n (lv' := [(2, .long y1), (8, .long t0), (0, .ref v0), (1, .ref v1), (4, .int v4)]) X dX6_of_136 rfl (Nat.le_of_ble_eq_true rfl) rfl ?_
  refine r_iinc (lv' := [(4, .int (v4 + 1)), (2, .long y1), (8, .long t0), (0, .ref v0), (1, .ref v1)]) X 4 dX6_of_137 rfl rfl (Nat.le_of_ble_eq_true rfl) rfl ?_
  refine r_goto X 14 dX6_of_140 (by decide) ?_
  refine r_sub [3, 4, 1, 0] rfl ?_
  exact hK14 y1 (v4 + 1) s h
theorem tl_X6_of_14 {x : CT} {G : GT} {d : Nat} (X : Cx x G cX6_of 10 RX6 (some .long) (rS (d + 1))) (RC : Nat → Nat → PS → (Int64 → PS → Prop) → Prop) (hRC : ∀ (a v : Nat) (s : PS) (Q : Int64 → PS → Prop), RC a v s Q → SumOk (xl x) G (rS d) a v s Q) (Q : Int64 → PS → Prop) (v0 : Nat) (v1 : Nat) : ∀ (n : Nat) (v2 : Int64) (v4 : Int32) (s : PS) (h : l_X6_of_14 G RC Q v0 v1 n v2 v4 s), WB x G 10 (QfL x G 0 0 Q) 0 0 s 14 [(0, .ref v0), (1, .ref v1), (2, .long v2), (4, .int v4)] [] := by
  intro n
  induction n with
  | zero =>
    intro v2 v4 s h
    exact False.elim h
  | succ n ih =>
    intro v2 v4 s h
    unfold l_X6_of_14 at h
    refine r_iload X 3 dX6_of_14 rfl ?_
    refine r_aload_n X 0 dX6_of_16 rfl rfl ?_
    obtain ⟨g1, h⟩ := h
    refine gf_X6_12 X g1 dX6_of_17 ?_
    obtain ⟨q2, g3, h⟩ := h
    refine r_top (show va_rf (gR s v0 1) = Value.ref q2 by rw [g3]; rfl) ?_
    obtain ⟨g4, h⟩ := h
    refine r_ci X (r_okV (As := []) (rest := [.int v4]) X (m_J2_size (xl x) G X.2.2.2.2.1 q2 s _ h) (cl_X6_45 X ⟨(by simp only [rS, rm_J2_size] <;> omega), (by simp only [rS, rm_J2_size] <;> omega)⟩) 13 g4 rfl rfl rfl rfl (Nat.le_of_ble_eq_true rfl) dX6_of_20 ⟨Nat.le_of_ble_eq_true rfl, Nat.le_of_ble_eq_true rfl⟩) (fun r6 s5 h => ?_)
    refine r_ic_ge X 143 dX6_of_23 (by decide) (fun c7 => ?_) (fun c7 => ?_)
    · replace h := h.1 c7
      refine r_lload_n X 2 dX6_of_143 rfl rfl ?_
      exact r_lret X h (Nat.le_of_ble_eq_true rfl) (Nat.le_of_ble_eq_true rfl) dX6_of_144
    · replace h := h.2 c7
      refine r_aload_n X 0 dX6_of_26 rfl rfl ?_
      obtain ⟨g8, h⟩ := h
      refine gf_X6_12 X g8 dX6_of_27 ?_
      obtain ⟨q9, g10, h⟩ := h
      refine r_top (show va_rf (gR s5 v0 1) = Value.ref q9 by rw [g10]; rfl) ?_
      refine r_iload X 3 dX6_of_30 rfl ?_
      obtain ⟨g11, h⟩ := h
      refine r_ca X (r_okV (As := [.int v4]) (rest := []) X (m_J2_get (xl x) G X.2.2.2.2.1 q9 v4 s5 _ h) (cl_X6_49 X ⟨(by simp only [rS, rm_J2_get] <;> omega), (by simp only [rS, rm_J2_get] <;> omega)⟩) 13 g11 rfl rfl rfl rfl (Nat.le_of_ble_eq_true rfl) dX6_of_32 ⟨Nat.le_of_ble_eq_true rfl, Nat.le_of_ble_eq_true rfl⟩) (fun r13 s12 h => ?_)
      obtain ⟨g14, h⟩ := h
      refine r_castSum X q948 g14 dX6_of_35 ?_
      refine r_aload_n X 1 dX6_of_38 rfl rfl ?_
      refine r_csum X q900 (hRC r13 v1 s12 _ h) ⟨rfl, rfl⟩ (by simp only [rS] <;> omega) (by simp only [rS] <;> omega) (Nat.le_of_ble_eq_true rfl) ⟨Nat.le_of_ble_eq_true rfl, Nat.le_of_ble_eq_true rfl⟩ dX6_of_39 (fun r15 s16 h => ?_)
      refine r_lstore (lv' := [(5, .long r15), (0, .ref v0), (1, .ref v1), (2, .long v2), (4, .int v4)]) X dX6_of_44 (Nat.le_of_ble_eq_true rfl) rfl ?_
      refine r_aload_n X 1 dX6_of_46 rfl rfl ?_
      obtain ⟨g17, h⟩ := h
      refine gf_X6_18 X g17 dX6_of_47 ?_
      obtain ⟨q18, g19, h⟩ := h
      refine r_top (show va_rf (gR s16 v0 2) = Value.ref q18 by rw [g19]; rfl) ?_
      refine r_iload X 4 dX6_of_50 rfl ?_
      obtain ⟨g20, h⟩ := h
      refine r_ca X (r_okV (As := [.int v4]) (rest := []) X (m_J2_get (xl x) G X.2.2.2.2.1 q18 v4 s16 _ h) (cl_X6_49 X ⟨(by simp only [rS, rm_J2_get] <;> omega), (by simp only [rS, rm_J2_get] <;> omega)⟩) 13 g20 rfl rfl rfl rfl (Nat.le_of_ble_eq_true rfl) dX6_of_52 ⟨Nat.le_of_ble_eq_true rfl, Nat.le_of_ble_eq_true rfl⟩) (fun r22 s21 h => ?_)
      obtain ⟨g23, h⟩ := h
      refine r_castInt X q949 g23 dX6_of_55 ?_
      refine r_ci X (r_okVInt (As := []) (rest := []) X (m_J12_intValue (xl x) G X.2.2.2.2.1 r22 s21 _ h) (cl_X6_53 X ⟨(by simp only [rS, rm_J12_intValue] <;> omega), (by simp only [rS, rm_J12_intValue] <;> omega)⟩) g23 rfl rfl (Nat.le_of_ble_eq_true rfl) dX6_of_58 ⟨Nat.le_of_ble_eq_true rfl, Nat.le_of_ble_eq_true rfl⟩) (fun r25 s24 h => ?_)
      refine r_istore (lv' := [(7, .int r25), (5, .long r15), (0, .ref v0), (1, .ref v1), (2, .long v2), (4, .int v4)]) X dX6_of_61 (Nat.le_of_ble_eq_true rfl) rfl ?_
      refine r_iload X 0 dX6_of_63 rfl ?_
      refine r_bipush (v := 43) X dX6_of_65 rfl ?_
      refine r_ic_ne X 77 dX6_of_67 (by decide) (fun c26 => ?_) (fun c26 => ?_)
      · replace h := h.2 c26
        refine r_iload X 0 dX6_of_77 rfl ?_
        refine r_bipush (v := 45) X dX6_of_79 rfl ?_
        refine r_ic_ne X 91 dX6_of_81 (by decide) (fun c27 => ?_) (fun c27 => ?_)
        · replace h := h.2 c27
          refine r_iload X 0 dX6_of_91 rfl ?_
          refine r_bipush (v := 42) X dX6_of_93 rfl ?_
          refine r_ic_ne X 105 dX6_of_95 (by decide) (fun c28 => ?_) (fun c28 => ?_)
          · replace h := h.2 c28
            refine r_lload X 1 dX6_of_105 rfl ?_
            refine r_lconst (v := 0) X dX6_of_107 rfl ?_
            refine r_lcmp X dX6_of_108 ?_
            refine r_if_ne X 116 dX6_of_109 (by decide) (fun c29 => ?_) (fun c29 => ?_)
            · replace h := h.2 c29
              refine r_lload_n X 4 dX6_of_116 rfl rfl ?_
              refine r_lload X 1 dX6_of_117 rfl ?_
              obtain ⟨g30, h⟩ := h
              refine r_ldiv X dX6_of_119 g30 ?_
              refine r_sub [2, 3, 5] rfl ?_
              exact tb_X6_of_120 X RC hRC Q (l_X6_of_14 G RC Q v0 v1 n) v0 v1 v4 (v2 / r15) s24 ih h
            · replace h := h.1 c29
              refine r_lconst (v := 0) X dX6_of_112 rfl ?_
              refine r_goto X 120 dX6_of_113 (by decide) ?_
              refine r_sub [2, 3, 5] rfl ?_
              exact tb_X6_of_120 X RC hRC Q (l_X6_of_14 G RC Q v0 v1 n) v0 v1 v4 0 s24 ih h
          · replace h := h.1 c28
            refine r_lload_n X 4 dX6_of_98 rfl rfl ?_
            refine r_lload X 1 dX6_of_99 rfl ?_
            refine r_lmul X dX6_of_101 ?_
            refine r_goto X 120 dX6_of_102 (by decide) ?_
            refine r_sub [2, 3, 5] rfl ?_
            exact tb_X6_of_120 X RC hRC Q (l_X6_of_14 G RC Q v0 v1 n) v0 v1 v4 (v2 * r15) s24 ih h
        · replace h := h.1 c27
          refine r_lload_n X 4 dX6_of_84 rfl rfl ?_
          refine r_lload X 1 dX6_of_85 rfl ?_
          refine r_lsub X dX6_of_87 ?_
          refine r_goto X 120 dX6_of_88 (by decide) ?_
          refine r_sub [2, 3, 5] rfl ?_
          exact tb_X6_of_120 X RC hRC Q (l_X6_of_14 G RC Q v0 v1 n) v0 v1 v4 (v2 - r15) s24 ih h
      · replace h := h.1 c26
        refine r_lload_n X 4 dX6_of_70 rfl rfl ?_
        refine r_lload X 1 dX6_of_71 rfl ?_
        refine r_ladd X dX6_of_73 ?_
        refine r_goto X 120 dX6_of_74 (by decide) ?_
        refine r_sub [2, 3, 5] rfl ?_
        exact tb_X6_of_120 X RC hRC Q (l_X6_of_14 G RC Q v0 v1 n) v0 v1 v4 (v2 + r15) s24 ih h
theorem e_X6_of {x : CT} {G : GT} {d : Nat} (X : Cx x G cX6_of 10 RX6 (some .long) (rS (d + 1))) (RC : Nat → Nat → PS → (Int64 → PS → Prop) → Prop) (hRC : ∀ (a v : Nat) (s : PS) (Q : Int64 → PS → Prop), RC a v s Q → SumOk (xl x) G (rS d) a v s Q) (a0 : Nat) (p1 : Nat) (s : PS) (Q : Int64 → PS → Prop) (h : w_X6_of G RC a0 p1 s Q) : WB x G 10 (QfL x G 0 0 Q) 0 0 s 0 [(0, .ref a0), (1, .ref p1)] [] := by
  unfold w_X6_of at h
  refine r_aload_n X 0 dX6_of_0 rfl rfl ?_
  obtain ⟨g1, h⟩ := h
  refine gf_X6_21 X g1 dX6_of_1 ?_
  obtain ⟨q2, g3, h⟩ := h
  refine r_top (show va_rf (gR s a0 0) = Value.ref q2 by rw [g3]; rfl) ?_
  refine r_aload_n X 1 dX6_of_4 rfl rfl ?_
  refine r_csum X q900 (hRC q2 p1 s _ h) ⟨rfl, rfl⟩ (by simp only [rS] <;> omega) (by simp only [rS] <;> omega) (Nat.le_of_ble_eq_true rfl) ⟨Nat.le_of_ble_eq_true rfl, Nat.le_of_ble_eq_true rfl⟩ dX6_of_5 (fun r4 s5 h => ?_)
  refine r_lstore_n (lv' := [(2, .long r4), (0, .ref a0), (1, .ref p1)]) X dX6_of_10 rfl (Nat.le_of_ble_eq_true rfl) rfl ?_
  refine r_iconst (v := 0) X dX6_of_11 rfl ?_
  refine r_istore (lv' := [(4, .int 0), (2, .long r4), (0, .ref a0), (1, .ref p1)]) X dX6_of_12 (Nat.le_of_ble_eq_true rfl) rfl ?_
  refine r_sub [2, 3, 1, 0] rfl ?_
  obtain ⟨n6, h⟩ := h
  exact tl_X6_of_14 X RC hRC Q a0 p1 n6 r4 0 s5 h
theorem m_X6_of (l : Launch) (G : GT) (g : GK G) (d : Nat) (RC : Nat → Nat → PS → (Int64 → PS → Prop) → Prop) (hRC : ∀ (a v : Nat) (s : PS) (Q : Int64 → PS → Prop), RC a v s Q → SumOk l G (rS d) a v s Q) (a0 : Nat) (p1 : Nat) (s : PS) (Q : Int64 → PS → Prop) (h : w_X6_of G RC a0 p1 s Q) : Met l yX6_of (ws_ yX6_of cX6_of 10 (some .long)) (rS (d + 1)) (va_Pc [.ref a0, .ref p1] (Wr G s)) (va_Ql Q (fun u t => Wr G u t) (kF G)) 0 0 (kF G) := by
  refine Met.ofW (cc := cX6_of) (maxL := 10) (ret := (some .long)) (by decide) rfl ?_
  intro p e s0 m args below meth c s₁ B hml hv
  obtain ⟨rfl, hw⟩ := hv
  exact wb_of [.ref a0, .ref p1] (Nat.le_of_ble_eq_true rfl) hw.1 rfl (e_X6_of (cx_of g B hml rfl hw) RC hRC a0 p1 s Q h)
theorem e_X7_of {x : CT} {G : GT} {d : Nat} (X : Cx x G cX7_of 2 RX7 (some .long) (rS (d + 1))) (a0 : Nat) (p1 : Nat) (s : PS) (Q : Int64 → PS → Prop) (h : w_X7_of G a0 p1 s Q) : WB x G 2 (QfL x G 0 0 Q) 0 0 s 0 [(0, .ref a0), (1, .ref p1)] [] := by
  unfold w_X7_of at h
  refine r_aload_n X 0 dX7_of_0 rfl rfl ?_
  obtain ⟨g1, h⟩ := h
  refine gf_X7_7 X g1 dX7_of_1 ?_
  refine r_i2l X dX7_of_4 ?_
  exact r_lret X h (Nat.le_of_ble_eq_true rfl) (Nat.le_of_ble_eq_true rfl) dX7_of_5
theorem m_X7_of (l : Launch) (G : GT) (g : GK G) (d : Nat) (a0 : Nat) (p1 : Nat) (s : PS) (Q : Int64 → PS → Prop) (h : w_X7_of G a0 p1 s Q) : Met l yX7_of (ws_ yX7_of cX7_of 2 (some .long)) (rS (d + 1)) (va_Pc [.ref a0, .ref p1] (Wr G s)) (va_Ql Q (fun u t => Wr G u t) (kF G)) 0 0 (kF G) := by
  refine Met.ofW (cc := cX7_of) (maxL := 2) (ret := (some .long)) (by decide) rfl ?_
  intro p e s0 m args below meth c s₁ B hml hv
  obtain ⟨rfl, hw⟩ := hv
  exact wb_of [.ref a0, .ref p1] (Nat.le_of_ble_eq_true rfl) hw.1 rfl (e_X7_of (cx_of g B hml rfl hw) a0 p1 s Q h)
theorem e_X8_of {x : CT} {G : GT} {d : Nat} (X : Cx x G cX8_of 2 RX8 (some .long) (rS (d + 1))) (a0 : Nat) (p1 : Nat) (s : PS) (Q : Int64 → PS → Prop) (h : w_X8_of G a0 p1 s Q) : WB x G 2 (QfL x G 0 0 Q) 0 0 s 0 [(0, .ref a0), (1, .ref p1)] [] := by
  unfold w_X8_of at h
  refine r_aload_n X 1 dX8_of_0 rfl rfl ?_
  refine r_aload_n X 0 dX8_of_1 rfl rfl ?_
  obtain ⟨g1, h⟩ := h
  refine gf_X8_7 X g1 dX8_of_2 ?_
  obtain ⟨g2, h⟩ := h
  obtain ⟨g3, h⟩ := h
  refine r_iald X g2 g3 dX8_of_5 ?_
  refine r_i2l X dX8_of_6 ?_
  exact r_lret X h (Nat.le_of_ble_eq_true rfl) (Nat.le_of_ble_eq_true rfl) dX8_of_7
theorem m_X8_of (l : Launch) (G : GT) (g : GK G) (d : Nat) (a0 : Nat) (p1 : Nat) (s : PS) (Q : Int64 → PS → Prop) (h : w_X8_of G a0 p1 s Q) : Met l yX8_of (ws_ yX8_of cX8_of 2 (some .long)) (rS (d + 1)) (va_Pc [.ref a0, .ref p1] (Wr G s)) (va_Ql Q (fun u t => Wr G u t) (kF G)) 0 0 (kF G) := by
  refine Met.ofW (cc := cX8_of) (maxL := 2) (ret := (some .long)) (by decide) rfl ?_
  intro p e s0 m args below meth c s₁ B hml hv
  obtain ⟨rfl, hw⟩ := hv
  exact wb_of [.ref a0, .ref p1] (Nat.le_of_ble_eq_true rfl) hw.1 rfl (e_X8_of (cx_of g B hml rfl hw) a0 p1 s Q h)
theorem e_X9_of {x : CT} {G : GT} {d : Nat} (X : Cx x G cX9_of 2 RX9 (some .long) (rS (d + 1))) (RC : Nat → Nat → PS → (Int64 → PS → Prop) → Prop) (hRC : ∀ (a v : Nat) (s : PS) (Q : Int64 → PS → Prop), RC a v s Q → SumOk (xl x) G (rS d) a v s Q) (a0 : Nat) (p1 : Nat) (s : PS) (Q : Int64 → PS → Prop) (h : w_X9_of G RC a0 p1 s Q) : WB x G 2 (QfL x G 0 0 Q) 0 0 s 0 [(0, .ref a0), (1, .ref p1)] [] := by
  unfold w_X9_of at h
  refine r_aload_n X 0 dX9_of_0 rfl rfl ?_
  obtain ⟨g1, h⟩ := h
  refine gf_X9_7 X g1 dX9_of_1 ?_
  obtain ⟨q2, g3, h⟩ := h
  refine r_top (show va_rf (gR s a0 0) = Value.ref q2 by rw [g3]; rfl) ?_
  refine r_aload_n X 1 dX9_of_4 rfl rfl ?_
  refine r_csum X q908 (hRC q2 p1 s _ h) ⟨rfl, rfl⟩ (by simp only [rS] <;> omega) (by simp only [rS] <;> omega) (Nat.le_of_ble_eq_true rfl) ⟨Nat.le_of_ble_eq_true rfl, Nat.le_of_ble_eq_true rfl⟩ dX9_of_5 (fun r4 s5 h => ?_)
  refine r_lneg X dX9_of_10 ?_
  exact r_lret X h (Nat.le_of_ble_eq_true rfl) (Nat.le_of_ble_eq_true rfl) dX9_of_11
theorem m_X9_of (l : Launch) (G : GT) (g : GK G) (d : Nat) (RC : Nat → Nat → PS → (Int64 → PS → Prop) → Prop) (hRC : ∀ (a v : Nat) (s : PS) (Q : Int64 → PS → Prop), RC a v s Q → SumOk l G (rS d) a v s Q) (a0 : Nat) (p1 : Nat) (s : PS) (Q : Int64 → PS → Prop) (h : w_X9_of G RC a0 p1 s Q) : Met l yX9_of (ws_ yX9_of cX9_of 2 (some .long)) (rS (d + 1)) (va_Pc [.ref a0, .ref p1] (Wr G s)) (va_Ql Q (fun u t => Wr G u t) (kF G)) 0 0 (kF G) := by
  refine Met.ofW (cc := cX9_of) (maxL := 2) (ret := (some .long)) (by decide) rfl ?_
  intro p e s0 m args below meth c s₁ B hml hv
  obtain ⟨rfl, hw⟩ := hv
  exact wb_of [.ref a0, .ref p1] (Nat.le_of_ble_eq_true rfl) hw.1 rfl (e_X9_of (cx_of g B hml rfl hw) RC hRC a0 p1 s Q h)
theorem e_X10_of {x : CT} {G : GT} {d : Nat} (X : Cx x G cX10_of 2 RX10 (some .long) (rS (d + 1))) (RC : Nat → Nat → PS → (Int64 → PS → Prop) → Prop) (hRC : ∀ (a v : Nat) (s : PS) (Q : Int64 → PS → Prop), RC a v s Q → SumOk (xl x) G (rS d) a v s Q) (a0 : Nat) (p1 : Nat) (s : PS) (Q : Int64 → PS → Prop) (h : w_X10_of G RC a0 p1 s Q) : WB x G 2 (QfL x G 0 0 Q) 0 0 s 0 [(0, .ref a0), (1, .ref p1)] [] := by
  unfold w_X10_of at h
  refine r_aload_n X 0 dX10_of_0 rfl rfl ?_
  obtain ⟨g1, h⟩ := h
  refine gf_X10_7 X g1 dX10_of_1 ?_
  obtain ⟨q2, g3, h⟩ := h
  refine r_top (show va_rf (gR s a0 0) = Value.ref q2 by rw [g3]; rfl) ?_
  refine r_aload_n X 1 dX10_of_4 rfl rfl ?_
  refine r_csum X q928 (hRC q2 p1 s _ h) ⟨rfl, rfl⟩ (by simp only [rS] <;> omega) (by simp only [rS] <;> omega) (Nat.le_of_ble_eq_true rfl) ⟨Nat.le_of_ble_eq_true rfl, Nat.le_of_ble_eq_true rfl⟩ dX10_of_5 (fun r4 s5 h => ?_)
  refine r_mabsL X q929 q930 q150 q931 (by simp only [rS] <;> omega) (by simp only [rS] <;> omega) (Nat.le_of_ble_eq_true rfl) ⟨Nat.le_of_ble_eq_true rfl, Nat.le_of_ble_eq_true rfl⟩ dX10_of_10 ?_
  exact r_lret X h (Nat.le_of_ble_eq_true rfl) (Nat.le_of_ble_eq_true rfl) dX10_of_13
theorem m_X10_of (l : Launch) (G : GT) (g : GK G) (d : Nat) (RC : Nat → Nat → PS → (Int64 → PS → Prop) → Prop) (hRC : ∀ (a v : Nat) (s : PS) (Q : Int64 → PS → Prop), RC a v s Q → SumOk l G (rS d) a v s Q) (a0 : Nat) (p1 : Nat) (s : PS) (Q : Int64 → PS → Prop) (h : w_X10_of G RC a0 p1 s Q) : Met l yX10_of (ws_ yX10_of cX10_of 2 (some .long)) (rS (d + 1)) (va_Pc [.ref a0, .ref p1] (Wr G s)) (va_Ql Q (fun u t => Wr G u t) (kF G)) 0 0 (kF G) := by
  refine Met.ofW (cc := cX10_of) (maxL := 2) (ret := (some .long)) (by decide) rfl ?_
  intro p e s0 m args below meth c s₁ B hml hv
  obtain ⟨rfl, hw⟩ := hv
  exact wb_of [.ref a0, .ref p1] (Nat.le_of_ble_eq_true rfl) hw.1 rfl (e_X10_of (cx_of g B hml rfl hw) RC hRC a0 p1 s Q h)
theorem mS (l : Launch) (G : GT) (g : GK G) : ∀ (d a v : Nat) (s : PS) (Q : Int64 → PS → Prop), wS G d a v s Q → SumOk l G (rS d) a v s Q := by
  intro d
  induction d with
  | zero =>
    intro a v s Q h
    exact False.elim h
  | succ d ih =>
    intro a v s Q h
    rcases h with ⟨h1, h2⟩ | ⟨h1, h2⟩ | ⟨h1, h2⟩ | ⟨h1, h2⟩ | ⟨h1, h2⟩
    · exact Or.inl ⟨h1, m_X6_of l G g d (wS G d) ih a v s Q h2⟩
    · exact Or.inr (Or.inl ⟨h1, m_X7_of l G g d a v s Q h2⟩)
    · exact Or.inr (Or.inr (Or.inl ⟨h1, m_X8_of l G g d a v s Q h2⟩))
    · exact Or.inr (Or.inr (Or.inr (Or.inl ⟨h1, m_X9_of l G g d (wS G d) ih a v s Q h2⟩)))
    · exact Or.inr (Or.inr (Or.inr (Or.inr (⟨h1, m_X10_of l G g d (wS G d) ih a v s Q h2⟩))))
theorem e_X1_init {x : CT} {G : GT} (X : Cx x G cX1_init 1 RX1 none rm_X1_init) (hp0 : kP G ≠ 1) (hin : (xM x).name = "<init>") (a0 : Nat) (s : PS) (Q : PS → Prop) (h : w_X1_init G a0 s Q) : WB x G 1 (QfV x G 77 6336 Q) 0 0 s 0 [(0, .ref a0)] [] := by
  unfold w_X1_init at h
  refine r_aload_n X 0 dX1_init_0 rfl rfl ?_
  refine r_objinit X q181 q174 q175 (Nat.le_of_ble_eq_true rfl) (Nat.le_of_ble_eq_true rfl) (Nat.le_of_ble_eq_true rfl) dX1_init_1 ?_
  refine r_aload_n X 0 dX1_init_4 rfl rfl ?_
  refine r_bipush (v := 9) X dX1_init_5 rfl ?_
  refine r_newa X 1 .int (by decide) rfl q224 tn_9 (by decide +kernel) (Nat.le_of_ble_eq_true rfl) ⟨Nat.le_of_ble_eq_true rfl, Nat.le_of_ble_eq_true rfl⟩ dX1_init_7 (fun z1 e2 w3 u4 s5 e6 => ?_)
  replace h := h z1 e2 w3 u4 s5 e6
  have g7 : gT s5 z1 = 1 := by rw [e6, gT_pNew, if_pos e2]
  obtain ⟨g8, h⟩ := h
  obtain ⟨g9, h⟩ := h
  refine pf_X1_9 X hin g8 (Or.inr hp0) g9 dX1_init_9 (fun s10 e11 => ?_)
  replace h := h s10 e11
  refine r_aload_n X 0 dX1_init_12 rfl rfl ?_
  refine r_bipush (v := 6) X dX1_init_13 rfl ?_
  refine r_newa X 1 .int (by decide) rfl q224 tn_6 (by decide +kernel) (Nat.le_of_ble_eq_true rfl) ⟨Nat.le_of_ble_eq_true rfl, Nat.le_of_ble_eq_true rfl⟩ dX1_init_15 (fun z12 e13 w14 u15 s16 e17 => ?_)
  replace h := h z12 e13 w14 u15 s16 e17
  have g18 : gT s16 z12 = 1 := by rw [e17, gT_pNew, if_pos e13]
  have g19 : gT s10 a0 = 101 := by rw [e11]; exact g8
  have g20 : gT s16 a0 = 101 := by rw [e17, gT_pNew, if_neg (fun c => by have := u15 _ (show gT s10 a0 ≠ 0 by rw [g19]; decide); rw [e13] at this; omega)]; exact g19
  refine pf_X1_15 X hin g20 (Or.inr hp0) g9 dX1_init_17 (fun s21 e22 => ?_)
  replace h := h s21 e22
  refine r_aload_n X 0 dX1_init_20 rfl rfl ?_
  refine r_bipush (v := 8) X dX1_init_21 rfl ?_
  refine r_newa X 1 .int (by decide) rfl q224 tn_8 (by decide +kernel) (Nat.le_of_ble_eq_true rfl) ⟨Nat.le_of_ble_eq_true rfl, Nat.le_of_ble_eq_true rfl⟩ dX1_init_23 (fun z23 e24 w25 u26 s27 e28 => ?_)
  replace h := h z23 e24 w25 u26 s27 e28
  have g29 : gT s27 z23 = 1 := by rw [e28, gT_pNew, if_pos e24]
  have g30 : gT s21 a0 = 101 := by rw [e22]; exact g20
  have g31 : gT s27 a0 = 101 := by rw [e28, gT_pNew, if_neg (fun c => by have := u26 _ (show gT s21 a0 ≠ 0 by rw [g30]; decide); rw [e24] at this; omega)]; exact g30
  refine pf_X1_18 X hin g31 (Or.inr hp0) g9 dX1_init_25 (fun s32 e33 => ?_)
  replace h := h s32 e33
  refine r_aload_n X 0 dX1_init_28 rfl rfl ?_
  refine r_sipush (v := 195) X dX1_init_29 rfl ?_
  refine r_newa X 1 .int (by decide) rfl q224 tn_195 (by decide +kernel) (Nat.le_of_ble_eq_true rfl) ⟨Nat.le_of_ble_eq_true rfl, Nat.le_of_ble_eq_true rfl⟩ dX1_init_32 (fun z34 e35 w36 u37 s38 e39 => ?_)
  replace h := h z34 e35 w36 u37 s38 e39
  have g40 : gT s38 z34 = 1 := by rw [e39, gT_pNew, if_pos e35]
  have g41 : gT s32 a0 = 101 := by rw [e33]; exact g31
  have g42 : gT s38 a0 = 101 := by rw [e39, gT_pNew, if_neg (fun c => by have := u37 _ (show gT s32 a0 ≠ 0 by rw [g41]; decide); rw [e35] at this; omega)]; exact g41
  refine pf_X1_21 X hin g42 (Or.inr hp0) g9 dX1_init_34 (fun s43 e44 => ?_)
  replace h := h s43 e44
  refine r_aload_n X 0 dX1_init_37 rfl rfl ?_
  refine r_bipush (v := 24) X dX1_init_38 rfl ?_
  refine r_bipush (v := 6) X dX1_init_40 rfl ?_
  refine r_multi X q182 q183 q224 tn_24 tn_6 (by decide +kernel) (by decide +kernel) (Nat.le_of_ble_eq_true rfl) (Nat.le_of_ble_eq_true rfl) (Nat.le_of_ble_eq_true rfl) ⟨Nat.le_of_ble_eq_true rfl, Nat.le_of_ble_eq_true rfl⟩ dX1_init_42 (fun z45 e46 w47 u48 s49 e50 => ?_)
  replace h := h z45 e46 w47 u48 s49 e50
  have g51 : gT s49 z45 = 8 := by rw [e50, gT_pM, if_pos e46]
  obtain ⟨g52, h⟩ := h
  refine pf_X1_26 X hin g52 (Or.inr hp0) g9 dX1_init_46 (fun s53 e54 => ?_)
  replace h := h s53 e54
  refine r_aload_n X 0 dX1_init_49 rfl rfl ?_
  refine r_bipush (v := 6) X dX1_init_50 rfl ?_
  refine r_bipush (v := 6) X dX1_init_52 rfl ?_
  refine r_multi X q182 q183 q224 tn_6 tn_6 (by decide +kernel) (by decide +kernel) (Nat.le_of_ble_eq_true rfl) (Nat.le_of_ble_eq_true rfl) (Nat.le_of_ble_eq_true rfl) ⟨Nat.le_of_ble_eq_true rfl, Nat.le_of_ble_eq_true rfl⟩ dX1_init_54 (fun z55 e56 w57 u58 s59 e60 => ?_)
  replace h := h z55 e56 w57 u58 s59 e60
  have g61 : gT s59 z55 = 8 := by rw [e60, gT_pM, if_pos e56]
  obtain ⟨g62, h⟩ := h
  refine pf_X1_29 X hin g62 (Or.inr hp0) g9 dX1_init_58 (fun s63 e64 => ?_)
  replace h := h s63 e64
  refine r_aload_n X 0 dX1_init_61 rfl rfl ?_
  refine r_bipush (v := 8) X dX1_init_62 rfl ?_
  refine r_iconst (v := 2) X dX1_init_64 rfl ?_
  refine r_multi X q182 q183 q224 tn_8 tn_2 (by decide +kernel) (by decide +kernel) (Nat.le_of_ble_eq_true rfl) (Nat.le_of_ble_eq_true rfl) (Nat.le_of_ble_eq_true rfl) ⟨Nat.le_of_ble_eq_true rfl, Nat.le_of_ble_eq_true rfl⟩ dX1_init_65 (fun z65 e66 w67 u68 s69 e70 => ?_)
  replace h := h z65 e66 w67 u68 s69 e70
  have g71 : gT s69 z65 = 8 := by rw [e70, gT_pM, if_pos e66]
  obtain ⟨g72, h⟩ := h
  refine pf_X1_32 X hin g72 (Or.inr hp0) g9 dX1_init_69 (fun s73 e74 => ?_)
  replace h := h s73 e74
  refine r_aload_n X 0 dX1_init_72 rfl rfl ?_
  refine r_bipush (v := 30) X dX1_init_73 rfl ?_
  refine r_sipush (v := 195) X dX1_init_75 rfl ?_
  refine r_multi X q182 q183 q224 tn_30 tn_195 (by decide +kernel) (by decide +kernel) (Nat.le_of_ble_eq_true rfl) (Nat.le_of_ble_eq_true rfl) (Nat.le_of_ble_eq_true rfl) ⟨Nat.le_of_ble_eq_true rfl, Nat.le_of_ble_eq_true rfl⟩ dX1_init_78 (fun z75 e76 w77 u78 s79 e80 => ?_)
  replace h := h z75 e76 w77 u78 s79 e80
  have g81 : gT s79 z75 = 8 := by rw [e80, gT_pM, if_pos e76]
  obtain ⟨g82, h⟩ := h
  refine pf_X1_35 X hin g82 (Or.inr hp0) g9 dX1_init_82 (fun s83 e84 => ?_)
  replace h := h s83 e84
  refine r_aload_n X 0 dX1_init_85 rfl rfl ?_
  refine r_iconst (v := 4) X dX1_init_86 rfl ?_
  refine r_newo X 5 (by decide) rfl q184 (nw_A X.2.2.2.2.1 X.2.2.2.2.2.1 q185) tn_4 (by decide +kernel) (Nat.le_of_ble_eq_true rfl) ⟨Nat.le_of_ble_eq_true rfl, Nat.le_of_ble_eq_true rfl⟩ dX1_init_87 (fun z85 e86 w87 u88 s89 e90 => ?_)
  replace h := h z85 e86 w87 u88 s89 e90
  have g91 : gT s89 z85 = 5 := by rw [e90, gT_pNew, if_pos e86]
  have g92 : gT s83 a0 = 101 := by rw [e84]; exact g82
  have g93 : gT s89 a0 = 101 := by rw [e90, gT_pNew, if_neg (fun c => by have := u88 _ (show gT s83 a0 ≠ 0 by rw [g92]; decide); rw [e86] at this; omega)]; exact g92
  refine pf_X1_40 X hin g93 (Or.inr hp0) g9 dX1_init_90 (fun s94 e95 => ?_)
  replace h := h s94 e95
  refine r_aload_n X 0 dX1_init_93 rfl rfl ?_
  have g96 : gT s94 a0 = 101 := by rw [e95]; exact g93
  refine gf_X1_9 X g96 dX1_init_94 ?_
  obtain ⟨q97, g98, h⟩ := h
  refine r_top (show va_rf (gR s94 a0 0) = Value.ref q97 by rw [g98]; rfl) ?_
  refine r_iconst (v := 3) X dX1_init_97 rfl ?_
  refine r_iconst (v := 1) X dX1_init_98 rfl ?_
  obtain ⟨g99, h⟩ := h
  obtain ⟨g100, h⟩ := h
  obtain ⟨g101, h⟩ := h
  refine r_iast X g99 g100 g101 dX1_init_99 (fun s102 e103 => ?_)
  replace h := h s102 e103
  refine r_aload_n X 0 dX1_init_100 rfl rfl ?_
  have g104 : gT s102 a0 = 101 := by rw [e103]; exact g96
  refine gf_X1_9 X g104 dX1_init_101 ?_
  obtain ⟨q105, g106, h⟩ := h
  refine r_top (show va_rf (gR s102 a0 0) = Value.ref q105 by rw [g106]; rfl) ?_
  refine r_iconst (v := 5) X dX1_init_104 rfl ?_
  refine r_iconst (v := (-1)) X dX1_init_105 rfl ?_
  obtain ⟨g107, h⟩ := h
  obtain ⟨g108, h⟩ := h
  obtain ⟨g109, h⟩ := h
  refine r_iast X g107 g108 g109 dX1_init_106 (fun s110 e111 => ?_)
  replace h := h s110 e111
  refine r_aload_n X 0 dX1_init_107 rfl rfl ?_
  have g112 : gT s110 a0 = 101 := by rw [e111]; exact g104
  refine gf_X1_21 X g112 dX1_init_108 ?_
  obtain ⟨q113, g114, h⟩ := h
  refine r_top (show va_rf (gR s110 a0 3) = Value.ref q113 by rw [g114]; rfl) ?_
  refine r_iconst (v := 0) X dX1_init_111 rfl ?_
  refine r_iconst (v := (-1)) X dX1_init_112 rfl ?_
  obtain ⟨g115, h⟩ := h
  obtain ⟨g116, h⟩ := h
  obtain ⟨g117, h⟩ := h
  refine r_iast X g115 g116 g117 dX1_init_113 (fun s118 e119 => ?_)
  replace h := h s118 e119
  refine r_aload_n X 0 dX1_init_114 rfl rfl ?_
  have g120 : gT s118 a0 = 101 := by rw [e119]; exact g112
  refine gf_X1_21 X g120 dX1_init_115 ?_
  obtain ⟨q121, g122, h⟩ := h
  refine r_top (show va_rf (gR s118 a0 3) = Value.ref q121 by rw [g122]; rfl) ?_
  refine r_bipush (v := 7) X dX1_init_118 rfl ?_
  refine r_bipush (v := 19) X dX1_init_120 rfl ?_
  obtain ⟨g123, h⟩ := h
  obtain ⟨g124, h⟩ := h
  obtain ⟨g125, h⟩ := h
  refine r_iast X g123 g124 g125 dX1_init_122 (fun s126 e127 => ?_)
  replace h := h s126 e127
  exact r_vret X h (Nat.le_of_ble_eq_true rfl) (Nat.le_of_ble_eq_true rfl) dX1_init_123
theorem m_X1_init (l : Launch) (G : GT) (g : GK G) (hp0 : kP G ≠ 1) (a0 : Nat) (s : PS) (Q : PS → Prop) (h : w_X1_init G a0 s Q) : Met l yX1_init (ws_ yX1_init cX1_init 1 none) rm_X1_init (va_Pc [.ref a0] (Wr G s)) (va_Qv Q (fun u t => Wr G u t) (kF G)) 77 6336 (kF G) := by
  refine Met.ofW (cc := cX1_init) (maxL := 1) (ret := none) (by decide) rfl ?_
  intro p e s0 m args below meth c s₁ B hml hv
  obtain ⟨rfl, hw⟩ := hv
  exact wb_of [.ref a0] (Nat.le_of_ble_eq_true rfl) hw.1 rfl (e_X1_init (cx_of g B hml rfl hw) hp0 (name_of_methodNamed B.named B.method).1 a0 s Q h)
theorem e_X1_copy {x : CT} {G : GT} (X : Cx x G cX1_copy 2 RX1 none rm_X1_copy) (p1 : Nat) (p2 : Nat) (s : PS) (Q : PS → Prop) (h : w_X1_copy G p1 p2 s Q) : WB x G 2 (QfV x G 0 0 Q) 0 0 s 0 [(0, .ref p1), (1, .ref p2)] [] := by
  unfold w_X1_copy at h
  refine r_aload_n X 0 dX1_copy_0 rfl rfl ?_
  refine r_iconst (v := 0) X dX1_copy_1 rfl ?_
  refine r_aload_n X 1 dX1_copy_2 rfl rfl ?_
  refine r_iconst (v := 0) X dX1_copy_3 rfl ?_
  refine r_aload_n X 0 dX1_copy_4 rfl rfl ?_
  obtain ⟨g1, h⟩ := h
  refine r_alen X (by rw [g1]; decide) (by rw [g1]; decide) dX1_copy_5 ?_
  obtain ⟨g2, h⟩ := h
  obtain ⟨g3, h⟩ := h
  obtain ⟨g4, h⟩ := h
  obtain ⟨g5, h⟩ := h
  obtain ⟨g6, h⟩ := h
  refine r_cpyI X q233 q235 q234 q139 g1 g2 (by decide) (by decide) g3 g4 g5 g6 (Nat.le_of_ble_eq_true rfl) (Nat.le_of_ble_eq_true rfl) (Nat.le_of_ble_eq_true rfl) dX1_copy_6 (fun s7 e8 => ?_)
  replace h := h s7 e8
  exact r_vret X h (Nat.le_of_ble_eq_true rfl) (Nat.le_of_ble_eq_true rfl) dX1_copy_9
theorem m_X1_copy (l : Launch) (G : GT) (g : GK G) (p1 : Nat) (p2 : Nat) (s : PS) (Q : PS → Prop) (h : w_X1_copy G p1 p2 s Q) : Met l yX1_copy (ws_ yX1_copy cX1_copy 2 none) rm_X1_copy (va_Pc [.ref p1, .ref p2] (Wr G s)) (va_Qv Q (fun u t => Wr G u t) (kF G)) 0 0 (kF G) := by
  refine Met.ofW (cc := cX1_copy) (maxL := 2) (ret := none) (by decide) rfl ?_
  intro p e s0 m args below meth c s₁ B hml hv
  obtain ⟨rfl, hw⟩ := hv
  exact wb_of [.ref p1, .ref p2] (Nat.le_of_ble_eq_true rfl) hw.1 rfl (e_X1_copy (cx_of g B hml rfl hw) p1 p2 s Q h)
theorem tl_X1_copy_2_2 {x : CT} {G : GT} (X : Cx x G cX1_copy_2 3 RX1 none rm_X1_copy_2) (Q : PS → Prop) (v0 : Nat) (v1 : Nat) : ∀ (n : Nat) (v2 : Int32) (s : PS) (h : l_X1_copy_2_2 G Q v0 v1 n v2 s), WB x G 3 (QfV x G 0 0 Q) 0 0 s 2 [(0, .ref v0), (1, .ref v1), (2, .int v2)] [] := by
  intro n
  induction n with
  | zero =>
    intro v2 s h
    exact False.elim h
  | succ n ih =>
    intro v2 s h
    unfold l_X1_copy_2_2 at h
    refine r_iload_n X 2 dX1_copy_2_2 rfl rfl ?_
    refine r_aload_n X 0 dX1_copy_2_3 rfl rfl ?_
    obtain ⟨g1, h⟩ := h
    refine r_alen X (by rw [g1]; decide) (by rw [g1]; decide) dX1_copy_2_4 ?_
    refine r_ic_ge X 23 dX1_copy_2_5 (by decide) (fun c2 => ?_) (fun c2 => ?_)
    · replace h := h.1 c2
      exact r_vret X h (Nat.le_of_ble_eq_true rfl) (Nat.le_of_ble_eq_true rfl) dX1_copy_2_23
    · replace h := h.2 c2
      refine r_aload_n X 0 dX1_copy_2_8 rfl rfl ?_
      refine r_iload_n X 2 dX1_copy_2_9 rfl rfl ?_
      obtain ⟨g3, h⟩ := h
      refine r_aald X (by rw [g1]; decide) (by rw [g1]; decide) g3 dX1_copy_2_10 ?_
      obtain ⟨q4, g5, h⟩ := h
      refine r_top (show va_rf (gR s v0 (Int32.toNatClampNeg v2)) = Value.ref q4 by rw [g5]; rfl) ?_
      refine r_aload_n X 1 dX1_copy_2_11 rfl rfl ?_
      refine r_iload_n X 2 dX1_copy_2_12 rfl rfl ?_
      obtain ⟨g6, h⟩ := h
      obtain ⟨g7, h⟩ := h
      refine r_aald X (by rw [g6]; decide) (by rw [g6]; decide) g7 dX1_copy_2_13 ?_
      obtain ⟨q8, g9, h⟩ := h
      refine r_top (show va_rf (gR s v1 (Int32.toNatClampNeg v2)) = Value.ref q8 by rw [g9]; rfl) ?_
      refine r_cv X (r_okS (As := [.ref q4, .ref q8]) (rest := []) X (m_X1_copy (xl x) G X.2.2.2.2.1 q4 q8 s _ h) (cl_X1_50 X ⟨(Nat.le_of_ble_eq_true rfl), (Nat.le_of_ble_eq_true rfl)⟩) rfl rfl (Nat.le_of_ble_eq_true rfl) dX1_copy_2_14 ⟨Nat.le_of_ble_eq_true rfl, Nat.le_of_ble_eq_true rfl⟩) (fun s10 h => ?_)
      refine r_iinc (lv' := [(2, .int (v2 + 1)), (0, .ref v0), (1, .ref v1)]) X 2 dX1_copy_2_17 rfl rfl (Nat.le_of_ble_eq_true rfl) rfl ?_
      refine r_goto X 2 dX1_copy_2_20 (by decide) ?_
      refine r_sub [1, 2, 0] rfl ?_
      exact ih (v2 + 1) s10 h
theorem e_X1_copy_2 {x : CT} {G : GT} (X : Cx x G cX1_copy_2 3 RX1 none rm_X1_copy_2) (p1 : Nat) (p2 : Nat) (s : PS) (Q : PS → Prop) (h : w_X1_copy_2 G p1 p2 s Q) : WB x G 3 (QfV x G 0 0 Q) 0 0 s 0 [(0, .ref p1), (1, .ref p2)] [] := by
  unfold w_X1_copy_2 at h
  refine r_iconst (v := 0) X dX1_copy_2_0 rfl ?_
  refine r_istore_n (lv' := [(2, .int 0), (0, .ref p1), (1, .ref p2)]) X dX1_copy_2_1 rfl (Nat.le_of_ble_eq_true rfl) rfl ?_
  refine r_sub [1, 2, 0] rfl ?_
  obtain ⟨n1, h⟩ := h
  exact tl_X1_copy_2_2 X Q p1 p2 n1 0 s h
theorem m_X1_copy_2 (l : Launch) (G : GT) (g : GK G) (p1 : Nat) (p2 : Nat) (s : PS) (Q : PS → Prop) (h : w_X1_copy_2 G p1 p2 s Q) : Met l yX1_copy_2 (ws_ yX1_copy_2 cX1_copy_2 3 none) rm_X1_copy_2 (va_Pc [.ref p1, .ref p2] (Wr G s)) (va_Qv Q (fun u t => Wr G u t) (kF G)) 0 0 (kF G) := by
  refine Met.ofW (cc := cX1_copy_2) (maxL := 3) (ret := none) (by decide) rfl ?_
  intro p e s0 m args below meth c s₁ B hml hv
  obtain ⟨rfl, hw⟩ := hv
  exact wb_of [.ref p1, .ref p2] (Nat.le_of_ble_eq_true rfl) hw.1 rfl (e_X1_copy_2 (cx_of g B hml rfl hw) p1 p2 s Q h)
theorem e_X1_be {x : CT} {G : GT} (X : Cx x G cX1_be 2 RX1 none rm_X1_be) (a0 : Nat) (p1 : Nat) (s : PS) (Q : PS → Prop) (h : w_X1_be G a0 p1 s Q) : WB x G 2 (QfV x G 0 0 Q) 0 0 s 0 [(0, .ref a0), (1, .ref p1)] [] := by
  unfold w_X1_be at h
  refine r_aload_n X 1 dX1_be_0 rfl rfl ?_
  obtain ⟨g1, h⟩ := h
  refine gf_X1_9 X g1 dX1_be_1 ?_
  obtain ⟨q2, g3, h⟩ := h
  refine r_top (show va_rf (gR s p1 0) = Value.ref q2 by rw [g3]; rfl) ?_
  refine r_aload_n X 0 dX1_be_4 rfl rfl ?_
  obtain ⟨g4, h⟩ := h
  refine gf_X1_9 X g4 dX1_be_5 ?_
  obtain ⟨q5, g6, h⟩ := h
  refine r_top (show va_rf (gR s a0 0) = Value.ref q5 by rw [g6]; rfl) ?_
  refine r_cv X (r_okS (As := [.ref q2, .ref q5]) (rest := []) X (m_X1_copy (xl x) G X.2.2.2.2.1 q2 q5 s _ h) (cl_X1_50 X ⟨(Nat.le_of_ble_eq_true rfl), (Nat.le_of_ble_eq_true rfl)⟩) rfl rfl (Nat.le_of_ble_eq_true rfl) dX1_be_8 ⟨Nat.le_of_ble_eq_true rfl, Nat.le_of_ble_eq_true rfl⟩) (fun s7 h => ?_)
  refine r_aload_n X 1 dX1_be_11 rfl rfl ?_
  obtain ⟨g8, h⟩ := h
  refine gf_X1_15 X g8 dX1_be_12 ?_
  obtain ⟨q9, g10, h⟩ := h
  refine r_top (show va_rf (gR s7 p1 1) = Value.ref q9 by rw [g10]; rfl) ?_
  refine r_aload_n X 0 dX1_be_15 rfl rfl ?_
  obtain ⟨g11, h⟩ := h
  refine gf_X1_15 X g11 dX1_be_16 ?_
  obtain ⟨q12, g13, h⟩ := h
  refine r_top (show va_rf (gR s7 a0 1) = Value.ref q12 by rw [g13]; rfl) ?_
  refine r_cv X (r_okS (As := [.ref q9, .ref q12]) (rest := []) X (m_X1_copy (xl x) G X.2.2.2.2.1 q9 q12 s7 _ h) (cl_X1_50 X ⟨(Nat.le_of_ble_eq_true rfl), (Nat.le_of_ble_eq_true rfl)⟩) rfl rfl (Nat.le_of_ble_eq_true rfl) dX1_be_19 ⟨Nat.le_of_ble_eq_true rfl, Nat.le_of_ble_eq_true rfl⟩) (fun s14 h => ?_)
  refine r_aload_n X 1 dX1_be_22 rfl rfl ?_
  obtain ⟨g15, h⟩ := h
  refine gf_X1_18 X g15 dX1_be_23 ?_
  obtain ⟨q16, g17, h⟩ := h
  refine r_top (show va_rf (gR s14 p1 2) = Value.ref q16 by rw [g17]; rfl) ?_
  refine r_aload_n X 0 dX1_be_26 rfl rfl ?_
  obtain ⟨g18, h⟩ := h
  refine gf_X1_18 X g18 dX1_be_27 ?_
  obtain ⟨q19, g20, h⟩ := h
  refine r_top (show va_rf (gR s14 a0 2) = Value.ref q19 by rw [g20]; rfl) ?_
  refine r_cv X (r_okS (As := [.ref q16, .ref q19]) (rest := []) X (m_X1_copy (xl x) G X.2.2.2.2.1 q16 q19 s14 _ h) (cl_X1_50 X ⟨(Nat.le_of_ble_eq_true rfl), (Nat.le_of_ble_eq_true rfl)⟩) rfl rfl (Nat.le_of_ble_eq_true rfl) dX1_be_30 ⟨Nat.le_of_ble_eq_true rfl, Nat.le_of_ble_eq_true rfl⟩) (fun s21 h => ?_)
  refine r_aload_n X 1 dX1_be_33 rfl rfl ?_
  obtain ⟨g22, h⟩ := h
  refine gf_X1_21 X g22 dX1_be_34 ?_
  obtain ⟨q23, g24, h⟩ := h
  refine r_top (show va_rf (gR s21 p1 3) = Value.ref q23 by rw [g24]; rfl) ?_
  refine r_aload_n X 0 dX1_be_37 rfl rfl ?_
  obtain ⟨g25, h⟩ := h
  refine gf_X1_21 X g25 dX1_be_38 ?_
  obtain ⟨q26, g27, h⟩ := h
  refine r_top (show va_rf (gR s21 a0 3) = Value.ref q26 by rw [g27]; rfl) ?_
  refine r_cv X (r_okS (As := [.ref q23, .ref q26]) (rest := []) X (m_X1_copy (xl x) G X.2.2.2.2.1 q23 q26 s21 _ h) (cl_X1_50 X ⟨(Nat.le_of_ble_eq_true rfl), (Nat.le_of_ble_eq_true rfl)⟩) rfl rfl (Nat.le_of_ble_eq_true rfl) dX1_be_41 ⟨Nat.le_of_ble_eq_true rfl, Nat.le_of_ble_eq_true rfl⟩) (fun s28 h => ?_)
  refine r_aload_n X 1 dX1_be_44 rfl rfl ?_
  obtain ⟨g29, h⟩ := h
  refine gf_X1_26 X g29 dX1_be_45 ?_
  obtain ⟨q30, g31, h⟩ := h
  refine r_top (show va_rf (gR s28 p1 4) = Value.ref q30 by rw [g31]; rfl) ?_
  refine r_aload_n X 0 dX1_be_48 rfl rfl ?_
  obtain ⟨g32, h⟩ := h
  refine gf_X1_26 X g32 dX1_be_49 ?_
  obtain ⟨q33, g34, h⟩ := h
  refine r_top (show va_rf (gR s28 a0 4) = Value.ref q33 by rw [g34]; rfl) ?_
  refine r_cv X (r_okS (As := [.ref q30, .ref q33]) (rest := []) X (m_X1_copy_2 (xl x) G X.2.2.2.2.1 q30 q33 s28 _ h) (cl_X1_54 X ⟨(Nat.le_of_ble_eq_true rfl), (Nat.le_of_ble_eq_true rfl)⟩) rfl rfl (Nat.le_of_ble_eq_true rfl) dX1_be_52 ⟨Nat.le_of_ble_eq_true rfl, Nat.le_of_ble_eq_true rfl⟩) (fun s35 h => ?_)
  refine r_aload_n X 1 dX1_be_55 rfl rfl ?_
  obtain ⟨g36, h⟩ := h
  refine gf_X1_29 X g36 dX1_be_56 ?_
  obtain ⟨q37, g38, h⟩ := h
  refine r_top (show va_rf (gR s35 p1 5) = Value.ref q37 by rw [g38]; rfl) ?_
  refine r_aload_n X 0 dX1_be_59 rfl rfl ?_
  obtain ⟨g39, h⟩ := h
  refine gf_X1_29 X g39 dX1_be_60 ?_
  obtain ⟨q40, g41, h⟩ := h
  refine r_top (show va_rf (gR s35 a0 5) = Value.ref q40 by rw [g41]; rfl) ?_
  refine r_cv X (r_okS (As := [.ref q37, .ref q40]) (rest := []) X (m_X1_copy_2 (xl x) G X.2.2.2.2.1 q37 q40 s35 _ h) (cl_X1_54 X ⟨(Nat.le_of_ble_eq_true rfl), (Nat.le_of_ble_eq_true rfl)⟩) rfl rfl (Nat.le_of_ble_eq_true rfl) dX1_be_63 ⟨Nat.le_of_ble_eq_true rfl, Nat.le_of_ble_eq_true rfl⟩) (fun s42 h => ?_)
  refine r_aload_n X 1 dX1_be_66 rfl rfl ?_
  obtain ⟨g43, h⟩ := h
  refine gf_X1_32 X g43 dX1_be_67 ?_
  obtain ⟨q44, g45, h⟩ := h
  refine r_top (show va_rf (gR s42 p1 6) = Value.ref q44 by rw [g45]; rfl) ?_
  refine r_aload_n X 0 dX1_be_70 rfl rfl ?_
  obtain ⟨g46, h⟩ := h
  refine gf_X1_32 X g46 dX1_be_71 ?_
  obtain ⟨q47, g48, h⟩ := h
  refine r_top (show va_rf (gR s42 a0 6) = Value.ref q47 by rw [g48]; rfl) ?_
  refine r_cv X (r_okS (As := [.ref q44, .ref q47]) (rest := []) X (m_X1_copy_2 (xl x) G X.2.2.2.2.1 q44 q47 s42 _ h) (cl_X1_54 X ⟨(Nat.le_of_ble_eq_true rfl), (Nat.le_of_ble_eq_true rfl)⟩) rfl rfl (Nat.le_of_ble_eq_true rfl) dX1_be_74 ⟨Nat.le_of_ble_eq_true rfl, Nat.le_of_ble_eq_true rfl⟩) (fun s49 h => ?_)
  refine r_aload_n X 1 dX1_be_77 rfl rfl ?_
  obtain ⟨g50, h⟩ := h
  refine gf_X1_35 X g50 dX1_be_78 ?_
  obtain ⟨q51, g52, h⟩ := h
  refine r_top (show va_rf (gR s49 p1 7) = Value.ref q51 by rw [g52]; rfl) ?_
  refine r_aload_n X 0 dX1_be_81 rfl rfl ?_
  obtain ⟨g53, h⟩ := h
  refine gf_X1_35 X g53 dX1_be_82 ?_
  obtain ⟨q54, g55, h⟩ := h
  refine r_top (show va_rf (gR s49 a0 7) = Value.ref q54 by rw [g55]; rfl) ?_
  refine r_cv X (r_okS (As := [.ref q51, .ref q54]) (rest := []) X (m_X1_copy_2 (xl x) G X.2.2.2.2.1 q51 q54 s49 _ h) (cl_X1_54 X ⟨(Nat.le_of_ble_eq_true rfl), (Nat.le_of_ble_eq_true rfl)⟩) rfl rfl (Nat.le_of_ble_eq_true rfl) dX1_be_85 ⟨Nat.le_of_ble_eq_true rfl, Nat.le_of_ble_eq_true rfl⟩) (fun s56 h => ?_)
  refine r_aload_n X 1 dX1_be_88 rfl rfl ?_
  obtain ⟨g57, h⟩ := h
  refine gf_X1_40 X g57 dX1_be_89 ?_
  obtain ⟨q58, g59, h⟩ := h
  refine r_top (show va_rf (gR s56 p1 8) = Value.ref q58 by rw [g59]; rfl) ?_
  refine r_iconst (v := 0) X dX1_be_92 rfl ?_
  refine r_aload_n X 0 dX1_be_93 rfl rfl ?_
  obtain ⟨g60, h⟩ := h
  refine gf_X1_40 X g60 dX1_be_94 ?_
  obtain ⟨q61, g62, h⟩ := h
  refine r_top (show va_rf (gR s56 a0 8) = Value.ref q61 by rw [g62]; rfl) ?_
  refine r_iconst (v := 0) X dX1_be_97 rfl ?_
  refine r_iconst (v := 4) X dX1_be_98 rfl ?_
  obtain ⟨g63, h⟩ := h
  obtain ⟨g64, h⟩ := h
  obtain ⟨g65, h⟩ := h
  obtain ⟨g66, h⟩ := h
  obtain ⟨g67, h⟩ := h
  obtain ⟨g68, h⟩ := h
  refine r_cpyT X q233 q235 q234 q139 g63 g64 (by decide) (by decide) (by decide) g65 g66 g67 g68 (Nat.le_of_ble_eq_true rfl) (Nat.le_of_ble_eq_true rfl) (Nat.le_of_ble_eq_true rfl) dX1_be_99 (fun s69 e70 => ?_)
  replace h := h s69 e70
  exact r_vret X h (Nat.le_of_ble_eq_true rfl) (Nat.le_of_ble_eq_true rfl) dX1_be_102
theorem m_X1_be (l : Launch) (G : GT) (g : GK G) (a0 : Nat) (p1 : Nat) (s : PS) (Q : PS → Prop) (h : w_X1_be G a0 p1 s Q) : Met l yX1_be (ws_ yX1_be cX1_be 2 none) rm_X1_be (va_Pc [.ref a0, .ref p1] (Wr G s)) (va_Qv Q (fun u t => Wr G u t) (kF G)) 0 0 (kF G) := by
  refine Met.ofW (cc := cX1_be) (maxL := 2) (ret := none) (by decide) rfl ?_
  intro p e s0 m args below meth c s₁ B hml hv
  obtain ⟨rfl, hw⟩ := hv
  exact wb_of [.ref a0, .ref p1] (Nat.le_of_ble_eq_true rfl) hw.1 rfl (e_X1_be (cx_of g B hml rfl hw) a0 p1 s Q h)
theorem e_X0_init {x : CT} {G : GT} (X : Cx x G cX0_init 1 RX0 none rm_X0_init) (hp0 : kP G ≠ 1) (hin : (xM x).name = "<init>") (a0 : Nat) (s : PS) (Q : PS → Prop) (h : w_X0_init G a0 s Q) : WB x G 1 (QfV x G 181 13187 Q) 0 0 s 0 [(0, .ref a0)] [] := by
  unfold w_X0_init at h
  refine r_aload_n X 0 dX0_init_0 rfl rfl ?_
  refine r_objinit X q173 q174 q175 (Nat.le_of_ble_eq_true rfl) (Nat.le_of_ble_eq_true rfl) (Nat.le_of_ble_eq_true rfl) dX0_init_1 ?_
  refine r_aload_n X 0 dX0_init_4 rfl rfl ?_
  refine r_new X 1 in_X1 tyX1_ok rfl q176 q177 q138 (df_of df_X1) ⟨Nat.le_of_ble_eq_true rfl, Nat.le_of_ble_eq_true rfl⟩ dX0_init_5 (fun z1 e2 w3 u4 s5 e6 => ?_)
  replace h := h z1 e2 w3 u4 s5 e6
  have g7 : gT s5 z1 = 101 := by rw [e6, gT_pNew, if_pos e2]
  refine r_dup X dX0_init_8 rfl ?_
  refine r_cv X (r_okI (As := []) (rest := [.ref z1, .ref a0]) X (m_X1_init (xl x) G X.2.2.2.2.1 hp0 z1 s5 _ h) (cl_X0_11 X ⟨(Nat.le_of_ble_eq_true rfl), (Nat.le_of_ble_eq_true rfl)⟩) rfl rfl (Nat.le_of_ble_eq_true rfl) dX0_init_9 ⟨Nat.le_of_ble_eq_true rfl, Nat.le_of_ble_eq_true rfl⟩) (fun s8 h => ?_)
  obtain ⟨g9, h⟩ := h
  obtain ⟨g10, h⟩ := h
  refine pf_X0_12 X hin g9 (Or.inr hp0) g10 dX0_init_12 (fun s11 e12 => ?_)
  replace h := h s11 e12
  refine r_aload_n X 0 dX0_init_15 rfl rfl ?_
  refine r_new X 1 in_X1 tyX1_ok rfl q176 q177 q138 (df_of df_X1) ⟨Nat.le_of_ble_eq_true rfl, Nat.le_of_ble_eq_true rfl⟩ dX0_init_16 (fun z13 e14 w15 u16 s17 e18 => ?_)
  replace h := h z13 e14 w15 u16 s17 e18
  have g19 : gT s17 z13 = 101 := by rw [e18, gT_pNew, if_pos e14]
  refine r_dup X dX0_init_19 rfl ?_
  refine r_cv X (r_okI (As := []) (rest := [.ref z13, .ref a0]) X (m_X1_init (xl x) G X.2.2.2.2.1 hp0 z13 s17 _ h) (cl_X0_11 X ⟨(Nat.le_of_ble_eq_true rfl), (Nat.le_of_ble_eq_true rfl)⟩) rfl rfl (Nat.le_of_ble_eq_true rfl) dX0_init_20 ⟨Nat.le_of_ble_eq_true rfl, Nat.le_of_ble_eq_true rfl⟩) (fun s20 h => ?_)
  obtain ⟨g21, h⟩ := h
  refine pf_X0_16 X hin g21 (Or.inr hp0) g10 dX0_init_23 (fun s22 e23 => ?_)
  replace h := h s22 e23
  refine r_aload_n X 0 dX0_init_26 rfl rfl ?_
  refine r_sipush (v := 300) X dX0_init_27 rfl ?_
  refine r_newa X 2 .byte (by decide) rfl q310 tn_300 (by decide +kernel) (Nat.le_of_ble_eq_true rfl) ⟨Nat.le_of_ble_eq_true rfl, Nat.le_of_ble_eq_true rfl⟩ dX0_init_30 (fun z24 e25 w26 u27 s28 e29 => ?_)
  replace h := h z24 e25 w26 u27 s28 e29
  have g30 : gT s28 z24 = 2 := by rw [e29, gT_pNew, if_pos e25]
  have g31 : gT s22 a0 = 100 := by rw [e23]; exact g21
  have g32 : gT s28 a0 = 100 := by rw [e29, gT_pNew, if_neg (fun c => by have := u27 _ (show gT s22 a0 ≠ 0 by rw [g31]; decide); rw [e25] at this; omega)]; exact g31
  refine pf_X0_19 X hin g32 (Or.inr hp0) g10 dX0_init_32 (fun s33 e34 => ?_)
  replace h := h s33 e34
  refine r_aload_n X 0 dX0_init_35 rfl rfl ?_
  refine r_iconst (v := (-1)) X dX0_init_36 rfl ?_
  have g35 : gT s33 a0 = 100 := by rw [e34]; exact g32
  refine pf_X0_23 X g35 g10 dX0_init_37 (fun s36 e37 => ?_)
  replace h := h s36 e37
  refine r_aload_n X 0 dX0_init_40 rfl rfl ?_
  refine r_iconst (v := (-1)) X dX0_init_41 rfl ?_
  have g38 : gT s36 a0 = 100 := by rw [e37]; exact g35
  refine pf_X0_27 X g38 g10 dX0_init_42 (fun s39 e40 => ?_)
  replace h := h s39 e40
  refine r_aload_n X 0 dX0_init_45 rfl rfl ?_
  refine r_bipush (v := 15) X dX0_init_46 rfl ?_
  refine r_newa X 1 .int (by decide) rfl q224 tn_15 (by decide +kernel) (Nat.le_of_ble_eq_true rfl) ⟨Nat.le_of_ble_eq_true rfl, Nat.le_of_ble_eq_true rfl⟩ dX0_init_48 (fun z41 e42 w43 u44 s45 e46 => ?_)
  replace h := h z41 e42 w43 u44 s45 e46
  have g47 : gT s45 z41 = 1 := by rw [e46, gT_pNew, if_pos e42]
  have g48 : gT s39 a0 = 100 := by rw [e40]; exact g38
  have g49 : gT s45 a0 = 100 := by rw [e46, gT_pNew, if_neg (fun c => by have := u44 _ (show gT s39 a0 ≠ 0 by rw [g48]; decide); rw [e42] at this; omega)]; exact g48
  refine pf_X0_30 X hin g49 (Or.inr hp0) g10 dX0_init_50 (fun s50 e51 => ?_)
  replace h := h s50 e51
  refine r_aload_n X 0 dX0_init_53 rfl rfl ?_
  refine r_bipush (v := 24) X dX0_init_54 rfl ?_
  refine r_newa X 1 .int (by decide) rfl q224 tn_24 (by decide +kernel) (Nat.le_of_ble_eq_true rfl) ⟨Nat.le_of_ble_eq_true rfl, Nat.le_of_ble_eq_true rfl⟩ dX0_init_56 (fun z52 e53 w54 u55 s56 e57 => ?_)
  replace h := h z52 e53 w54 u55 s56 e57
  have g58 : gT s56 z52 = 1 := by rw [e57, gT_pNew, if_pos e53]
  have g59 : gT s50 a0 = 100 := by rw [e51]; exact g49
  have g60 : gT s56 a0 = 100 := by rw [e57, gT_pNew, if_neg (fun c => by have := u55 _ (show gT s50 a0 ≠ 0 by rw [g59]; decide); rw [e53] at this; omega)]; exact g59
  refine pf_X0_34 X hin g60 (Or.inr hp0) g10 dX0_init_58 (fun s61 e62 => ?_)
  replace h := h s61 e62
  refine r_aload_n X 0 dX0_init_61 rfl rfl ?_
  refine r_bipush (v := 24) X dX0_init_62 rfl ?_
  refine r_newa X 1 .int (by decide) rfl q224 tn_24 (by decide +kernel) (Nat.le_of_ble_eq_true rfl) ⟨Nat.le_of_ble_eq_true rfl, Nat.le_of_ble_eq_true rfl⟩ dX0_init_64 (fun z63 e64 w65 u66 s67 e68 => ?_)
  replace h := h z63 e64 w65 u66 s67 e68
  have g69 : gT s67 z63 = 1 := by rw [e68, gT_pNew, if_pos e64]
  have g70 : gT s61 a0 = 100 := by rw [e62]; exact g60
  have g71 : gT s67 a0 = 100 := by rw [e68, gT_pNew, if_neg (fun c => by have := u66 _ (show gT s61 a0 ≠ 0 by rw [g70]; decide); rw [e64] at this; omega)]; exact g70
  refine pf_X0_37 X hin g71 (Or.inr hp0) g10 dX0_init_66 (fun s72 e73 => ?_)
  replace h := h s72 e73
  refine r_aload_n X 0 dX0_init_69 rfl rfl ?_
  refine r_bipush (v := 7) X dX0_init_70 rfl ?_
  refine r_newa X 1 .int (by decide) rfl q224 tn_7 (by decide +kernel) (Nat.le_of_ble_eq_true rfl) ⟨Nat.le_of_ble_eq_true rfl, Nat.le_of_ble_eq_true rfl⟩ dX0_init_72 (fun z74 e75 w76 u77 s78 e79 => ?_)
  replace h := h z74 e75 w76 u77 s78 e79
  have g80 : gT s78 z74 = 1 := by rw [e79, gT_pNew, if_pos e75]
  have g81 : gT s72 a0 = 100 := by rw [e73]; exact g71
  have g82 : gT s78 a0 = 100 := by rw [e79, gT_pNew, if_neg (fun c => by have := u77 _ (show gT s72 a0 ≠ 0 by rw [g81]; decide); rw [e75] at this; omega)]; exact g81
  refine pf_X0_40 X hin g82 (Or.inr hp0) g10 dX0_init_74 (fun s83 e84 => ?_)
  replace h := h s83 e84
  refine r_aload_n X 0 dX0_init_77 rfl rfl ?_
  refine r_bipush (v := 7) X dX0_init_78 rfl ?_
  refine r_newa X 1 .int (by decide) rfl q224 tn_7 (by decide +kernel) (Nat.le_of_ble_eq_true rfl) ⟨Nat.le_of_ble_eq_true rfl, Nat.le_of_ble_eq_true rfl⟩ dX0_init_80 (fun z85 e86 w87 u88 s89 e90 => ?_)
  replace h := h z85 e86 w87 u88 s89 e90
  have g91 : gT s89 z85 = 1 := by rw [e90, gT_pNew, if_pos e86]
  have g92 : gT s83 a0 = 100 := by rw [e84]; exact g82
  have g93 : gT s89 a0 = 100 := by rw [e90, gT_pNew, if_neg (fun c => by have := u88 _ (show gT s83 a0 ≠ 0 by rw [g92]; decide); rw [e86] at this; omega)]; exact g92
  refine pf_X0_43 X hin g93 (Or.inr hp0) g10 dX0_init_82 (fun s94 e95 => ?_)
  replace h := h s94 e95
  refine r_aload_n X 0 dX0_init_85 rfl rfl ?_
  refine r_bipush (v := 6) X dX0_init_86 rfl ?_
  refine r_newa X 1 .int (by decide) rfl q224 tn_6 (by decide +kernel) (Nat.le_of_ble_eq_true rfl) ⟨Nat.le_of_ble_eq_true rfl, Nat.le_of_ble_eq_true rfl⟩ dX0_init_88 (fun z96 e97 w98 u99 s100 e101 => ?_)
  replace h := h z96 e97 w98 u99 s100 e101
  have g102 : gT s100 z96 = 1 := by rw [e101, gT_pNew, if_pos e97]
  have g103 : gT s94 a0 = 100 := by rw [e95]; exact g93
  have g104 : gT s100 a0 = 100 := by rw [e101, gT_pNew, if_neg (fun c => by have := u99 _ (show gT s94 a0 ≠ 0 by rw [g103]; decide); rw [e97] at this; omega)]; exact g103
  refine pf_X0_46 X hin g104 (Or.inr hp0) g10 dX0_init_90 (fun s105 e106 => ?_)
  replace h := h s105 e106
  refine r_aload_n X 0 dX0_init_93 rfl rfl ?_
  refine r_bipush (v := 6) X dX0_init_94 rfl ?_
  refine r_newa X 1 .int (by decide) rfl q224 tn_6 (by decide +kernel) (Nat.le_of_ble_eq_true rfl) ⟨Nat.le_of_ble_eq_true rfl, Nat.le_of_ble_eq_true rfl⟩ dX0_init_96 (fun z107 e108 w109 u110 s111 e112 => ?_)
  replace h := h z107 e108 w109 u110 s111 e112
  have g113 : gT s111 z107 = 1 := by rw [e112, gT_pNew, if_pos e108]
  have g114 : gT s105 a0 = 100 := by rw [e106]; exact g104
  have g115 : gT s111 a0 = 100 := by rw [e112, gT_pNew, if_neg (fun c => by have := u110 _ (show gT s105 a0 ≠ 0 by rw [g114]; decide); rw [e108] at this; omega)]; exact g114
  refine pf_X0_49 X hin g115 (Or.inr hp0) g10 dX0_init_98 (fun s116 e117 => ?_)
  replace h := h s116 e117
  refine r_aload_n X 0 dX0_init_101 rfl rfl ?_
  refine r_bipush (v := 6) X dX0_init_102 rfl ?_
  refine r_bipush (v := 6) X dX0_init_104 rfl ?_
  refine r_multi X q225 q183 q224 tn_6 tn_6 (by decide +kernel) (by decide +kernel) (Nat.le_of_ble_eq_true rfl) (Nat.le_of_ble_eq_true rfl) (Nat.le_of_ble_eq_true rfl) ⟨Nat.le_of_ble_eq_true rfl, Nat.le_of_ble_eq_true rfl⟩ dX0_init_106 (fun z118 e119 w120 u121 s122 e123 => ?_)
  replace h := h z118 e119 w120 u121 s122 e123
  have g124 : gT s122 z118 = 8 := by rw [e123, gT_pM, if_pos e119]
  obtain ⟨g125, h⟩ := h
  refine pf_X0_54 X hin g125 (Or.inr hp0) g10 dX0_init_110 (fun s126 e127 => ?_)
  replace h := h s126 e127
  refine r_aload_n X 0 dX0_init_113 rfl rfl ?_
  refine r_bipush (v := 6) X dX0_init_114 rfl ?_
  refine r_bipush (v := 6) X dX0_init_116 rfl ?_
  refine r_multi X q225 q183 q224 tn_6 tn_6 (by decide +kernel) (by decide +kernel) (Nat.le_of_ble_eq_true rfl) (Nat.le_of_ble_eq_true rfl) (Nat.le_of_ble_eq_true rfl) ⟨Nat.le_of_ble_eq_true rfl, Nat.le_of_ble_eq_true rfl⟩ dX0_init_118 (fun z128 e129 w130 u131 s132 e133 => ?_)
  replace h := h z128 e129 w130 u131 s132 e133
  have g134 : gT s132 z128 = 8 := by rw [e133, gT_pM, if_pos e129]
  obtain ⟨g135, h⟩ := h
  refine pf_X0_57 X hin g135 (Or.inr hp0) g10 dX0_init_122 (fun s136 e137 => ?_)
  replace h := h s136 e137
  refine r_aload_n X 0 dX0_init_125 rfl rfl ?_
  refine r_iconst (v := 4) X dX0_init_126 rfl ?_
  refine r_newa X 1 .int (by decide) rfl q224 tn_4 (by decide +kernel) (Nat.le_of_ble_eq_true rfl) ⟨Nat.le_of_ble_eq_true rfl, Nat.le_of_ble_eq_true rfl⟩ dX0_init_127 (fun z138 e139 w140 u141 s142 e143 => ?_)
  replace h := h z138 e139 w140 u141 s142 e143
  have g144 : gT s142 z138 = 1 := by rw [e143, gT_pNew, if_pos e139]
  have g145 : gT s136 a0 = 100 := by rw [e137]; exact g135
  have g146 : gT s142 a0 = 100 := by rw [e143, gT_pNew, if_neg (fun c => by have := u141 _ (show gT s136 a0 ≠ 0 by rw [g145]; decide); rw [e139] at this; omega)]; exact g145
  refine pf_X0_60 X hin g146 (Or.inr hp0) g10 dX0_init_129 (fun s147 e148 => ?_)
  replace h := h s147 e148
  refine r_aload_n X 0 dX0_init_132 rfl rfl ?_
  refine r_iconst (v := 4) X dX0_init_133 rfl ?_
  refine r_newa X 1 .int (by decide) rfl q224 tn_4 (by decide +kernel) (Nat.le_of_ble_eq_true rfl) ⟨Nat.le_of_ble_eq_true rfl, Nat.le_of_ble_eq_true rfl⟩ dX0_init_134 (fun z149 e150 w151 u152 s153 e154 => ?_)
  replace h := h z149 e150 w151 u152 s153 e154
  have g155 : gT s153 z149 = 1 := by rw [e154, gT_pNew, if_pos e150]
  have g156 : gT s147 a0 = 100 := by rw [e148]; exact g146
  have g157 : gT s153 a0 = 100 := by rw [e154, gT_pNew, if_neg (fun c => by have := u152 _ (show gT s147 a0 ≠ 0 by rw [g156]; decide); rw [e150] at this; omega)]; exact g156
  refine pf_X0_63 X hin g157 (Or.inr hp0) g10 dX0_init_136 (fun s158 e159 => ?_)
  replace h := h s158 e159
  refine r_aload_n X 0 dX0_init_139 rfl rfl ?_
  refine r_bipush (v := 16) X dX0_init_140 rfl ?_
  refine r_newa X 4 .long (by decide) rfl q311 tn_16 (by decide +kernel) (Nat.le_of_ble_eq_true rfl) ⟨Nat.le_of_ble_eq_true rfl, Nat.le_of_ble_eq_true rfl⟩ dX0_init_142 (fun z160 e161 w162 u163 s164 e165 => ?_)
  replace h := h z160 e161 w162 u163 s164 e165
  have g166 : gT s164 z160 = 4 := by rw [e165, gT_pNew, if_pos e161]
  have g167 : gT s158 a0 = 100 := by rw [e159]; exact g157
  have g168 : gT s164 a0 = 100 := by rw [e165, gT_pNew, if_neg (fun c => by have := u163 _ (show gT s158 a0 ≠ 0 by rw [g167]; decide); rw [e161] at this; omega)]; exact g167
  refine pf_X0_66 X hin g168 (Or.inr hp0) g10 dX0_init_144 (fun s169 e170 => ?_)
  replace h := h s169 e170
  refine r_aload_n X 0 dX0_init_147 rfl rfl ?_
  have g171 : gT s169 a0 = 100 := by rw [e170]; exact g168
  refine gf_X0_16 X g171 dX0_init_148 ?_
  obtain ⟨q172, g173, h⟩ := h
  refine r_top (show va_rf (gR s169 a0 1) = Value.ref q172 by rw [g173]; rfl) ?_
  refine r_aload_n X 0 dX0_init_151 rfl rfl ?_
  refine gf_X0_12 X g171 dX0_init_152 ?_
  obtain ⟨q174, g175, h⟩ := h
  refine r_top (show va_rf (gR s169 a0 0) = Value.ref q174 by rw [g175]; rfl) ?_
  obtain ⟨g176, h⟩ := h
  refine r_cv X (r_okV (As := [.ref q174]) (rest := []) X (m_X1_be (xl x) G X.2.2.2.2.1 q172 q174 s169 _ h) (cl_X0_70 X ⟨(Nat.le_of_ble_eq_true rfl), (Nat.le_of_ble_eq_true rfl)⟩) 1 g176 rfl rfl rfl rfl (Nat.le_of_ble_eq_true rfl) dX0_init_155 ⟨Nat.le_of_ble_eq_true rfl, Nat.le_of_ble_eq_true rfl⟩) (fun s177 h => ?_)
  exact r_vret X h (Nat.le_of_ble_eq_true rfl) (Nat.le_of_ble_eq_true rfl) dX0_init_158
theorem m_X0_init (l : Launch) (G : GT) (g : GK G) (hp0 : kP G ≠ 1) (a0 : Nat) (s : PS) (Q : PS → Prop) (h : w_X0_init G a0 s Q) : Met l yX0_init (ws_ yX0_init cX0_init 1 none) rm_X0_init (va_Pc [.ref a0] (Wr G s)) (va_Qv Q (fun u t => Wr G u t) (kF G)) 181 13187 (kF G) := by
  refine Met.ofW (cc := cX0_init) (maxL := 1) (ret := none) (by decide) rfl ?_
  intro p e s0 m args below meth c s₁ B hml hv
  obtain ⟨rfl, hw⟩ := hv
  exact wb_of [.ref a0] (Nat.le_of_ble_eq_true rfl) hw.1 rfl (e_X0_init (cx_of g B hml rfl hw) hp0 (name_of_methodNamed B.named B.method).1 a0 s Q h)
theorem e_X0_in {x : CT} {G : GT} (X : Cx x G cX0_in 3 RX0 (some .boolean) rm_X0_in) (p1 : Int32) (p2 : Int32) (p3 : Int32) (s : PS) (Q : Int32 → PS → Prop) (h : w_X0_in G p1 p2 p3 s Q) : WB x G 3 (QfI x G 0 0 (fun r u => (r = 0 ∨ r = 1) ∧ Q r u)) 0 0 s 0 [(0, .int p1), (1, .int p2), (2, .int p3)] [] := by
  unfold w_X0_in at h
  refine r_iload_n X 0 dX0_in_0 rfl rfl ?_
  refine r_iload_n X 1 dX0_in_1 rfl rfl ?_
  have hJ : WB x G 3 (QfI x G 0 0 (fun r u => (r = 0 ∨ r = 1) ∧ Q r u)) 0 0 s 15 [(0, .int p1), (1, .int p2), (2, .int p3)] [.int (if p1 < p2 then 0 else (if p3 < p1 then 0 else 1 : Int32) : Int32)] := by
    exact r_zret X (by (repeat' split) <;> first | exact Or.inl rfl | exact Or.inr rfl) h (Nat.le_of_ble_eq_true rfl) (Nat.le_of_ble_eq_true rfl) dX0_in_15
  refine r_ic_lt X 14 dX0_in_2 (by decide) (fun c2 => ?_) (fun c2 => ?_)
  · rw [if_pos c2] at hJ
    refine r_iconst (v := 0) X dX0_in_14 rfl ?_
    exact hJ
  · rw [if_neg c2] at hJ
    refine r_iload_n X 0 dX0_in_5 rfl rfl ?_
    refine r_iload_n X 2 dX0_in_6 rfl rfl ?_
    refine r_ic_gt X 14 dX0_in_7 (by decide) (fun c1 => ?_) (fun c1 => ?_)
    · rw [if_pos c1] at hJ
      refine r_iconst (v := 0) X dX0_in_14 rfl ?_
      exact hJ
    · rw [if_neg c1] at hJ
      refine r_iconst (v := 1) X dX0_in_10 rfl ?_
      refine r_goto X 15 dX0_in_11 (by decide) ?_
      exact hJ
theorem m_X0_in (l : Launch) (G : GT) (g : GK G) (p1 : Int32) (p2 : Int32) (p3 : Int32) (s : PS) (Q : Int32 → PS → Prop) (h : w_X0_in G p1 p2 p3 s Q) : Met l yX0_in (ws_ yX0_in cX0_in 3 (some .boolean)) rm_X0_in (va_Pc [.int p1, .int p2, .int p3] (Wr G s)) (va_Qi (fun r u => (r = 0 ∨ r = 1) ∧ Q r u) (fun u t => Wr G u t) (kF G)) 0 0 (kF G) := by
  refine Met.ofW (cc := cX0_in) (maxL := 3) (ret := (some .boolean)) (by decide) rfl ?_
  intro p e s0 m args below meth c s₁ B hml hv
  obtain ⟨rfl, hw⟩ := hv
  exact wb_of [.int p1, .int p2, .int p3] (Nat.le_of_ble_eq_true rfl) hw.1 rfl (e_X0_in (cx_of g B hml rfl hw) p1 p2 p3 s Q h)
theorem e_X0_heart {x : CT} {G : GT} (X : Cx x G cX0_heart 2 RX0 (some .int) rm_X0_heart) (hph : kP G = 1) (p1 : Int32) (s : PS) (Q : Int32 → PS → Prop) (h : w_X0_heart G p1 s Q) : WB x G 2 (QfI x G 0 0 Q) 0 0 s 0 [(0, .ref (kB G + 0)), (1, .int p1)] [] := by
  unfold w_X0_heart at h
  refine r_iload_n X 1 dX0_heart_0 rfl rfl ?_
  refine r_iconst (v := 0) X dX0_heart_1 rfl ?_
  refine r_sipush (v := 999) X dX0_heart_2 rfl ?_
  refine r_ci X (r_okS (As := [.int p1, .int 0, .int 999]) (rest := []) X (m_X0_in (xl x) G X.2.2.2.2.1 p1 0 999 s _ h) (cl_X0_77 X ⟨(Nat.le_of_ble_eq_true rfl), (Nat.le_of_ble_eq_true rfl)⟩) rfl rfl (Nat.le_of_ble_eq_true rfl) dX0_heart_5 ⟨Nat.le_of_ble_eq_true rfl, Nat.le_of_ble_eq_true rfl⟩) (fun r2 s1 h => ?_)
  obtain ⟨z3, h⟩ := h
  refine r_if_eq X 25 dX0_heart_8 (by decide) (fun c4 => ?_) (fun c4 => ?_)
  · replace h := h.1 c4
    refine r_iconst (v := (-1)) X dX0_heart_25 rfl ?_
    exact r_iret X h (Nat.le_of_ble_eq_true rfl) (Nat.le_of_ble_eq_true rfl) dX0_heart_26
  · replace h := h.2 c4
    refine r_aload_n X 0 dX0_heart_11 rfl rfl ?_
    refine gr_X0_12 X hph 0 0 1 ly_0 rfl rfl dX0_heart_12 ?_
    refine gr_X0_74 X hph 1 1 2 ly_1 rfl rfl dX0_heart_15 ?_
    refine r_iconst (v := 0) X dX0_heart_18 rfl ?_
    refine r_ialdL X hph 2 9 ly_2 tn_0 il_0_9 dX0_heart_19 ?_
    refine r_bipush (v := 6) X dX0_heart_20 rfl ?_
    refine r_ic_ne X 27 dX0_heart_22 (by decide) (fun c5 => ?_) (fun c5 => ?_)
    · replace h := h.2 c5
      refine r_aload_n X 0 dX0_heart_27 rfl rfl ?_
      refine gr_X0_12 X hph 0 0 1 ly_0 rfl rfl dX0_heart_28 ?_
      refine gr_X0_81 X hph 1 1 3 ly_1 rfl rfl dX0_heart_31 ?_
      refine r_aload_n X 0 dX0_heart_34 rfl rfl ?_
      refine gr_X0_12 X hph 0 0 1 ly_0 rfl rfl dX0_heart_35 ?_
      refine gr_X0_74 X hph 1 1 2 ly_1 rfl rfl dX0_heart_38 ?_
      refine r_iconst (v := 0) X dX0_heart_41 rfl ?_
      refine r_ialdL X hph 2 9 ly_2 tn_0 il_0_9 dX0_heart_42 ?_
      refine r_iload_n X 1 dX0_heart_43 rfl rfl ?_
      obtain ⟨g6, h⟩ := h
      refine r_iastL X hph 3 6 ly_3 rfl g6 dX0_heart_44 (fun s7 e8 => ?_)
      replace h := h s7 e8
      refine r_aload_n X 0 dX0_heart_45 rfl rfl ?_
      refine gr_X0_12 X hph 0 0 1 ly_0 rfl rfl dX0_heart_46 ?_
      refine gr_X0_74 X hph 1 1 2 ly_1 rfl rfl dX0_heart_49 ?_
      refine r_iconst (v := 0) X dX0_heart_52 rfl ?_
      refine r_dup2 X dX0_heart_53 rfl rfl ?_
      refine r_ialdL X hph 2 9 ly_2 tn_0 il_0_9 dX0_heart_54 ?_
      refine r_iconst (v := 1) X dX0_heart_55 rfl ?_
      refine r_iadd X dX0_heart_56 ?_
      refine r_iastL X hph 2 9 ly_2 tn_0 il_0_9 dX0_heart_57 (fun s9 e10 => ?_)
      replace h := h s9 e10
      refine r_aload_n X 0 dX0_heart_58 rfl rfl ?_
      refine gr_X0_12 X hph 0 0 1 ly_0 rfl rfl dX0_heart_59 ?_
      refine gr_X0_74 X hph 1 1 2 ly_1 rfl rfl dX0_heart_62 ?_
      refine r_iconst (v := 0) X dX0_heart_65 rfl ?_
      refine r_ialdL X hph 2 9 ly_2 tn_0 il_0_9 dX0_heart_66 ?_
      refine r_iconst (v := 1) X dX0_heart_67 rfl ?_
      refine r_isub X dX0_heart_68 ?_
      exact r_iret X h (Nat.le_of_ble_eq_true rfl) (Nat.le_of_ble_eq_true rfl) dX0_heart_69
    · replace h := h.1 c5
      refine r_iconst (v := (-1)) X dX0_heart_25 rfl ?_
      exact r_iret X h (Nat.le_of_ble_eq_true rfl) (Nat.le_of_ble_eq_true rfl) dX0_heart_26
theorem m_X0_heart (l : Launch) (G : GT) (g : GK G) (hph : kP G = 1) (p1 : Int32) (s : PS) (Q : Int32 → PS → Prop) (h : w_X0_heart G p1 s Q) : Met l yX0_heart (ws_ yX0_heart cX0_heart 2 (some .int)) rm_X0_heart (va_Pc [.ref (kB G + 0), .int p1] (Wr G s)) (va_Qi Q (fun u t => Wr G u t) (kF G)) 0 0 (kF G) := by
  refine Met.ofW (cc := cX0_heart) (maxL := 2) (ret := (some .int)) (by decide) rfl ?_
  intro p e s0 m args below meth c s₁ B hml hv
  obtain ⟨rfl, hw⟩ := hv
  exact wb_of [.ref (kB G + 0), .int p1] (Nat.le_of_ble_eq_true rfl) hw.1 rfl (e_X0_heart (cx_of g B hml rfl hw) hph p1 s Q h)
theorem e_X0_isHeart {x : CT} {G : GT} (X : Cx x G cX0_isHeart 2 RX0 (some .boolean) rm_X0_isHeart) (hph : kP G = 1) (p1 : Int32) (s : PS) (Q : Int32 → PS → Prop) (h : w_X0_isHeart G p1 s Q) : WB x G 2 (QfI x G 0 0 (fun r u => (r = 0 ∨ r = 1) ∧ Q r u)) 0 0 s 0 [(0, .ref (kB G + 0)), (1, .int p1)] [] := by
  unfold w_X0_isHeart at h
  refine r_iload_n X 1 dX0_isHeart_0 rfl rfl ?_
  refine r_iconst (v := 0) X dX0_isHeart_1 rfl ?_
  refine r_aload_n X 0 dX0_isHeart_2 rfl rfl ?_
  refine gr_X0_12 X hph 0 0 1 ly_0 rfl rfl dX0_isHeart_3 ?_
  refine gr_X0_74 X hph 1 1 2 ly_1 rfl rfl dX0_isHeart_6 ?_
  refine r_iconst (v := 0) X dX0_isHeart_9 rfl ?_
  refine r_ialdL X hph 2 9 ly_2 tn_0 il_0_9 dX0_isHeart_10 ?_
  refine r_iconst (v := 1) X dX0_isHeart_11 rfl ?_
  refine r_isub X dX0_isHeart_12 ?_
  refine r_ci X (r_okS (As := [.int p1, .int 0, .int ((gI s (kB G + 2) 0) - 1)]) (rest := []) X (m_X0_in (xl x) G X.2.2.2.2.1 p1 0 ((gI s (kB G + 2) 0) - 1) s _ h) (cl_X0_77 X ⟨(Nat.le_of_ble_eq_true rfl), (Nat.le_of_ble_eq_true rfl)⟩) rfl rfl (Nat.le_of_ble_eq_true rfl) dX0_isHeart_13 ⟨Nat.le_of_ble_eq_true rfl, Nat.le_of_ble_eq_true rfl⟩) (fun r2 s1 h => ?_)
  obtain ⟨z3, h⟩ := h
  exact r_zret X z3 h (Nat.le_of_ble_eq_true rfl) (Nat.le_of_ble_eq_true rfl) dX0_isHeart_16
theorem m_X0_isHeart (l : Launch) (G : GT) (g : GK G) (hph : kP G = 1) (p1 : Int32) (s : PS) (Q : Int32 → PS → Prop) (h : w_X0_isHeart G p1 s Q) : Met l yX0_isHeart (ws_ yX0_isHeart cX0_isHeart 2 (some .boolean)) rm_X0_isHeart (va_Pc [.ref (kB G + 0), .int p1] (Wr G s)) (va_Qi (fun r u => (r = 0 ∨ r = 1) ∧ Q r u) (fun u t => Wr G u t) (kF G)) 0 0 (kF G) := by
  refine Met.ofW (cc := cX0_isHeart) (maxL := 2) (ret := (some .boolean)) (by decide) rfl ?_
  intro p e s0 m args below meth c s₁ B hml hv
  obtain ⟨rfl, hw⟩ := hv
  exact wb_of [.ref (kB G + 0), .int p1] (Nat.le_of_ble_eq_true rfl) hw.1 rfl (e_X0_isHeart (cx_of g B hml rfl hw) hph p1 s Q h)
theorem tb_X0_deed_71 {x : CT} {G : GT} (X : Cx x G cX0_deed 8 RX0 (some .int) rm_X0_deed) (hph : kP G = 1) (Q : Int32 → PS → Prop) (v1 : Int32) (v2 : Int32) (v3 : Int32) (v4 : Int32) (v5 : Int32) (v6 : Int32) (s : PS) (h : b_X0_deed_71 G Q v1 v2 v3 v4 v5 v6 s) : WB x G 8 (QfI x G 1 6 Q) 0 0 s 71 [(0, .ref (kB G + 0)), (1, .int v1), (2, .int v2), (3, .int v3), (4, .int v4), (5, .int v5), (6, .int v6)] [] := by
  unfold b_X0_deed_71 at h
  refine r_iload X 6 dX0_deed_71 rfl ?_
  refine r_bipush (v := 24) X dX0_deed_73 rfl ?_
  refine r_ic_ne X 80 dX0_deed_75 (by decide) (fun c1 => ?_) (fun c1 => ?_)
  · replace h := h.2 c1
    refine r_bipush (v := 6) X dX0_deed_80 rfl ?_
    refine r_newa X 1 .int (by decide) rfl q224 tn_6 (by decide +kernel) (Nat.le_of_ble_eq_true rfl) ⟨Nat.le_of_ble_eq_true rfl, Nat.le_of_ble_eq_true rfl⟩ dX0_deed_82 (fun z2 e3 w4 u5 s6 e7 => ?_)
    replace h := h z2 e3 w4 u5 s6 e7
    have g8 : gT s6 z2 = 1 := by rw [e7, gT_pNew, if_pos e3]
    refine r_dup X dX0_deed_84 rfl ?_
    refine r_iconst (v := 0) X dX0_deed_85 rfl ?_
    refine r_iload_n X 1 dX0_deed_86 rfl rfl ?_
    obtain ⟨g9, h⟩ := h
    refine r_iast X g8 g9 w4 dX0_deed_87 (fun s10 e11 => ?_)
    replace h := h s10 e11
    refine r_dup X dX0_deed_88 rfl ?_
    refine r_iconst (v := 1) X dX0_deed_89 rfl ?_
    refine r_iload_n X 2 dX0_deed_90 rfl rfl ?_
    have g12 : gT s10 z2 = 1 := by rw [e11]; exact g8
    obtain ⟨g13, h⟩ := h
    refine r_iast X g12 g13 w4 dX0_deed_91 (fun s14 e15 => ?_)
    replace h := h s14 e15
    refine r_dup X dX0_deed_92 rfl ?_
    refine r_iconst (v := 2) X dX0_deed_93 rfl ?_
    refine r_iload_n X 3 dX0_deed_94 rfl rfl ?_
    have g16 : gT s14 z2 = 1 := by rw [e15]; exact g12
    obtain ⟨g17, h⟩ := h
    refine r_iast X g16 g17 w4 dX0_deed_95 (fun s18 e19 => ?_)
    replace h := h s18 e19
    refine r_dup X dX0_deed_96 rfl ?_
    refine r_iconst (v := 3) X dX0_deed_97 rfl ?_
    refine r_iload X 4 dX0_deed_98 rfl ?_
    have g20 : gT s18 z2 = 1 := by rw [e19]; exact g16
    obtain ⟨g21, h⟩ := h
    refine r_iast X g20 g21 w4 dX0_deed_100 (fun s22 e23 => ?_)
    replace h := h s22 e23
    refine r_dup X dX0_deed_101 rfl ?_
    refine r_iconst (v := 4) X dX0_deed_102 rfl ?_
    refine r_iload X 5 dX0_deed_103 rfl ?_
    have g24 : gT s22 z2 = 1 := by rw [e23]; exact g20
    obtain ⟨g25, h⟩ := h
    refine r_iast X g24 g25 w4 dX0_deed_105 (fun s26 e27 => ?_)
    replace h := h s26 e27
    refine r_dup X dX0_deed_106 rfl ?_
    refine r_iconst (v := 5) X dX0_deed_107 rfl ?_
    refine r_iconst (v := 0) X dX0_deed_108 rfl ?_
    have g28 : gT s26 z2 = 1 := by rw [e27]; exact g24
    obtain ⟨g29, h⟩ := h
    refine r_iast X g28 g29 w4 dX0_deed_109 (fun s30 e31 => ?_)
    replace h := h s30 e31
    refine r_astore (lv' := [(7, .ref z2), (0, .ref (kB G + 0)), (1, .int v1), (2, .int v2), (3, .int v3), (4, .int v4), (5, .int v5), (6, .int v6)]) X dX0_deed_110 (Nat.le_of_ble_eq_true rfl) rfl ?_
    refine r_aload X 0 dX0_deed_112 rfl ?_
    refine r_aload_n X 1 dX0_deed_114 rfl rfl ?_
    refine gr_X0_12 X hph 0 0 1 ly_0 rfl rfl dX0_deed_115 ?_
    refine gr_X0_88 X hph 1 1 6 ly_1 rfl rfl dX0_deed_118 ?_
    refine r_iload X 7 dX0_deed_121 rfl ?_
    obtain ⟨g32, h⟩ := h
    refine r_aaldG X hph 2 6 24 7 ly_6 rfl lr_2 rfl g32 dX0_deed_123 ?_
    refine r_cv X (r_okSN (As := [.ref z2, .ref (kB G + (7 + v6.toNatClampNeg))]) (rest := []) X (m_X1_copy (xl x) G X.2.2.2.2.1 z2 (kB G + (7 + v6.toNatClampNeg)) s30 _ h) (cl_X0_91 X ⟨(Nat.le_of_ble_eq_true rfl), (Nat.le_of_ble_eq_true rfl)⟩) rfl rfl (Nat.le_of_ble_eq_true rfl) dX0_deed_124 ⟨Nat.le_of_ble_eq_true rfl, Nat.le_of_ble_eq_true rfl⟩) (fun s33 h => ?_)
    refine r_aload_n X 1 dX0_deed_127 rfl rfl ?_
    refine gr_X0_12 X hph 0 0 1 ly_0 rfl rfl dX0_deed_128 ?_
    refine gr_X0_74 X hph 1 1 2 ly_1 rfl rfl dX0_deed_131 ?_
    refine r_iconst (v := 1) X dX0_deed_134 rfl ?_
    refine r_dup2 X dX0_deed_135 rfl rfl ?_
    refine r_ialdL X hph 2 9 ly_2 tn_1 il_1_9 dX0_deed_136 ?_
    refine r_iconst (v := 1) X dX0_deed_137 rfl ?_
    refine r_iadd X dX0_deed_138 ?_
    refine r_iastL X hph 2 9 ly_2 tn_1 il_1_9 dX0_deed_139 (fun s34 e35 => ?_)
    replace h := h s34 e35
    refine r_iload X 7 dX0_deed_140 rfl ?_
    exact r_iret X h (Nat.le_of_ble_eq_true rfl) (Nat.le_of_ble_eq_true rfl) dX0_deed_142
  · replace h := h.1 c1
    refine r_iconst (v := (-1)) X dX0_deed_78 rfl ?_
    exact r_iret X h (Nat.le_of_ble_eq_true rfl) (Nat.le_of_ble_eq_true rfl) dX0_deed_79
theorem e_X0_deed {x : CT} {G : GT} (X : Cx x G cX0_deed 8 RX0 (some .int) rm_X0_deed) (hph : kP G = 1) (p1 : Int32) (p2 : Int32) (p3 : Int32) (p4 : Int32) (p5 : Int32) (s : PS) (Q : Int32 → PS → Prop) (h : w_X0_deed G p1 p2 p3 p4 p5 s Q) : WB x G 8 (QfI x G 1 6 Q) 0 0 s 0 [(0, .ref (kB G + 0)), (1, .int p1), (2, .int p2), (3, .int p3), (4, .int p4), (5, .int p5)] [] := by
  unfold w_X0_deed at h
  refine r_aload_n X 0 dX0_deed_0 rfl rfl ?_
  refine gr_X0_12 X hph 0 0 1 ly_0 rfl rfl dX0_deed_1 ?_
  refine gr_X0_74 X hph 1 1 2 ly_1 rfl rfl dX0_deed_4 ?_
  refine r_iconst (v := 1) X dX0_deed_7 rfl ?_
  refine r_ialdL X hph 2 9 ly_2 tn_1 il_1_9 dX0_deed_8 ?_
  refine r_nmI (fun y1 e2 => ?_)
  replace h := h y1 e2
  refine r_istore (lv' := [(6, .int y1), (0, .ref (kB G + 0)), (1, .int p1), (2, .int p2), (3, .int p3), (4, .int p4), (5, .int p5)]) X dX0_deed_9 (Nat.le_of_ble_eq_true rfl) rfl ?_
  refine r_aload_n X 1 dX0_deed_11 rfl rfl ?_
  refine r_iload_n X 2 dX0_deed_12 rfl rfl ?_
  refine r_ci X (r_okVL (As := [.int p1]) (rest := []) X (m_X0_isHeart (xl x) G X.2.2.2.2.1 hph p1 s _ h) (cl_X0_84 X ⟨(Nat.le_of_ble_eq_true rfl), (Nat.le_of_ble_eq_true rfl)⟩) hph 0 ly_0 rfl rfl rfl rfl (Nat.le_of_ble_eq_true rfl) dX0_deed_13 ⟨Nat.le_of_ble_eq_true rfl, Nat.le_of_ble_eq_true rfl⟩) (fun r4 s3 h => ?_)
  obtain ⟨z5, h⟩ := h
  refine r_if_eq X 78 dX0_deed_16 (by decide) (fun c6 => ?_) (fun c6 => ?_)
  · replace h := h.1 c6
    refine r_iconst (v := (-1)) X dX0_deed_78 rfl ?_
    exact r_iret X h (Nat.le_of_ble_eq_true rfl) (Nat.le_of_ble_eq_true rfl) dX0_deed_79
  · replace h := h.2 c6
    refine r_iload_n X 3 dX0_deed_19 rfl rfl ?_
    refine r_iconst (v := 0) X dX0_deed_20 rfl ?_
    refine r_bipush (v := 9) X dX0_deed_21 rfl ?_
    refine r_ci X (r_okS (As := [.int p2, .int 0, .int 9]) (rest := []) X (m_X0_in (xl x) G X.2.2.2.2.1 p2 0 9 s3 _ h) (cl_X0_77 X ⟨(Nat.le_of_ble_eq_true rfl), (Nat.le_of_ble_eq_true rfl)⟩) rfl rfl (Nat.le_of_ble_eq_true rfl) dX0_deed_23 ⟨Nat.le_of_ble_eq_true rfl, Nat.le_of_ble_eq_true rfl⟩) (fun r8 s7 h => ?_)
    obtain ⟨z9, h⟩ := h
    refine r_if_eq X 78 dX0_deed_26 (by decide) (fun c10 => ?_) (fun c10 => ?_)
    · replace h := h.1 c10
      refine r_iconst (v := (-1)) X dX0_deed_78 rfl ?_
      exact r_iret X h (Nat.le_of_ble_eq_true rfl) (Nat.le_of_ble_eq_true rfl) dX0_deed_79
    · replace h := h.2 c10
      refine r_iload_n X 4 dX0_deed_29 rfl rfl ?_
      refine r_iconst (v := 0) X dX0_deed_30 rfl ?_
      refine r_bipush (v := 99) X dX0_deed_31 rfl ?_
      refine r_ci X (r_okS (As := [.int p3, .int 0, .int 99]) (rest := []) X (m_X0_in (xl x) G X.2.2.2.2.1 p3 0 99 s7 _ h) (cl_X0_77 X ⟨(Nat.le_of_ble_eq_true rfl), (Nat.le_of_ble_eq_true rfl)⟩) rfl rfl (Nat.le_of_ble_eq_true rfl) dX0_deed_33 ⟨Nat.le_of_ble_eq_true rfl, Nat.le_of_ble_eq_true rfl⟩) (fun r12 s11 h => ?_)
      obtain ⟨z13, h⟩ := h
      refine r_if_eq X 78 dX0_deed_36 (by decide) (fun c14 => ?_) (fun c14 => ?_)
      · replace h := h.1 c14
        refine r_iconst (v := (-1)) X dX0_deed_78 rfl ?_
        exact r_iret X h (Nat.le_of_ble_eq_true rfl) (Nat.le_of_ble_eq_true rfl) dX0_deed_79
      · replace h := h.2 c14
        refine r_iload X 5 dX0_deed_39 rfl ?_
        refine r_iconst (v := 0) X dX0_deed_41 rfl ?_
        refine r_bipush (v := 7) X dX0_deed_42 rfl ?_
        refine r_ci X (r_okS (As := [.int p4, .int 0, .int 7]) (rest := []) X (m_X0_in (xl x) G X.2.2.2.2.1 p4 0 7 s11 _ h) (cl_X0_77 X ⟨(Nat.le_of_ble_eq_true rfl), (Nat.le_of_ble_eq_true rfl)⟩) rfl rfl (Nat.le_of_ble_eq_true rfl) dX0_deed_44 ⟨Nat.le_of_ble_eq_true rfl, Nat.le_of_ble_eq_true rfl⟩) (fun r16 s15 h => ?_)
        obtain ⟨z17, h⟩ := h
        refine r_if_eq X 78 dX0_deed_47 (by decide) (fun c18 => ?_) (fun c18 => ?_)
        · replace h := h.1 c18
          refine r_iconst (v := (-1)) X dX0_deed_78 rfl ?_
          exact r_iret X h (Nat.le_of_ble_eq_true rfl) (Nat.le_of_ble_eq_true rfl) dX0_deed_79
        · replace h := h.2 c18
          refine r_iload X 6 dX0_deed_50 rfl ?_
          refine r_iconst (v := (-1)) X dX0_deed_52 rfl ?_
          refine r_ic_eq X 71 dX0_deed_53 (by decide) (fun c19 => ?_) (fun c19 => ?_)
          · replace h := h.1 c19
            refine r_sub [1, 2, 3, 4, 5, 6, 0] rfl ?_
            exact tb_X0_deed_71 X hph Q p1 p2 p3 p4 p5 y1 s15 h
          · replace h := h.2 c19
            refine r_aload_n X 1 dX0_deed_56 rfl rfl ?_
            refine r_iload X 6 dX0_deed_57 rfl ?_
            refine r_ci X (r_okVL (As := [.int p5]) (rest := []) X (m_X0_isHeart (xl x) G X.2.2.2.2.1 hph p5 s15 _ h) (cl_X0_84 X ⟨(Nat.le_of_ble_eq_true rfl), (Nat.le_of_ble_eq_true rfl)⟩) hph 0 ly_0 rfl rfl rfl rfl (Nat.le_of_ble_eq_true rfl) dX0_deed_59 ⟨Nat.le_of_ble_eq_true rfl, Nat.le_of_ble_eq_true rfl⟩) (fun r21 s20 h => ?_)
            obtain ⟨z22, h⟩ := h
            refine r_if_eq X 78 dX0_deed_62 (by decide) (fun c23 => ?_) (fun c23 => ?_)
            · replace h := h.1 c23
              refine r_iconst (v := (-1)) X dX0_deed_78 rfl ?_
              exact r_iret X h (Nat.le_of_ble_eq_true rfl) (Nat.le_of_ble_eq_true rfl) dX0_deed_79
            · replace h := h.2 c23
              refine r_iload X 6 dX0_deed_65 rfl ?_
              refine r_iload_n X 2 dX0_deed_67 rfl rfl ?_
              refine r_ic_eq X 78 dX0_deed_68 (by decide) (fun c24 => ?_) (fun c24 => ?_)
              · replace h := h.1 c24
                refine r_iconst (v := (-1)) X dX0_deed_78 rfl ?_
                exact r_iret X h (Nat.le_of_ble_eq_true rfl) (Nat.le_of_ble_eq_true rfl) dX0_deed_79
              · replace h := h.2 c24
                refine r_sub [1, 2, 3, 4, 5, 6, 0] rfl ?_
                exact tb_X0_deed_71 X hph Q p1 p2 p3 p4 p5 y1 s20 h
theorem m_X0_deed (l : Launch) (G : GT) (g : GK G) (hph : kP G = 1) (p1 : Int32) (p2 : Int32) (p3 : Int32) (p4 : Int32) (p5 : Int32) (s : PS) (Q : Int32 → PS → Prop) (h : w_X0_deed G p1 p2 p3 p4 p5 s Q) : Met l yX0_deed (ws_ yX0_deed cX0_deed 8 (some .int)) rm_X0_deed (va_Pc [.ref (kB G + 0), .int p1, .int p2, .int p3, .int p4, .int p5] (Wr G s)) (va_Qi Q (fun u t => Wr G u t) (kF G)) 1 6 (kF G) := by
  refine Met.ofW (cc := cX0_deed) (maxL := 8) (ret := (some .int)) (by decide) rfl ?_
  intro p e s0 m args below meth c s₁ B hml hv
  obtain ⟨rfl, hw⟩ := hv
  exact wb_of [.ref (kB G + 0), .int p1, .int p2, .int p3, .int p4, .int p5] (Nat.le_of_ble_eq_true rfl) hw.1 rfl (e_X0_deed (cx_of g B hml rfl hw) hph p1 p2 p3 p4 p5 s Q h)
theorem e_X0_isDeed {x : CT} {G : GT} (X : Cx x G cX0_isDeed 2 RX0 (some .boolean) rm_X0_isDeed) (hph : kP G = 1) (p1 : Int32) (s : PS) (Q : Int32 → PS → Prop) (h : w_X0_isDeed G p1 s Q) : WB x G 2 (QfI x G 0 0 (fun r u => (r = 0 ∨ r = 1) ∧ Q r u)) 0 0 s 0 [(0, .ref (kB G + 0)), (1, .int p1)] [] := by
  unfold w_X0_isDeed at h
  refine r_iload_n X 1 dX0_isDeed_0 rfl rfl ?_
  refine r_iconst (v := 0) X dX0_isDeed_1 rfl ?_
  refine r_aload_n X 0 dX0_isDeed_2 rfl rfl ?_
  refine gr_X0_12 X hph 0 0 1 ly_0 rfl rfl dX0_isDeed_3 ?_
  refine gr_X0_74 X hph 1 1 2 ly_1 rfl rfl dX0_isDeed_6 ?_
  refine r_iconst (v := 1) X dX0_isDeed_9 rfl ?_
  refine r_ialdL X hph 2 9 ly_2 tn_1 il_1_9 dX0_isDeed_10 ?_
  refine r_iconst (v := 1) X dX0_isDeed_11 rfl ?_
  refine r_isub X dX0_isDeed_12 ?_
  refine r_ci X (r_okS (As := [.int p1, .int 0, .int ((gI s (kB G + 2) 1) - 1)]) (rest := []) X (m_X0_in (xl x) G X.2.2.2.2.1 p1 0 ((gI s (kB G + 2) 1) - 1) s _ h) (cl_X0_77 X ⟨(Nat.le_of_ble_eq_true rfl), (Nat.le_of_ble_eq_true rfl)⟩) rfl rfl (Nat.le_of_ble_eq_true rfl) dX0_isDeed_13 ⟨Nat.le_of_ble_eq_true rfl, Nat.le_of_ble_eq_true rfl⟩) (fun r2 s1 h => ?_)
  obtain ⟨z3, h⟩ := h
  exact r_zret X z3 h (Nat.le_of_ble_eq_true rfl) (Nat.le_of_ble_eq_true rfl) dX0_isDeed_16
theorem m_X0_isDeed (l : Launch) (G : GT) (g : GK G) (hph : kP G = 1) (p1 : Int32) (s : PS) (Q : Int32 → PS → Prop) (h : w_X0_isDeed G p1 s Q) : Met l yX0_isDeed (ws_ yX0_isDeed cX0_isDeed 2 (some .boolean)) rm_X0_isDeed (va_Pc [.ref (kB G + 0), .int p1] (Wr G s)) (va_Qi (fun r u => (r = 0 ∨ r = 1) ∧ Q r u) (fun u t => Wr G u t) (kF G)) 0 0 (kF G) := by
  refine Met.ofW (cc := cX0_isDeed) (maxL := 2) (ret := (some .boolean)) (by decide) rfl ?_
  intro p e s0 m args below meth c s₁ B hml hv
  obtain ⟨rfl, hw⟩ := hv
  exact wb_of [.ref (kB G + 0), .int p1] (Nat.le_of_ble_eq_true rfl) hw.1 rfl (e_X0_isDeed (cx_of g B hml rfl hw) hph p1 s Q h)
theorem e_X0_allHearts {x : CT} {G : GT} (X : Cx x G cX0_allHearts 1 RX0 (some .int) rm_X0_allHearts) (hph : kP G = 1) (s : PS) (Q : Int32 → PS → Prop) (h : w_X0_allHearts G s Q) : WB x G 1 (QfI x G 0 0 Q) 0 0 s 0 [(0, .ref (kB G + 0))] [] := by
  unfold w_X0_allHearts at h
  refine r_iconst (v := 1) X dX0_allHearts_0 rfl ?_
  refine r_aload_n X 0 dX0_allHearts_1 rfl rfl ?_
  refine gr_X0_12 X hph 0 0 1 ly_0 rfl rfl dX0_allHearts_2 ?_
  refine gr_X0_74 X hph 1 1 2 ly_1 rfl rfl dX0_allHearts_5 ?_
  refine r_iconst (v := 0) X dX0_allHearts_8 rfl ?_
  refine r_ialdL X hph 2 9 ly_2 tn_0 il_0_9 dX0_allHearts_9 ?_
  refine r_ishl X dX0_allHearts_10 ?_
  refine r_iconst (v := 1) X dX0_allHearts_11 rfl ?_
  refine r_isub X dX0_allHearts_12 ?_
  exact r_iret X h (Nat.le_of_ble_eq_true rfl) (Nat.le_of_ble_eq_true rfl) dX0_allHearts_13
theorem m_X0_allHearts (l : Launch) (G : GT) (g : GK G) (hph : kP G = 1) (s : PS) (Q : Int32 → PS → Prop) (h : w_X0_allHearts G s Q) : Met l yX0_allHearts (ws_ yX0_allHearts cX0_allHearts 1 (some .int)) rm_X0_allHearts (va_Pc [.ref (kB G + 0)] (Wr G s)) (va_Qi Q (fun u t => Wr G u t) (kF G)) 0 0 (kF G) := by
  refine Met.ofW (cc := cX0_allHearts) (maxL := 1) (ret := (some .int)) (by decide) rfl ?_
  intro p e s0 m args below meth c s₁ B hml hv
  obtain ⟨rfl, hw⟩ := hv
  exact wb_of [.ref (kB G + 0)] (Nat.le_of_ble_eq_true rfl) hw.1 rfl (e_X0_allHearts (cx_of g B hml rfl hw) hph s Q h)
theorem e_X0_witness {x : CT} {G : GT} (X : Cx x G cX0_witness 3 RX0 (some .boolean) rm_X0_witness) (hph : kP G = 1) (p1 : Int32) (p2 : Int32) (s : PS) (Q : Int32 → PS → Prop) (h : w_X0_witness G p1 p2 s Q) : WB x G 3 (QfI x G 0 0 (fun r u => (r = 0 ∨ r = 1) ∧ Q r u)) 0 0 s 0 [(0, .ref (kB G + 0)), (1, .int p1), (2, .int p2)] [] := by
  unfold w_X0_witness at h
  refine r_aload_n X 0 dX0_witness_0 rfl rfl ?_
  refine r_iload_n X 1 dX0_witness_1 rfl rfl ?_
  refine r_ci X (r_okVL (As := [.int p1]) (rest := []) X (m_X0_isDeed (xl x) G X.2.2.2.2.1 hph p1 s _ h) (cl_X0_95 X ⟨(Nat.le_of_ble_eq_true rfl), (Nat.le_of_ble_eq_true rfl)⟩) hph 0 ly_0 rfl rfl rfl rfl (Nat.le_of_ble_eq_true rfl) dX0_witness_2 ⟨Nat.le_of_ble_eq_true rfl, Nat.le_of_ble_eq_true rfl⟩) (fun r2 s1 h => ?_)
  obtain ⟨z3, h⟩ := h
  refine r_if_eq X 20 dX0_witness_5 (by decide) (fun c4 => ?_) (fun c4 => ?_)
  · replace h := h.1 c4
    refine r_iconst (v := 0) X dX0_witness_20 rfl ?_
    exact r_zret X (Or.inl rfl) h (Nat.le_of_ble_eq_true rfl) (Nat.le_of_ble_eq_true rfl) dX0_witness_21
  · replace h := h.2 c4
    refine r_iload_n X 2 dX0_witness_8 rfl rfl ?_
    refine r_iconst (v := 0) X dX0_witness_9 rfl ?_
    refine r_aload_n X 0 dX0_witness_10 rfl rfl ?_
    refine r_ci X (r_okVL (As := []) (rest := [.int 0, .int p2]) X (m_X0_allHearts (xl x) G X.2.2.2.2.1 hph s1 _ h) (cl_X0_98 X ⟨(Nat.le_of_ble_eq_true rfl), (Nat.le_of_ble_eq_true rfl)⟩) hph 0 ly_0 rfl rfl rfl rfl (Nat.le_of_ble_eq_true rfl) dX0_witness_11 ⟨Nat.le_of_ble_eq_true rfl, Nat.le_of_ble_eq_true rfl⟩) (fun r6 s5 h => ?_)
    refine r_ci X (r_okS (As := [.int p2, .int 0, .int r6]) (rest := []) X (m_X0_in (xl x) G X.2.2.2.2.1 p2 0 r6 s5 _ h) (cl_X0_77 X ⟨(Nat.le_of_ble_eq_true rfl), (Nat.le_of_ble_eq_true rfl)⟩) rfl rfl (Nat.le_of_ble_eq_true rfl) dX0_witness_14 ⟨Nat.le_of_ble_eq_true rfl, Nat.le_of_ble_eq_true rfl⟩) (fun r8 s7 h => ?_)
    obtain ⟨z9, h⟩ := h
    refine r_if_ne X 22 dX0_witness_17 (by decide) (fun c10 => ?_) (fun c10 => ?_)
    · replace h := h.2 c10
      refine r_aload_n X 0 dX0_witness_22 rfl rfl ?_
      refine gr_X0_12 X hph 0 0 1 ly_0 rfl rfl dX0_witness_23 ?_
      refine gr_X0_88 X hph 1 1 6 ly_1 rfl rfl dX0_witness_26 ?_
      refine r_iload_n X 1 dX0_witness_29 rfl rfl ?_
      obtain ⟨g11, h⟩ := h
      refine r_aaldG X hph 2 6 24 7 ly_6 rfl lr_2 rfl g11 dX0_witness_30 ?_
      refine r_iconst (v := 5) X dX0_witness_31 rfl ?_
      refine r_iload_n X 2 dX0_witness_32 rfl rfl ?_
      refine r_iastL X hph (7 + p1.toNatClampNeg) 6 (lg_2 _ (lt_in g11)) tn_5 il_5_6 dX0_witness_33 (fun s12 e13 => ?_)
      replace h := h s12 e13
      refine r_iconst (v := 1) X dX0_witness_34 rfl ?_
      exact r_zret X (Or.inr rfl) h (Nat.le_of_ble_eq_true rfl) (Nat.le_of_ble_eq_true rfl) dX0_witness_35
    · replace h := h.1 c10
      refine r_iconst (v := 0) X dX0_witness_20 rfl ?_
      exact r_zret X (Or.inl rfl) h (Nat.le_of_ble_eq_true rfl) (Nat.le_of_ble_eq_true rfl) dX0_witness_21
theorem m_X0_witness (l : Launch) (G : GT) (g : GK G) (hph : kP G = 1) (p1 : Int32) (p2 : Int32) (s : PS) (Q : Int32 → PS → Prop) (h : w_X0_witness G p1 p2 s Q) : Met l yX0_witness (ws_ yX0_witness cX0_witness 3 (some .boolean)) rm_X0_witness (va_Pc [.ref (kB G + 0), .int p1, .int p2] (Wr G s)) (va_Qi (fun r u => (r = 0 ∨ r = 1) ∧ Q r u) (fun u t => Wr G u t) (kF G)) 0 0 (kF G) := by
  refine Met.ofW (cc := cX0_witness) (maxL := 3) (ret := (some .boolean)) (by decide) rfl ?_
  intro p e s0 m args below meth c s₁ B hml hv
  obtain ⟨rfl, hw⟩ := hv
  exact wb_of [.ref (kB G + 0), .int p1, .int p2] (Nat.le_of_ble_eq_true rfl) hw.1 rfl (e_X0_witness (cx_of g B hml rfl hw) hph p1 p2 s Q h)
theorem e_X0_judge {x : CT} {G : GT} (X : Cx x G cX0_judge 2 RX0 (some .int) rm_X0_judge) (hph : kP G = 1) (p1 : Int32) (s : PS) (Q : Int32 → PS → Prop) (h : w_X0_judge G p1 s Q) : WB x G 2 (QfI x G 0 0 Q) 0 0 s 0 [(0, .ref (kB G + 0)), (1, .int p1)] [] := by
  unfold w_X0_judge at h
  refine r_iload_n X 1 dX0_judge_0 rfl rfl ?_
  refine r_iconst (v := 1) X dX0_judge_1 rfl ?_
  refine r_sipush (v := 1023) X dX0_judge_2 rfl ?_
  refine r_ci X (r_okS (As := [.int p1, .int 1, .int 1023]) (rest := []) X (m_X0_in (xl x) G X.2.2.2.2.1 p1 1 1023 s _ h) (cl_X0_77 X ⟨(Nat.le_of_ble_eq_true rfl), (Nat.le_of_ble_eq_true rfl)⟩) rfl rfl (Nat.le_of_ble_eq_true rfl) dX0_judge_5 ⟨Nat.le_of_ble_eq_true rfl, Nat.le_of_ble_eq_true rfl⟩) (fun r2 s1 h => ?_)
  obtain ⟨z3, h⟩ := h
  refine r_if_eq X 25 dX0_judge_8 (by decide) (fun c4 => ?_) (fun c4 => ?_)
  · replace h := h.1 c4
    refine r_iconst (v := (-1)) X dX0_judge_25 rfl ?_
    exact r_iret X h (Nat.le_of_ble_eq_true rfl) (Nat.le_of_ble_eq_true rfl) dX0_judge_26
  · replace h := h.2 c4
    refine r_aload_n X 0 dX0_judge_11 rfl rfl ?_
    refine gr_X0_12 X hph 0 0 1 ly_0 rfl rfl dX0_judge_12 ?_
    refine gr_X0_74 X hph 1 1 2 ly_1 rfl rfl dX0_judge_15 ?_
    refine r_iconst (v := 2) X dX0_judge_18 rfl ?_
    refine r_ialdL X hph 2 9 ly_2 tn_2 il_2_9 dX0_judge_19 ?_
    refine r_bipush (v := 8) X dX0_judge_20 rfl ?_
    refine r_ic_ne X 27 dX0_judge_22 (by decide) (fun c5 => ?_) (fun c5 => ?_)
    · replace h := h.2 c5
      refine r_aload_n X 0 dX0_judge_27 rfl rfl ?_
      refine gr_X0_12 X hph 0 0 1 ly_0 rfl rfl dX0_judge_28 ?_
      refine gr_X0_102 X hph 1 1 4 ly_1 rfl rfl dX0_judge_31 ?_
      refine r_aload_n X 0 dX0_judge_34 rfl rfl ?_
      refine gr_X0_12 X hph 0 0 1 ly_0 rfl rfl dX0_judge_35 ?_
      refine gr_X0_74 X hph 1 1 2 ly_1 rfl rfl dX0_judge_38 ?_
      refine r_iconst (v := 2) X dX0_judge_41 rfl ?_
      refine r_ialdL X hph 2 9 ly_2 tn_2 il_2_9 dX0_judge_42 ?_
      refine r_iload_n X 1 dX0_judge_43 rfl rfl ?_
      obtain ⟨g6, h⟩ := h
      refine r_iastL X hph 4 8 ly_4 rfl g6 dX0_judge_44 (fun s7 e8 => ?_)
      replace h := h s7 e8
      refine r_aload_n X 0 dX0_judge_45 rfl rfl ?_
      refine gr_X0_12 X hph 0 0 1 ly_0 rfl rfl dX0_judge_46 ?_
      refine gr_X0_74 X hph 1 1 2 ly_1 rfl rfl dX0_judge_49 ?_
      refine r_iconst (v := 2) X dX0_judge_52 rfl ?_
      refine r_dup2 X dX0_judge_53 rfl rfl ?_
      refine r_ialdL X hph 2 9 ly_2 tn_2 il_2_9 dX0_judge_54 ?_
      refine r_iconst (v := 1) X dX0_judge_55 rfl ?_
      refine r_iadd X dX0_judge_56 ?_
      refine r_iastL X hph 2 9 ly_2 tn_2 il_2_9 dX0_judge_57 (fun s9 e10 => ?_)
      replace h := h s9 e10
      refine r_aload_n X 0 dX0_judge_58 rfl rfl ?_
      refine gr_X0_12 X hph 0 0 1 ly_0 rfl rfl dX0_judge_59 ?_
      refine gr_X0_74 X hph 1 1 2 ly_1 rfl rfl dX0_judge_62 ?_
      refine r_iconst (v := 2) X dX0_judge_65 rfl ?_
      refine r_ialdL X hph 2 9 ly_2 tn_2 il_2_9 dX0_judge_66 ?_
      refine r_iconst (v := 1) X dX0_judge_67 rfl ?_
      refine r_isub X dX0_judge_68 ?_
      exact r_iret X h (Nat.le_of_ble_eq_true rfl) (Nat.le_of_ble_eq_true rfl) dX0_judge_69
    · replace h := h.1 c5
      refine r_iconst (v := (-1)) X dX0_judge_25 rfl ?_
      exact r_iret X h (Nat.le_of_ble_eq_true rfl) (Nat.le_of_ble_eq_true rfl) dX0_judge_26
theorem m_X0_judge (l : Launch) (G : GT) (g : GK G) (hph : kP G = 1) (p1 : Int32) (s : PS) (Q : Int32 → PS → Prop) (h : w_X0_judge G p1 s Q) : Met l yX0_judge (ws_ yX0_judge cX0_judge 2 (some .int)) rm_X0_judge (va_Pc [.ref (kB G + 0), .int p1] (Wr G s)) (va_Qi Q (fun u t => Wr G u t) (kF G)) 0 0 (kF G) := by
  refine Met.ofW (cc := cX0_judge) (maxL := 2) (ret := (some .int)) (by decide) rfl ?_
  intro p e s0 m args below meth c s₁ B hml hv
  obtain ⟨rfl, hw⟩ := hv
  exact wb_of [.ref (kB G + 0), .int p1] (Nat.le_of_ble_eq_true rfl) hw.1 rfl (e_X0_judge (cx_of g B hml rfl hw) hph p1 s Q h)
theorem e_X0_stick {x : CT} {G : GT} (X : Cx x G cX0_stick 2 RX0 (some .boolean) rm_X0_stick) (hph : kP G = 1) (p1 : Int32) (s : PS) (Q : Int32 → PS → Prop) (h : w_X0_stick G p1 s Q) : WB x G 2 (QfI x G 0 0 (fun r u => (r = 0 ∨ r = 1) ∧ Q r u)) 0 0 s 0 [(0, .ref (kB G + 0)), (1, .int p1)] [] := by
  unfold w_X0_stick at h
  refine r_iload_n X 1 dX0_stick_0 rfl rfl ?_
  refine r_iconst (v := 0) X dX0_stick_1 rfl ?_
  refine r_bipush (v := 99) X dX0_stick_2 rfl ?_
  refine r_ci X (r_okS (As := [.int p1, .int 0, .int 99]) (rest := []) X (m_X0_in (xl x) G X.2.2.2.2.1 p1 0 99 s _ h) (cl_X0_77 X ⟨(Nat.le_of_ble_eq_true rfl), (Nat.le_of_ble_eq_true rfl)⟩) rfl rfl (Nat.le_of_ble_eq_true rfl) dX0_stick_4 ⟨Nat.le_of_ble_eq_true rfl, Nat.le_of_ble_eq_true rfl⟩) (fun r2 s1 h => ?_)
  obtain ⟨z3, h⟩ := h
  refine r_if_ne X 12 dX0_stick_7 (by decide) (fun c4 => ?_) (fun c4 => ?_)
  · replace h := h.2 c4
    refine r_aload_n X 0 dX0_stick_12 rfl rfl ?_
    refine gr_X0_12 X hph 0 0 1 ly_0 rfl rfl dX0_stick_13 ?_
    refine gr_X0_74 X hph 1 1 2 ly_1 rfl rfl dX0_stick_16 ?_
    refine r_iconst (v := 3) X dX0_stick_19 rfl ?_
    refine r_iload_n X 1 dX0_stick_20 rfl rfl ?_
    refine r_iastL X hph 2 9 ly_2 tn_3 il_3_9 dX0_stick_21 (fun s5 e6 => ?_)
    replace h := h s5 e6
    refine r_iconst (v := 1) X dX0_stick_22 rfl ?_
    exact r_zret X (Or.inr rfl) h (Nat.le_of_ble_eq_true rfl) (Nat.le_of_ble_eq_true rfl) dX0_stick_23
  · replace h := h.1 c4
    refine r_iconst (v := 0) X dX0_stick_10 rfl ?_
    exact r_zret X (Or.inl rfl) h (Nat.le_of_ble_eq_true rfl) (Nat.le_of_ble_eq_true rfl) dX0_stick_11
theorem m_X0_stick (l : Launch) (G : GT) (g : GK G) (hph : kP G = 1) (p1 : Int32) (s : PS) (Q : Int32 → PS → Prop) (h : w_X0_stick G p1 s Q) : Met l yX0_stick (ws_ yX0_stick cX0_stick 2 (some .boolean)) rm_X0_stick (va_Pc [.ref (kB G + 0), .int p1] (Wr G s)) (va_Qi (fun r u => (r = 0 ∨ r = 1) ∧ Q r u) (fun u t => Wr G u t) (kF G)) 0 0 (kF G) := by
  refine Met.ofW (cc := cX0_stick) (maxL := 2) (ret := (some .boolean)) (by decide) rfl ?_
  intro p e s0 m args below meth c s₁ B hml hv
  obtain ⟨rfl, hw⟩ := hv
  exact wb_of [.ref (kB G + 0), .int p1] (Nat.le_of_ble_eq_true rfl) hw.1 rfl (e_X0_stick (cx_of g B hml rfl hw) hph p1 s Q h)
theorem e_X0_bond {x : CT} {G : GT} (X : Cx x G cX0_bond 4 RX0 (some .boolean) rm_X0_bond) (hph : kP G = 1) (p1 : Int32) (p2 : Int32) (p3 : Int32) (s : PS) (Q : Int32 → PS → Prop) (h : w_X0_bond G p1 p2 p3 s Q) : WB x G 4 (QfI x G 0 0 (fun r u => (r = 0 ∨ r = 1) ∧ Q r u)) 0 0 s 0 [(0, .ref (kB G + 0)), (1, .int p1), (2, .int p2), (3, .int p3)] [] := by
  unfold w_X0_bond at h
  refine r_aload_n X 0 dX0_bond_0 rfl rfl ?_
  refine r_iload_n X 1 dX0_bond_1 rfl rfl ?_
  refine r_ci X (r_okVL (As := [.int p1]) (rest := []) X (m_X0_isHeart (xl x) G X.2.2.2.2.1 hph p1 s _ h) (cl_X0_84 X ⟨(Nat.le_of_ble_eq_true rfl), (Nat.le_of_ble_eq_true rfl)⟩) hph 0 ly_0 rfl rfl rfl rfl (Nat.le_of_ble_eq_true rfl) dX0_bond_2 ⟨Nat.le_of_ble_eq_true rfl, Nat.le_of_ble_eq_true rfl⟩) (fun r2 s1 h => ?_)
  obtain ⟨z3, h⟩ := h
  refine r_if_eq X 31 dX0_bond_5 (by decide) (fun c4 => ?_) (fun c4 => ?_)
  · replace h := h.1 c4
    refine r_iconst (v := 0) X dX0_bond_31 rfl ?_
    exact r_zret X (Or.inl rfl) h (Nat.le_of_ble_eq_true rfl) (Nat.le_of_ble_eq_true rfl) dX0_bond_32
  · replace h := h.2 c4
    refine r_aload_n X 0 dX0_bond_8 rfl rfl ?_
    refine r_iload_n X 2 dX0_bond_9 rfl rfl ?_
    refine r_ci X (r_okVL (As := [.int p2]) (rest := []) X (m_X0_isHeart (xl x) G X.2.2.2.2.1 hph p2 s1 _ h) (cl_X0_84 X ⟨(Nat.le_of_ble_eq_true rfl), (Nat.le_of_ble_eq_true rfl)⟩) hph 0 ly_0 rfl rfl rfl rfl (Nat.le_of_ble_eq_true rfl) dX0_bond_10 ⟨Nat.le_of_ble_eq_true rfl, Nat.le_of_ble_eq_true rfl⟩) (fun r6 s5 h => ?_)
    obtain ⟨z7, h⟩ := h
    refine r_if_eq X 31 dX0_bond_13 (by decide) (fun c8 => ?_) (fun c8 => ?_)
    · replace h := h.1 c8
      refine r_iconst (v := 0) X dX0_bond_31 rfl ?_
      exact r_zret X (Or.inl rfl) h (Nat.le_of_ble_eq_true rfl) (Nat.le_of_ble_eq_true rfl) dX0_bond_32
    · replace h := h.2 c8
      refine r_iload_n X 1 dX0_bond_16 rfl rfl ?_
      refine r_iload_n X 2 dX0_bond_17 rfl rfl ?_
      refine r_ic_eq X 31 dX0_bond_18 (by decide) (fun c9 => ?_) (fun c9 => ?_)
      · replace h := h.1 c9
        refine r_iconst (v := 0) X dX0_bond_31 rfl ?_
        exact r_zret X (Or.inl rfl) h (Nat.le_of_ble_eq_true rfl) (Nat.le_of_ble_eq_true rfl) dX0_bond_32
      · replace h := h.2 c9
        refine r_iload_n X 3 dX0_bond_21 rfl rfl ?_
        refine r_iconst (v := 0) X dX0_bond_22 rfl ?_
        refine r_bipush (v := 99) X dX0_bond_23 rfl ?_
        refine r_ci X (r_okS (As := [.int p3, .int 0, .int 99]) (rest := []) X (m_X0_in (xl x) G X.2.2.2.2.1 p3 0 99 s5 _ h) (cl_X0_77 X ⟨(Nat.le_of_ble_eq_true rfl), (Nat.le_of_ble_eq_true rfl)⟩) rfl rfl (Nat.le_of_ble_eq_true rfl) dX0_bond_25 ⟨Nat.le_of_ble_eq_true rfl, Nat.le_of_ble_eq_true rfl⟩) (fun r11 s10 h => ?_)
        obtain ⟨z12, h⟩ := h
        refine r_if_ne X 33 dX0_bond_28 (by decide) (fun c13 => ?_) (fun c13 => ?_)
        · replace h := h.2 c13
          refine r_aload_n X 0 dX0_bond_33 rfl rfl ?_
          refine gr_X0_12 X hph 0 0 1 ly_0 rfl rfl dX0_bond_34 ?_
          refine gr_X0_105 X hph 1 1 31 ly_1 rfl rfl dX0_bond_37 ?_
          refine r_iload_n X 1 dX0_bond_40 rfl rfl ?_
          obtain ⟨g14, h⟩ := h
          refine r_aaldG X hph 3 31 6 32 ly_31 rfl lr_3 rfl g14 dX0_bond_41 ?_
          refine r_iload_n X 2 dX0_bond_42 rfl rfl ?_
          refine r_iload_n X 3 dX0_bond_43 rfl rfl ?_
          obtain ⟨g15, h⟩ := h
          refine r_iastL X hph (32 + p1.toNatClampNeg) 6 (lg_3 _ (lt_in g14)) rfl g15 dX0_bond_44 (fun s16 e17 => ?_)
          replace h := h s16 e17
          refine r_iconst (v := 1) X dX0_bond_45 rfl ?_
          exact r_zret X (Or.inr rfl) h (Nat.le_of_ble_eq_true rfl) (Nat.le_of_ble_eq_true rfl) dX0_bond_46
        · replace h := h.1 c13
          refine r_iconst (v := 0) X dX0_bond_31 rfl ?_
          exact r_zret X (Or.inl rfl) h (Nat.le_of_ble_eq_true rfl) (Nat.le_of_ble_eq_true rfl) dX0_bond_32
theorem m_X0_bond (l : Launch) (G : GT) (g : GK G) (hph : kP G = 1) (p1 : Int32) (p2 : Int32) (p3 : Int32) (s : PS) (Q : Int32 → PS → Prop) (h : w_X0_bond G p1 p2 p3 s Q) : Met l yX0_bond (ws_ yX0_bond cX0_bond 4 (some .boolean)) rm_X0_bond (va_Pc [.ref (kB G + 0), .int p1, .int p2, .int p3] (Wr G s)) (va_Qi (fun r u => (r = 0 ∨ r = 1) ∧ Q r u) (fun u t => Wr G u t) (kF G)) 0 0 (kF G) := by
  refine Met.ofW (cc := cX0_bond) (maxL := 4) (ret := (some .boolean)) (by decide) rfl ?_
  intro p e s0 m args below meth c s₁ B hml hv
  obtain ⟨rfl, hw⟩ := hv
  exact wb_of [.ref (kB G + 0), .int p1, .int p2, .int p3] (Nat.le_of_ble_eq_true rfl) hw.1 rfl (e_X0_bond (cx_of g B hml rfl hw) hph p1 p2 p3 s Q h)
theorem tl_X0_put_3 {x : CT} {G : GT} (X : Cx x G cX0_put 3 RX0 none rm_X0_put) (hph : kP G = 1) (Q : PS → Prop) (v1 : Int32) : ∀ (n : Nat) (v2 : Int32) (s : PS) (h : l_X0_put_3 G Q v1 n v2 s), WB x G 3 (QfV x G 0 0 Q) 0 0 s 3 [(0, .ref (kB G + 0)), (1, .int v1), (2, .int v2)] [] := by
  intro n
  induction n with
  | zero =>
    intro v2 s h
    exact False.elim h
  | succ n ih =>
    intro v2 s h
    unfold l_X0_put_3 at h
    refine r_iload_n X 2 dX0_put_3 rfl rfl ?_
    refine r_if_lt X 36 dX0_put_4 (by decide) (fun c1 => ?_) (fun c1 => ?_)
    · replace h := h.1 c1
      exact r_vret X h (Nat.le_of_ble_eq_true rfl) (Nat.le_of_ble_eq_true rfl) dX0_put_36
    · replace h := h.2 c1
      refine r_aload_n X 0 dX0_put_7 rfl rfl ?_
      refine gr_X0_19 X hph 0 0 157 ly_0 rfl rfl dX0_put_8 ?_
      refine r_aload_n X 0 dX0_put_11 rfl rfl ?_
      refine gl_X0_108 X hph 0 ly_0 dX0_put_12 ?_
      refine r_iload_n X 1 dX0_put_15 rfl rfl ?_
      refine r_iload_n X 2 dX0_put_16 rfl rfl ?_
      refine r_ishr X dX0_put_17 ?_
      refine r_i2b X dX0_put_18 ?_
      obtain ⟨g2, h⟩ := h
      refine r_bastL X hph 157 300 ly_157 rfl g2 dX0_put_19 (fun s3 e4 => ?_)
      replace h := h s3 e4
      refine r_aload_n X 0 dX0_put_20 rfl rfl ?_
      refine r_dup X dX0_put_21 rfl ?_
      refine gl_X0_108 X hph 0 ly_0 dX0_put_22 ?_
      refine r_iconst (v := 1) X dX0_put_25 rfl ?_
      refine r_iadd X dX0_put_26 ?_
      refine pl_X0_108 X hph 0 ly_0 dX0_put_27 (fun s5 e6 => ?_)
      replace h := h s5 e6
      refine r_iinc (lv' := [(2, .int (v2 + (-8))), (0, .ref (kB G + 0)), (1, .int v1)]) X 2 dX0_put_30 rfl rfl (Nat.le_of_ble_eq_true rfl) rfl ?_
      refine r_goto X 3 dX0_put_33 (by decide) ?_
      refine r_sub [1, 2, 0] rfl ?_
      exact ih (v2 + (-8)) s5 h
theorem e_X0_put {x : CT} {G : GT} (X : Cx x G cX0_put 3 RX0 none rm_X0_put) (hph : kP G = 1) (p1 : Int32) (s : PS) (Q : PS → Prop) (h : w_X0_put G p1 s Q) : WB x G 3 (QfV x G 0 0 Q) 0 0 s 0 [(0, .ref (kB G + 0)), (1, .int p1)] [] := by
  unfold w_X0_put at h
  refine r_bipush (v := 24) X dX0_put_0 rfl ?_
  refine r_istore_n (lv' := [(2, .int 24), (0, .ref (kB G + 0)), (1, .int p1)]) X dX0_put_2 rfl (Nat.le_of_ble_eq_true rfl) rfl ?_
  refine r_sub [1, 2, 0] rfl ?_
  obtain ⟨n1, h⟩ := h
  exact tl_X0_put_3 X hph Q p1 n1 24 s h
theorem m_X0_put (l : Launch) (G : GT) (g : GK G) (hph : kP G = 1) (p1 : Int32) (s : PS) (Q : PS → Prop) (h : w_X0_put G p1 s Q) : Met l yX0_put (ws_ yX0_put cX0_put 3 none) rm_X0_put (va_Pc [.ref (kB G + 0), .int p1] (Wr G s)) (va_Qv Q (fun u t => Wr G u t) (kF G)) 0 0 (kF G) := by
  refine Met.ofW (cc := cX0_put) (maxL := 3) (ret := none) (by decide) rfl ?_
  intro p e s0 m args below meth c s₁ B hml hv
  obtain ⟨rfl, hw⟩ := hv
  exact wb_of [.ref (kB G + 0), .int p1] (Nat.le_of_ble_eq_true rfl) hw.1 rfl (e_X0_put (cx_of g B hml rfl hw) hph p1 s Q h)
theorem e_X0_feed {x : CT} {G : GT} (X : Cx x G cX0_feed 6 RX0 (some .int) rm_X0_feed) (hph : kP G = 1) (p1 : Int32) (p2 : Int32) (p3 : Int32) (p4 : Int32) (p5 : Int32) (s : PS) (Q : Int32 → PS → Prop) (h : w_X0_feed G p1 p2 p3 p4 p5 s Q) : WB x G 6 (QfI x G 0 0 Q) 0 0 s 0 [(0, .ref (kB G + 0)), (1, .int p1), (2, .int p2), (3, .int p3), (4, .int p4), (5, .int p5)] [] := by
  unfold w_X0_feed at h
  refine r_aload_n X 0 dX0_feed_0 rfl rfl ?_
  refine gl_X0_108 X hph 0 ly_0 dX0_feed_1 ?_
  refine r_bipush (v := 20) X dX0_feed_4 rfl ?_
  refine r_iadd X dX0_feed_6 ?_
  refine r_sipush (v := 300) X dX0_feed_7 rfl ?_
  refine r_ic_le X 15 dX0_feed_10 (by decide) (fun c1 => ?_) (fun c1 => ?_)
  · replace h := h.1 c1
    refine r_aload_n X 0 dX0_feed_15 rfl rfl ?_
    refine r_iload_n X 1 dX0_feed_16 rfl rfl ?_
    refine r_cv X (r_okVL (As := [.int p1]) (rest := []) X (m_X0_put (xl x) G X.2.2.2.2.1 hph p1 s _ h) (cl_X0_111 X ⟨(Nat.le_of_ble_eq_true rfl), (Nat.le_of_ble_eq_true rfl)⟩) hph 0 ly_0 rfl rfl rfl rfl (Nat.le_of_ble_eq_true rfl) dX0_feed_17 ⟨Nat.le_of_ble_eq_true rfl, Nat.le_of_ble_eq_true rfl⟩) (fun s2 h => ?_)
    refine r_aload_n X 0 dX0_feed_20 rfl rfl ?_
    refine r_iload_n X 2 dX0_feed_21 rfl rfl ?_
    refine r_cv X (r_okVL (As := [.int p2]) (rest := []) X (m_X0_put (xl x) G X.2.2.2.2.1 hph p2 s2 _ h) (cl_X0_111 X ⟨(Nat.le_of_ble_eq_true rfl), (Nat.le_of_ble_eq_true rfl)⟩) hph 0 ly_0 rfl rfl rfl rfl (Nat.le_of_ble_eq_true rfl) dX0_feed_22 ⟨Nat.le_of_ble_eq_true rfl, Nat.le_of_ble_eq_true rfl⟩) (fun s3 h => ?_)
    refine r_aload_n X 0 dX0_feed_25 rfl rfl ?_
    refine r_iload_n X 3 dX0_feed_26 rfl rfl ?_
    refine r_cv X (r_okVL (As := [.int p3]) (rest := []) X (m_X0_put (xl x) G X.2.2.2.2.1 hph p3 s3 _ h) (cl_X0_111 X ⟨(Nat.le_of_ble_eq_true rfl), (Nat.le_of_ble_eq_true rfl)⟩) hph 0 ly_0 rfl rfl rfl rfl (Nat.le_of_ble_eq_true rfl) dX0_feed_27 ⟨Nat.le_of_ble_eq_true rfl, Nat.le_of_ble_eq_true rfl⟩) (fun s4 h => ?_)
    refine r_aload_n X 0 dX0_feed_30 rfl rfl ?_
    refine r_iload X 4 dX0_feed_31 rfl ?_
    refine r_cv X (r_okVL (As := [.int p4]) (rest := []) X (m_X0_put (xl x) G X.2.2.2.2.1 hph p4 s4 _ h) (cl_X0_111 X ⟨(Nat.le_of_ble_eq_true rfl), (Nat.le_of_ble_eq_true rfl)⟩) hph 0 ly_0 rfl rfl rfl rfl (Nat.le_of_ble_eq_true rfl) dX0_feed_33 ⟨Nat.le_of_ble_eq_true rfl, Nat.le_of_ble_eq_true rfl⟩) (fun s5 h => ?_)
    refine r_aload_n X 0 dX0_feed_36 rfl rfl ?_
    refine r_iload X 5 dX0_feed_37 rfl ?_
    refine r_cv X (r_okVL (As := [.int p5]) (rest := []) X (m_X0_put (xl x) G X.2.2.2.2.1 hph p5 s5 _ h) (cl_X0_111 X ⟨(Nat.le_of_ble_eq_true rfl), (Nat.le_of_ble_eq_true rfl)⟩) hph 0 ly_0 rfl rfl rfl rfl (Nat.le_of_ble_eq_true rfl) dX0_feed_39 ⟨Nat.le_of_ble_eq_true rfl, Nat.le_of_ble_eq_true rfl⟩) (fun s6 h => ?_)
    refine r_aload_n X 0 dX0_feed_42 rfl rfl ?_
    refine gl_X0_108 X hph 0 ly_0 dX0_feed_43 ?_
    exact r_iret X h (Nat.le_of_ble_eq_true rfl) (Nat.le_of_ble_eq_true rfl) dX0_feed_46
  · replace h := h.2 c1
    refine r_iconst (v := (-1)) X dX0_feed_13 rfl ?_
    exact r_iret X h (Nat.le_of_ble_eq_true rfl) (Nat.le_of_ble_eq_true rfl) dX0_feed_14
theorem m_X0_feed (l : Launch) (G : GT) (g : GK G) (hph : kP G = 1) (p1 : Int32) (p2 : Int32) (p3 : Int32) (p4 : Int32) (p5 : Int32) (s : PS) (Q : Int32 → PS → Prop) (h : w_X0_feed G p1 p2 p3 p4 p5 s Q) : Met l yX0_feed (ws_ yX0_feed cX0_feed 6 (some .int)) rm_X0_feed (va_Pc [.ref (kB G + 0), .int p1, .int p2, .int p3, .int p4, .int p5] (Wr G s)) (va_Qi Q (fun u t => Wr G u t) (kF G)) 0 0 (kF G) := by
  refine Met.ofW (cc := cX0_feed) (maxL := 6) (ret := (some .int)) (by decide) rfl ?_
  intro p e s0 m args below meth c s₁ B hml hv
  obtain ⟨rfl, hw⟩ := hv
  exact wb_of [.ref (kB G + 0), .int p1, .int p2, .int p3, .int p4, .int p5] (Nat.le_of_ble_eq_true rfl) hw.1 rfl (e_X0_feed (cx_of g B hml rfl hw) hph p1 p2 p3 p4 p5 s Q h)
theorem e_X0_end {x : CT} {G : GT} (X : Cx x G cX0_end 2 RX0 (some .int) rm_X0_end) (hph : kP G = 1) (p1 : Int32) (s : PS) (Q : Int32 → PS → Prop) (h : w_X0_end G p1 s Q) : WB x G 2 (QfI x G 0 0 Q) 0 0 s 0 [(0, .ref (kB G + 0)), (1, .int p1)] [] := by
  unfold w_X0_end at h
  refine r_iload_n X 1 dX0_end_0 rfl rfl ?_
  refine r_iconst (v := 0) X dX0_end_1 rfl ?_
  refine r_aload_n X 0 dX0_end_2 rfl rfl ?_
  refine gl_X0_108 X hph 0 ly_0 dX0_end_3 ?_
  refine r_ci X (r_okS (As := [.int p1, .int 0, .int (gI s (kB G + 0) 3)]) (rest := []) X (m_X0_in (xl x) G X.2.2.2.2.1 p1 0 (gI s (kB G + 0) 3) s _ h) (cl_X0_77 X ⟨(Nat.le_of_ble_eq_true rfl), (Nat.le_of_ble_eq_true rfl)⟩) rfl rfl (Nat.le_of_ble_eq_true rfl) dX0_end_6 ⟨Nat.le_of_ble_eq_true rfl, Nat.le_of_ble_eq_true rfl⟩) (fun r2 s1 h => ?_)
  obtain ⟨z3, h⟩ := h
  refine r_if_ne X 14 dX0_end_9 (by decide) (fun c4 => ?_) (fun c4 => ?_)
  · replace h := h.2 c4
    refine r_aload_n X 0 dX0_end_14 rfl rfl ?_
    refine r_iload_n X 1 dX0_end_15 rfl rfl ?_
    refine pl_X0_108 X hph 0 ly_0 dX0_end_16 (fun s5 e6 => ?_)
    replace h := h s5 e6
    refine r_iload_n X 1 dX0_end_19 rfl rfl ?_
    exact r_iret X h (Nat.le_of_ble_eq_true rfl) (Nat.le_of_ble_eq_true rfl) dX0_end_20
  · replace h := h.1 c4
    refine r_iconst (v := (-1)) X dX0_end_12 rfl ?_
    exact r_iret X h (Nat.le_of_ble_eq_true rfl) (Nat.le_of_ble_eq_true rfl) dX0_end_13
theorem m_X0_end (l : Launch) (G : GT) (g : GK G) (hph : kP G = 1) (p1 : Int32) (s : PS) (Q : Int32 → PS → Prop) (h : w_X0_end G p1 s Q) : Met l yX0_end (ws_ yX0_end cX0_end 2 (some .int)) rm_X0_end (va_Pc [.ref (kB G + 0), .int p1] (Wr G s)) (va_Qi Q (fun u t => Wr G u t) (kF G)) 0 0 (kF G) := by
  refine Met.ofW (cc := cX0_end) (maxL := 2) (ret := (some .int)) (by decide) rfl ?_
  intro p e s0 m args below meth c s₁ B hml hv
  obtain ⟨rfl, hw⟩ := hv
  exact wb_of [.ref (kB G + 0), .int p1] (Nat.le_of_ble_eq_true rfl) hw.1 rfl (e_X0_end (cx_of g B hml rfl hw) hph p1 s Q h)
theorem e_X3_init {x : CT} {G : GT} (X : Cx x G cX3_init 3 RX3 none rm_X3_init) (hin : (xM x).name = "<init>") (a0 : Nat) (p1 : Nat) (p2 : Int32) (s : PS) (Q : PS → Prop) (h : w_X3_init G a0 p1 p2 s Q) : WB x G 3 (QfV x G 0 0 Q) 0 0 s 0 [(0, .ref a0), (1, .ref p1), (2, .int p2)] [] := by
  unfold w_X3_init at h
  refine r_aload_n X 0 dX3_init_0 rfl rfl ?_
  refine r_objinit X q374 q174 q175 (Nat.le_of_ble_eq_true rfl) (Nat.le_of_ble_eq_true rfl) (Nat.le_of_ble_eq_true rfl) dX3_init_1 ?_
  refine r_aload_n X 0 dX3_init_4 rfl rfl ?_
  refine r_aload_n X 1 dX3_init_5 rfl rfl ?_
  obtain ⟨g1, h⟩ := h
  obtain ⟨g2, h⟩ := h
  refine pf_X3_9 X hin g1 (Or.inl (Nat.le_of_ble_eq_true rfl)) g2 dX3_init_6 (fun s3 e4 => ?_)
  replace h := h s3 e4
  refine r_aload_n X 0 dX3_init_9 rfl rfl ?_
  refine r_iload_n X 2 dX3_init_10 rfl rfl ?_
  have g5 : gT s3 a0 = 103 := by rw [e4]; exact g1
  refine pf_X3_15 X hin g5 g2 dX3_init_11 (fun s6 e7 => ?_)
  replace h := h s6 e7
  exact r_vret X h (Nat.le_of_ble_eq_true rfl) (Nat.le_of_ble_eq_true rfl) dX3_init_14
theorem m_X3_init (l : Launch) (G : GT) (g : GK G) (a0 : Nat) (p1 : Nat) (p2 : Int32) (s : PS) (Q : PS → Prop) (h : w_X3_init G a0 p1 p2 s Q) : Met l yX3_init (ws_ yX3_init cX3_init 3 none) rm_X3_init (va_Pc [.ref a0, .ref p1, .int p2] (Wr G s)) (va_Qv Q (fun u t => Wr G u t) (kF G)) 0 0 (kF G) := by
  refine Met.ofW (cc := cX3_init) (maxL := 3) (ret := none) (by decide) rfl ?_
  intro p e s0 m args below meth c s₁ B hml hv
  obtain ⟨rfl, hw⟩ := hv
  exact wb_of [.ref a0, .ref p1, .int p2] (Nat.le_of_ble_eq_true rfl) hw.1 rfl (e_X3_init (cx_of g B hml rfl hw) (name_of_methodNamed B.named B.method).1 a0 p1 p2 s Q h)
theorem e_X4_init {x : CT} {G : GT} (X : Cx x G cX4_init 1 RX4 none rm_X4_init) (hin : (xM x).name = "<init>") (a0 : Nat) (s : PS) (Q : PS → Prop) (h : w_X4_init G a0 s Q) : WB x G 1 (QfV x G 2 7 Q) 0 0 s 0 [(0, .ref a0)] [] := by
  unfold w_X4_init at h
  refine r_aload_n X 0 dX4_init_0 rfl rfl ?_
  refine r_objinit X q409 q174 q175 (Nat.le_of_ble_eq_true rfl) (Nat.le_of_ble_eq_true rfl) (Nat.le_of_ble_eq_true rfl) dX4_init_1 ?_
  refine r_aload_n X 0 dX4_init_4 rfl rfl ?_
  refine r_iconst (v := 4) X dX4_init_5 rfl ?_
  refine r_newo X 6 (by decide) rfl q410 (nw_A X.2.2.2.2.1 X.2.2.2.2.2.1 q411) tn_4 (by decide +kernel) (Nat.le_of_ble_eq_true rfl) ⟨Nat.le_of_ble_eq_true rfl, Nat.le_of_ble_eq_true rfl⟩ dX4_init_6 (fun z1 e2 w3 u4 s5 e6 => ?_)
  replace h := h z1 e2 w3 u4 s5 e6
  have g7 : gT s5 z1 = 6 := by rw [e6, gT_pNew, if_pos e2]
  obtain ⟨g8, h⟩ := h
  obtain ⟨g9, h⟩ := h
  refine pf_X4_9 X hin g8 (Or.inl (Nat.le_of_ble_eq_true rfl)) g9 dX4_init_9 (fun s10 e11 => ?_)
  replace h := h s10 e11
  refine r_aload_n X 0 dX4_init_12 rfl rfl ?_
  refine r_new X 13 in_J2 tyJ2_ok rfl q412 q413 q145 (df_of df_J2) ⟨Nat.le_of_ble_eq_true rfl, Nat.le_of_ble_eq_true rfl⟩ dX4_init_13 (fun z12 e13 w14 u15 s16 e17 => ?_)
  replace h := h z12 e13 w14 u15 s16 e17
  have g18 : gT s16 z12 = 113 := by rw [e17, gT_pNew, if_pos e13]
  refine r_dup X dX4_init_16 rfl ?_
  refine r_cv X (r_okI (As := []) (rest := [.ref z12, .ref a0]) X (m_J2_init (xl x) G X.2.2.2.2.1 z12 s16 _ h) (cl_X4_17 X ⟨(Nat.le_of_ble_eq_true rfl), (Nat.le_of_ble_eq_true rfl)⟩) rfl rfl (Nat.le_of_ble_eq_true rfl) dX4_init_17 ⟨Nat.le_of_ble_eq_true rfl, Nat.le_of_ble_eq_true rfl⟩) (fun s19 h => ?_)
  obtain ⟨g20, h⟩ := h
  refine pf_X4_18 X hin g20 (Or.inl (Nat.le_of_ble_eq_true rfl)) g9 dX4_init_20 (fun s21 e22 => ?_)
  replace h := h s21 e22
  exact r_vret X h (Nat.le_of_ble_eq_true rfl) (Nat.le_of_ble_eq_true rfl) dX4_init_23
theorem m_X4_init (l : Launch) (G : GT) (g : GK G) (a0 : Nat) (s : PS) (Q : PS → Prop) (h : w_X4_init G a0 s Q) : Met l yX4_init (ws_ yX4_init cX4_init 1 none) rm_X4_init (va_Pc [.ref a0] (Wr G s)) (va_Qv Q (fun u t => Wr G u t) (kF G)) 2 7 (kF G) := by
  refine Met.ofW (cc := cX4_init) (maxL := 1) (ret := none) (by decide) rfl ?_
  intro p e s0 m args below meth c s₁ B hml hv
  obtain ⟨rfl, hw⟩ := hv
  exact wb_of [.ref a0] (Nat.le_of_ble_eq_true rfl) hw.1 rfl (e_X4_init (cx_of g B hml rfl hw) (name_of_methodNamed B.named B.method).1 a0 s Q h)
theorem e_X11_init {x : CT} {G : GT} (X : Cx x G cX11_init 7 RX11 none rm_X11_init) (hin : (xM x).name = "<init>") (a0 : Nat) (p1 : Int32) (p2 : Int32) (p3 : Int32) (p4 : Int32) (p5 : Int32) (p6 : Int32) (s : PS) (Q : PS → Prop) (h : w_X11_init G a0 p1 p2 p3 p4 p5 p6 s Q) : WB x G 7 (QfV x G 0 0 Q) 0 0 s 0 [(0, .ref a0), (1, .int p1), (2, .int p2), (3, .int p3), (4, .int p4), (5, .int p5), (6, .int p6)] [] := by
  unfold w_X11_init at h
  refine r_aload_n X 0 dX11_init_0 rfl rfl ?_
  refine r_cv X (r_okI (As := []) (rest := []) X (m_J10_init (xl x) G X.2.2.2.2.1 a0 s _ h) (cl_X11_1 X ⟨(Nat.le_of_ble_eq_true rfl), (Nat.le_of_ble_eq_true rfl)⟩) rfl rfl (Nat.le_of_ble_eq_true rfl) dX11_init_1 ⟨Nat.le_of_ble_eq_true rfl, Nat.le_of_ble_eq_true rfl⟩) (fun s1 h => ?_)
  refine r_aload_n X 0 dX11_init_4 rfl rfl ?_
  refine r_iload_n X 1 dX11_init_5 rfl rfl ?_
  obtain ⟨g2, h⟩ := h
  obtain ⟨g3, h⟩ := h
  refine pf_X11_7 X hin g2 g3 dX11_init_6 (fun s4 e5 => ?_)
  replace h := h s4 e5
  refine r_aload_n X 0 dX11_init_9 rfl rfl ?_
  refine r_iload_n X 2 dX11_init_10 rfl rfl ?_
  have g6 : gT s4 a0 = 111 := by rw [e5]; exact g2
  refine pf_X11_13 X hin g6 g3 dX11_init_11 (fun s7 e8 => ?_)
  replace h := h s7 e8
  refine r_aload_n X 0 dX11_init_14 rfl rfl ?_
  refine r_iload_n X 3 dX11_init_15 rfl rfl ?_
  have g9 : gT s7 a0 = 111 := by rw [e8]; exact g6
  refine pf_X11_16 X hin g9 g3 dX11_init_16 (fun s10 e11 => ?_)
  replace h := h s10 e11
  refine r_aload_n X 0 dX11_init_19 rfl rfl ?_
  refine r_iload X 4 dX11_init_20 rfl ?_
  have g12 : gT s10 a0 = 111 := by rw [e11]; exact g9
  refine pf_X11_19 X hin g12 g3 dX11_init_22 (fun s13 e14 => ?_)
  replace h := h s13 e14
  refine r_aload_n X 0 dX11_init_25 rfl rfl ?_
  refine r_iload X 5 dX11_init_26 rfl ?_
  have g15 : gT s13 a0 = 111 := by rw [e14]; exact g12
  refine pf_X11_22 X hin g15 g3 dX11_init_28 (fun s16 e17 => ?_)
  replace h := h s16 e17
  refine r_aload_n X 0 dX11_init_31 rfl rfl ?_
  refine r_iload X 6 dX11_init_32 rfl ?_
  have g18 : gT s16 a0 = 111 := by rw [e17]; exact g15
  refine pf_X11_25 X hin g18 g3 dX11_init_34 (fun s19 e20 => ?_)
  replace h := h s19 e20
  exact r_vret X h (Nat.le_of_ble_eq_true rfl) (Nat.le_of_ble_eq_true rfl) dX11_init_37
theorem m_X11_init (l : Launch) (G : GT) (g : GK G) (a0 : Nat) (p1 : Int32) (p2 : Int32) (p3 : Int32) (p4 : Int32) (p5 : Int32) (p6 : Int32) (s : PS) (Q : PS → Prop) (h : w_X11_init G a0 p1 p2 p3 p4 p5 p6 s Q) : Met l yX11_init (ws_ yX11_init cX11_init 7 none) rm_X11_init (va_Pc [.ref a0, .int p1, .int p2, .int p3, .int p4, .int p5, .int p6] (Wr G s)) (va_Qv Q (fun u t => Wr G u t) (kF G)) 0 0 (kF G) := by
  refine Met.ofW (cc := cX11_init) (maxL := 7) (ret := none) (by decide) rfl ?_
  intro p e s0 m args below meth c s₁ B hml hv
  obtain ⟨rfl, hw⟩ := hv
  exact wb_of [.ref a0, .int p1, .int p2, .int p3, .int p4, .int p5, .int p6] (Nat.le_of_ble_eq_true rfl) hw.1 rfl (e_X11_init (cx_of g B hml rfl hw) (name_of_methodNamed B.named B.method).1 a0 p1 p2 p3 p4 p5 p6 s Q h)
theorem e_X3_behind {x : CT} {G : GT} {MC MS : Nat} (X : Cx x G cX3_behind 3 RX3 (some .int) (rm_X3_behind MC MS)) (hnt : ∀ z ∈ (xc x).exceptionTable.toList, False) (hfl : (xl x).stackTraces = false) (a0 : Nat) (p1 : Int32) (p2 : Int32) (s : PS) (Q : Int32 → PS → Prop) (E : Nat → PS → Prop) (h : w_X3_behind G MC MS a0 p1 p2 s Q E) : WB x G 3 (Qx x G MC MS (va_Qi Q (fun u t => Wr G u t) (kF G)) E) 0 0 s 0 [(0, .ref a0), (1, .int p1), (2, .int p2)] [] := by
  unfold w_X3_behind at h
  refine r_aload_n X 0 dX3_behind_0 rfl rfl ?_
  refine r_iload_n X 1 dX3_behind_1 rfl rfl ?_
  obtain ⟨A1, B2, h⟩ := h
  obtain ⟨g3, h⟩ := h
  obtain ⟨g4, h⟩ := h
  refine r_xv X (r_okVX (As := [.int p1]) (rest := []) X (m_X3_want (xl x) G X.2.2.2.2.1 hfl A1 B2 a0 p1 s _ _ h) (cl_X3_111 X ⟨(Nat.le_of_ble_eq_true rfl), (Nat.le_of_ble_eq_true rfl)⟩) 3 g4 rfl rfl rfl rfl (Nat.le_of_ble_eq_true rfl) dX3_behind_2 g3) (fun q6 s7 g8 h => r_out X hnt g8 h (g3).1 (g3).2) (fun s5 h => ?_)
  refine r_aload_n X 0 dX3_behind_5 rfl rfl ?_
  refine r_iconst (v := 0) X dX3_behind_6 rfl ?_
  refine r_iload_n X 2 dX3_behind_7 rfl rfl ?_
  obtain ⟨A10, B11, h⟩ := h
  obtain ⟨g12, h⟩ := h
  obtain ⟨g13, h⟩ := h
  refine r_xi X (r_okVX (As := [.int 0, .int p2]) (rest := []) X (m_X3_number (xl x) G X.2.2.2.2.1 hfl A10 B11 a0 0 p2 s5 _ _ h) (cl_X3_115 X ⟨(Nat.le_of_ble_eq_true rfl), (Nat.le_of_ble_eq_true rfl)⟩) 3 g13 rfl rfl rfl rfl (Nat.le_of_ble_eq_true rfl) dX3_behind_8 g12) (fun q15 s16 g17 h => r_out X hnt g17 h (g12).1 (g12).2) (fun r18 s14 h => ?_)
  obtain ⟨g19, h⟩ := h
  exact r_thr (r_iret X h g19.1 g19.2 dX3_behind_11)
theorem m_X3_behind (l : Launch) (G : GT) (g : GK G) (hfl : l.stackTraces = false) (MC MS : Nat) (a0 : Nat) (p1 : Int32) (p2 : Int32) (s : PS) (Q : Int32 → PS → Prop) (E : Nat → PS → Prop) (h : w_X3_behind G MC MS a0 p1 p2 s Q E) : vx_Met l yX3_behind (ws_ yX3_behind cX3_behind 3 (some .int)) (rm_X3_behind MC MS) (va_Pc [.ref a0, .int p1, .int p2] (Wr G s)) (va_Qi Q (fun u t => Wr G u t) (kF G)) (XW G E) MC MS (kF G) := by
  refine vx_ofW (cc := cX3_behind) (maxL := 3) (ret := (some .int)) (by decide) rfl ?_
  intro p e s0 m args below meth c s₁ B hml hnt hv
  obtain ⟨rfl, hw⟩ := hv
  exact wb_of [.ref a0, .int p1, .int p2] (Nat.le_of_ble_eq_true rfl) hw.1 rfl (e_X3_behind (cx_of g B hml rfl hw) hnt hfl a0 p1 p2 s Q E h)
theorem tb_X3_deed_64 {x : CT} {G : GT} {MC MS : Nat} (X : Cx x G cX3_deed 7 RX3 (some (.object "AgainstFeather$Doing")) (rm_X3_deed MC MS)) (hnt : ∀ z ∈ (xc x).exceptionTable.toList, False) (hfl : (xl x).stackTraces = false) (Q : Nat → PS → Prop) (E : Nat → PS → Prop) (v0 : Nat) (ce sl : Nat) (s : PS) (h : b_X3_deed_64 G MC MS Q E v0 ce sl s) : WB x G 7 (Qx x G MC MS (va_Qr (fun u : Nat × PS => Q u.1 u.2) (fun u a t => a = u.1 ∧ Wr G u.2 t) (kF G)) E) ce sl s 64 [(0, .ref v0)] [] := by
  unfold b_X3_deed_64 at h
  refine r_aload_n X 0 dX3_deed_64 rfl rfl ?_
  refine r_iconst (v := 1) X dX3_deed_65 rfl ?_
  obtain ⟨g1, h⟩ := h
  obtain ⟨g2, h⟩ := h
  refine r_ca X (r_okV (As := [.int 1]) (rest := []) X (m_X3_wrong (xl x) G X.2.2.2.2.1 hfl v0 1 s _ h) (cl_X3_70 X ⟨(Nat.le_of_ble_eq_true rfl), (Nat.le_of_ble_eq_true rfl)⟩) 3 g2 rfl rfl rfl rfl (Nat.le_of_ble_eq_true rfl) dX3_deed_66 g1) (fun r4 s3 h => ?_)
  obtain ⟨g5, h⟩ := h
  obtain ⟨g6, h⟩ := h
  exact r_athrow X dX3_deed_69 (r_out X hnt g5 h g6.1 g6.2)
theorem tl_X3_deed_31 {x : CT} {G : GT} {MC MS : Nat} (X : Cx x G cX3_deed 7 RX3 (some (.object "AgainstFeather$Doing")) (rm_X3_deed MC MS)) (hnt : ∀ z ∈ (xc x).exceptionTable.toList, False) (hfl : (xl x).stackTraces = false) (Q : Nat → PS → Prop) (E : Nat → PS → Prop) (v0 : Nat) (v1 : Int32) (v2 : Int32) (v3 : Int32) (v4 : Int32) : ∀ (n : Nat) (v5 : Int32) (ce : Nat) (sl : Nat) (s : PS) (h : l_X3_deed_31 G MC MS Q E v0 v1 v2 v3 v4 n v5 ce sl s), WB x G 7 (Qx x G MC MS (va_Qr (fun u : Nat × PS => Q u.1 u.2) (fun u a t => a = u.1 ∧ Wr G u.2 t) (kF G)) E) ce sl s 31 [(0, .ref v0), (1, .int v1), (2, .int v2), (3, .int v3), (4, .int v4), (5, .int v5)] [] := by
  intro n
  induction n with
  | zero =>
    intro v5 ce sl s h
    exact False.elim h
  | succ n ih =>
    intro v5 ce sl s h
    unfold l_X3_deed_31 at h
    refine r_aload_n X 0 dX3_deed_31 rfl rfl ?_
    obtain ⟨g1, h⟩ := h
    refine gf_X3_25 X g1 dX3_deed_32 ?_
    refine r_bipush (v := 44) X dX3_deed_35 rfl ?_
    refine r_ic_ne X 110 dX3_deed_37 (by decide) (fun c2 => ?_) (fun c2 => ?_)
    · replace h := h.2 c2
      obtain ⟨g20, h⟩ := h
      refine r_new X 11 in_X11 tyX11_ok rfl q776 q777 q165 (df_of df_X11) g20 dX3_deed_110 (fun z21 e22 w23 u24 s25 e26 => ?_)
      replace h := h z21 e22 w23 u24 s25 e26
      have g27 : gT s25 z21 = 111 := by rw [e26, gT_pNew, if_pos e22]
      refine r_dup X dX3_deed_113 rfl ?_
      refine r_sipush (v := 205) X dX3_deed_114 rfl ?_
      refine r_iload X 4 dX3_deed_117 rfl ?_
      refine r_iload_n X 2 dX3_deed_119 rfl rfl ?_
      refine r_iload_n X 3 dX3_deed_120 rfl rfl ?_
      refine r_iload X 5 dX3_deed_121 rfl ?_
      refine r_iload_n X 1 dX3_deed_123 rfl rfl ?_
      obtain ⟨g28, h⟩ := h
      refine r_cv X (r_okIN (As := [.int 205, .int v4, .int v2, .int v3, .int v5, .int v1]) (rest := [.ref z21]) X (m_X11_init (xl x) G X.2.2.2.2.1 z21 205 v4 v2 v3 v5 v1 s25 _ h) (cl_X3_119 X ⟨(Nat.le_of_ble_eq_true rfl), (Nat.le_of_ble_eq_true rfl)⟩) rfl rfl (Nat.le_of_ble_eq_true rfl) dX3_deed_124 g28) (fun s29 h => ?_)
      obtain ⟨g30, h⟩ := h
      exact r_thr (r_aret X (Or.inl ⟨_, rfl⟩) h g30.1 g30.2 dX3_deed_127)
    · replace h := h.1 c2
      refine r_aload_n X 0 dX3_deed_40 rfl rfl ?_
      obtain ⟨g3, h⟩ := h
      refine r_cv X (r_okV (As := []) (rest := []) X (m_X3_next (xl x) G X.2.2.2.2.1 v0 s _ h) (cl_X3_74 X ⟨(Nat.le_of_ble_eq_true rfl), (Nat.le_of_ble_eq_true rfl)⟩) 3 g1 rfl rfl rfl rfl (Nat.le_of_ble_eq_true rfl) dX3_deed_41 g3) (fun s4 h => ?_)
      refine r_aload_n X 0 dX3_deed_44 rfl rfl ?_
      obtain ⟨g5, h⟩ := h
      refine gf_X3_25 X g5 dX3_deed_45 ?_
      refine r_sipush (v := 219) X dX3_deed_48 rfl ?_
      refine r_ic_lt X 64 dX3_deed_51 (by decide) (fun c6 => ?_) (fun c6 => ?_)
      · replace h := h.1 c6
        refine r_sub [0] rfl ?_
        exact tb_X3_deed_64 X hnt hfl Q E v0 (ce + 0) (sl + 0) s4 h
      · replace h := h.2 c6
        refine r_aload_n X 0 dX3_deed_54 rfl rfl ?_
        refine gf_X3_25 X g5 dX3_deed_55 ?_
        refine r_sipush (v := 221) X dX3_deed_58 rfl ?_
        refine r_ic_le X 70 dX3_deed_61 (by decide) (fun c7 => ?_) (fun c7 => ?_)
        · replace h := h.1 c7
          refine r_iconst (v := 1) X dX3_deed_70 rfl ?_
          refine r_aload_n X 0 dX3_deed_71 rfl rfl ?_
          refine gf_X3_25 X g5 dX3_deed_72 ?_
          refine r_sipush (v := 219) X dX3_deed_75 rfl ?_
          refine r_isub X dX3_deed_78 ?_
          refine r_ishl X dX3_deed_79 ?_
          refine r_nmI (fun y8 e9 => ?_)
          replace h := h y8 e9
          refine r_istore (lv' := [(6, .int y8), (0, .ref v0), (1, .int v1), (2, .int v2), (3, .int v3), (4, .int v4), (5, .int v5)]) X dX3_deed_80 (Nat.le_of_ble_eq_true rfl) rfl ?_
          refine r_iload X 6 dX3_deed_82 rfl ?_
          refine r_iload X 0 dX3_deed_84 rfl ?_
          refine r_iand X dX3_deed_86 ?_
          refine r_if_eq X 96 dX3_deed_87 (by decide) (fun c10 => ?_) (fun c10 => ?_)
          · replace h := h.1 c10
            refine r_iload X 6 dX3_deed_96 rfl ?_
            refine r_iload X 0 dX3_deed_98 rfl ?_
            refine r_ior X dX3_deed_100 ?_
            refine r_nmI (fun y11 e12 => ?_)
            replace h := h y11 e12
            refine r_istore (lv' := [(5, .int y11), (6, .int y8), (0, .ref v0), (1, .int v1), (2, .int v2), (3, .int v3), (4, .int v4)]) X dX3_deed_101 (Nat.le_of_ble_eq_true rfl) rfl ?_
            refine r_aload_n X 2 dX3_deed_103 rfl rfl ?_
            obtain ⟨g13, h⟩ := h
            refine r_cv X (r_okV (As := []) (rest := []) X (m_X3_next (xl x) G X.2.2.2.2.1 v0 s4 _ h) (cl_X3_74 X ⟨(Nat.le_of_ble_eq_true rfl), (Nat.le_of_ble_eq_true rfl)⟩) 3 g5 rfl rfl rfl rfl (Nat.le_of_ble_eq_true rfl) dX3_deed_104 g13) (fun s14 h => ?_)
            refine r_goto X 31 dX3_deed_107 (by decide) ?_
            refine r_sub [2, 3, 4, 5, 6, 0] rfl ?_
            exact ih y11 ((ce + 0) + 0) ((sl + 0) + 0) s14 h
          · replace h := h.2 c10
            refine r_aload_n X 1 dX3_deed_90 rfl rfl ?_
            refine r_iconst (v := 4) X dX3_deed_91 rfl ?_
            obtain ⟨g15, h⟩ := h
            refine r_ca X (r_okV (As := [.int 4]) (rest := []) X (m_X3_wrong (xl x) G X.2.2.2.2.1 hfl v0 4 s4 _ h) (cl_X3_70 X ⟨(Nat.le_of_ble_eq_true rfl), (Nat.le_of_ble_eq_true rfl)⟩) 3 g5 rfl rfl rfl rfl (Nat.le_of_ble_eq_true rfl) dX3_deed_92 g15) (fun r17 s16 h => ?_)
            obtain ⟨g18, h⟩ := h
            obtain ⟨g19, h⟩ := h
            exact r_athrow X dX3_deed_95 (r_out X hnt g18 h g19.1 g19.2)
        · replace h := h.2 c7
          refine r_sub [0] rfl ?_
          exact tb_X3_deed_64 X hnt hfl Q E v0 (ce + 0) (sl + 0) s4 h
theorem e_X3_deed {x : CT} {G : GT} {MC MS : Nat} (X : Cx x G cX3_deed 7 RX3 (some (.object "AgainstFeather$Doing")) (rm_X3_deed MC MS)) (hnt : ∀ z ∈ (xc x).exceptionTable.toList, False) (hfl : (xl x).stackTraces = false) (a0 : Nat) (p1 : Int32) (s : PS) (Q : Nat → PS → Prop) (E : Nat → PS → Prop) (h : w_X3_deed G MC MS a0 p1 s Q E) : WB x G 7 (Qx x G MC MS (va_Qr (fun u : Nat × PS => Q u.1 u.2) (fun u a t => a = u.1 ∧ Wr G u.2 t) (kF G)) E) 0 0 s 0 [(0, .ref a0), (1, .int p1)] [] := by
  unfold w_X3_deed at h
  refine r_aload_n X 0 dX3_deed_0 rfl rfl ?_
  refine r_iconst (v := 0) X dX3_deed_1 rfl ?_
  refine r_bipush (v := 9) X dX3_deed_2 rfl ?_
  obtain ⟨A1, B2, h⟩ := h
  obtain ⟨g3, h⟩ := h
  obtain ⟨g4, h⟩ := h
  refine r_xi X (r_okVX (As := [.int 0, .int 9]) (rest := []) X (m_X3_number (xl x) G X.2.2.2.2.1 hfl A1 B2 a0 0 9 s _ _ h) (cl_X3_115 X ⟨(Nat.le_of_ble_eq_true rfl), (Nat.le_of_ble_eq_true rfl)⟩) 3 g4 rfl rfl rfl rfl (Nat.le_of_ble_eq_true rfl) dX3_deed_4 g3) (fun q6 s7 g8 h => r_out X hnt g8 h (g3).1 (g3).2) (fun r9 s5 h => ?_)
  refine r_istore_n (lv' := [(2, .int r9), (0, .ref a0), (1, .int p1)]) X dX3_deed_7 rfl (Nat.le_of_ble_eq_true rfl) rfl ?_
  refine r_aload_n X 1 dX3_deed_8 rfl rfl ?_
  refine r_sipush (v := 213) X dX3_deed_9 rfl ?_
  refine r_bipush (v := 99) X dX3_deed_12 rfl ?_
  obtain ⟨A10, B11, h⟩ := h
  obtain ⟨g12, h⟩ := h
  obtain ⟨g13, h⟩ := h
  refine r_xi X (r_okVX (As := [.int 213, .int 99]) (rest := []) X (m_X3_behind (xl x) G X.2.2.2.2.1 hfl A10 B11 a0 213 99 s5 _ _ h) (cl_X3_128 X ⟨(Nat.le_of_ble_eq_true rfl), (Nat.le_of_ble_eq_true rfl)⟩) 3 g13 rfl rfl rfl rfl (Nat.le_of_ble_eq_true rfl) dX3_deed_14 g12) (fun q15 s16 g17 h => r_out X hnt g17 h (g12).1 (g12).2) (fun r18 s14 h => ?_)
  refine r_istore_n (lv' := [(3, .int r18), (2, .int r9), (0, .ref a0), (1, .int p1)]) X dX3_deed_17 rfl (Nat.le_of_ble_eq_true rfl) rfl ?_
  refine r_aload_n X 2 dX3_deed_18 rfl rfl ?_
  refine r_sipush (v := 214) X dX3_deed_19 rfl ?_
  refine r_iconst (v := 5) X dX3_deed_22 rfl ?_
  obtain ⟨A19, B20, h⟩ := h
  obtain ⟨g21, h⟩ := h
  obtain ⟨g22, h⟩ := h
  refine r_xi X (r_okVX (As := [.int 214, .int 5]) (rest := []) X (m_X3_behind (xl x) G X.2.2.2.2.1 hfl A19 B20 a0 214 5 s14 _ _ h) (cl_X3_128 X ⟨(Nat.le_of_ble_eq_true rfl), (Nat.le_of_ble_eq_true rfl)⟩) 3 g22 rfl rfl rfl rfl (Nat.le_of_ble_eq_true rfl) dX3_deed_23 g21) (fun q24 s25 g26 h => r_out X hnt g26 h (g21).1 (g21).2) (fun r27 s23 h => ?_)
  refine r_istore (lv' := [(4, .int r27), (3, .int r18), (2, .int r9), (0, .ref a0), (1, .int p1)]) X dX3_deed_26 (Nat.le_of_ble_eq_true rfl) rfl ?_
  refine r_iconst (v := 0) X dX3_deed_28 rfl ?_
  refine r_istore (lv' := [(5, .int 0), (4, .int r27), (3, .int r18), (2, .int r9), (0, .ref a0), (1, .int p1)]) X dX3_deed_29 (Nat.le_of_ble_eq_true rfl) rfl ?_
  refine r_sub [4, 5, 3, 2, 1, 0] rfl ?_
  obtain ⟨n28, h⟩ := h
  exact tl_X3_deed_31 X hnt hfl Q E a0 p1 r9 r18 r27 n28 0 (((0 + A1) + A10) + A19) (((0 + B2) + B11) + B20) s23 h
theorem m_X3_deed (l : Launch) (G : GT) (g : GK G) (hfl : l.stackTraces = false) (MC MS : Nat) (a0 : Nat) (p1 : Int32) (s : PS) (Q : Nat → PS → Prop) (E : Nat → PS → Prop) (h : w_X3_deed G MC MS a0 p1 s Q E) : vx_Met l yX3_deed (ws_ yX3_deed cX3_deed 7 (some (.object "AgainstFeather$Doing"))) (rm_X3_deed MC MS) (va_Pc [.ref a0, .int p1] (Wr G s)) (va_Qr (fun u : Nat × PS => Q u.1 u.2) (fun u a t => a = u.1 ∧ Wr G u.2 t) (kF G)) (XW G E) MC MS (kF G) := by
  refine vx_ofW (cc := cX3_deed) (maxL := 7) (ret := (some (.object "AgainstFeather$Doing"))) (by decide) rfl ?_
  intro p e s0 m args below meth c s₁ B hml hnt hv
  obtain ⟨rfl, hw⟩ := hv
  exact wb_of [.ref a0, .int p1] (Nat.le_of_ble_eq_true rfl) hw.1 rfl (e_X3_deed (cx_of g B hml rfl hw) hnt hfl a0 p1 s Q E h)
theorem tb_X3_kinds_45 {x : CT} {G : GT} {MC MS : Nat} (X : Cx x G cX3_kinds 3 RX3 (some .int) (rm_X3_kinds MC MS)) (hnt : ∀ z ∈ (xc x).exceptionTable.toList, False) (hfl : (xl x).stackTraces = false) (Q : Int32 → PS → Prop) (E : Nat → PS → Prop) (K4 : Int32 → Int32 → Nat → Nat → PS → Prop) (v0 : Nat) (v1 : Int32) (ce sl : Nat) (s : PS) (hK4 : ∀ (v1' : Int32) (v2' : Int32) (ce' : Nat) (sl' : Nat) (s' : PS), K4 v1' v2' ce' sl' s' → WB x G 3 (Qx x G MC MS (va_Qi Q (fun u t => Wr G u t) (kF G)) E) ce' sl' s' 4 [(0, .ref v0), (1, .int v1'), (2, .int v2')] []) (h : b_X3_kinds_45 G MC MS Q E K4 v0 v1 ce sl s) : WB x G 3 (Qx x G MC MS (va_Qi Q (fun u t => Wr G u t) (kF G)) E) ce sl s 45 [(0, .ref v0), (1, .int v1)] [] := by
  unfold b_X3_kinds_45 at h
  refine r_iload_n X 1 dX3_kinds_45 rfl rfl ?_
  refine r_iconst (v := 1) X dX3_kinds_46 rfl ?_
  refine r_aload_n X 0 dX3_kinds_47 rfl rfl ?_
  refine r_iconst (v := 0) X dX3_kinds_48 rfl ?_
  refine r_bipush (v := 9) X dX3_kinds_49 rfl ?_
  obtain ⟨A1, B2, h⟩ := h
  obtain ⟨g3, h⟩ := h
  obtain ⟨g4, h⟩ := h
  refine r_xi X (r_okVX (As := [.int 0, .int 9]) (rest := [.int 1, .int v1]) X (m_X3_number (xl x) G X.2.2.2.2.1 hfl A1 B2 v0 0 9 s _ _ h) (cl_X3_115 X ⟨(Nat.le_of_ble_eq_true rfl), (Nat.le_of_ble_eq_true rfl)⟩) 3 g4 rfl rfl rfl rfl (Nat.le_of_ble_eq_true rfl) dX3_kinds_51 g3) (fun q6 s7 g8 h => r_out X hnt g8 h (g3).1 (g3).2) (fun r9 s5 h => ?_)
  refine r_ishl X dX3_kinds_54 ?_
  refine r_ior X dX3_kinds_55 ?_
  refine r_nmI (fun y10 e11 => ?_)
  replace h := h y10 e11
  refine r_istore_n (lv' := [(1, .int y10), (0, .ref v0)]) X dX3_kinds_56 rfl (Nat.le_of_ble_eq_true rfl) rfl ?_
  refine r_aload_n X 1 dX3_kinds_57 rfl rfl ?_
  obtain ⟨g12, h⟩ := h
  refine gf_X3_25 X g12 dX3_kinds_58 ?_
  refine r_bipush (v := 44) X dX3_kinds_61 rfl ?_
  have hJ : WB x G 3 (Qx x G MC MS (va_Qi Q (fun u t => Wr G u t) (kF G)) E) (ce + A1) (sl + B2) s5 71 [(1, .int y10), (0, .ref v0)] [.int (if (gI s5 v0 4) = 44 then 1 else 0 : Int32)] := by
    refine r_nmI (fun y14 e15 => ?_)
    replace h := h y14 e15
    refine r_istore_n (lv' := [(2, .int y14), (1, .int y10), (0, .ref v0)]) X dX3_kinds_71 rfl (Nat.le_of_ble_eq_true rfl) rfl ?_
    refine r_iload_n X 0 dX3_kinds_72 rfl rfl ?_
    refine r_if_eq X 4 dX3_kinds_73 (by decide) (fun c16 => ?_) (fun c16 => ?_)
    · replace h := h.1 c16
      refine r_sub [2, 1, 0] rfl ?_
      exact hK4 y10 y14 (ce + A1) (sl + B2) s5 h
    · replace h := h.2 c16
      refine r_aload_n X 2 dX3_kinds_76 rfl rfl ?_
      obtain ⟨g17, h⟩ := h
      refine r_cv X (r_okV (As := []) (rest := []) X (m_X3_next (xl x) G X.2.2.2.2.1 v0 s5 _ h) (cl_X3_74 X ⟨(Nat.le_of_ble_eq_true rfl), (Nat.le_of_ble_eq_true rfl)⟩) 3 g12 rfl rfl rfl rfl (Nat.le_of_ble_eq_true rfl) dX3_kinds_77 g17) (fun s18 h => ?_)
      refine r_goto X 4 dX3_kinds_80 (by decide) ?_
      refine r_sub [2, 1, 0] rfl ?_
      exact hK4 y10 y14 ((ce + A1) + 0) ((sl + B2) + 0) s18 h
  refine r_ic_ne X 70 dX3_kinds_63 (by decide) (fun c13 => ?_) (fun c13 => ?_)
  · rw [if_neg c13] at hJ
    refine r_iconst (v := 0) X dX3_kinds_70 rfl ?_
    exact hJ
  · rw [if_pos c13] at hJ
    refine r_iconst (v := 1) X dX3_kinds_66 rfl ?_
    refine r_goto X 71 dX3_kinds_67 (by decide) ?_
    exact hJ
theorem tl_X3_kinds_4 {x : CT} {G : GT} {MC MS : Nat} (X : Cx x G cX3_kinds 3 RX3 (some .int) (rm_X3_kinds MC MS)) (hnt : ∀ z ∈ (xc x).exceptionTable.toList, False) (hfl : (xl x).stackTraces = false) (Q : Int32 → PS → Prop) (E : Nat → PS → Prop) (v0 : Nat) : ∀ (n : Nat) (v1 : Int32) (v2 : Int32) (ce : Nat) (sl : Nat) (s : PS) (h : l_X3_kinds_4 G MC MS Q E v0 n v1 v2 ce sl s), WB x G 3 (Qx x G MC MS (va_Qi Q (fun u t => Wr G u t) (kF G)) E) ce sl s 4 [(0, .ref v0), (1, .int v1), (2, .int v2)] [] := by
  intro n
  induction n with
  | zero =>
    intro v1 v2 ce sl s h
    exact False.elim h
  | succ n ih =>
    intro v1 v2 ce sl s h
    unfold l_X3_kinds_4 at h
    refine r_iload_n X 2 dX3_kinds_4 rfl rfl ?_
    refine r_if_eq X 83 dX3_kinds_5 (by decide) (fun c1 => ?_) (fun c1 => ?_)
    · replace h := h.1 c1
      refine r_iload_n X 1 dX3_kinds_83 rfl rfl ?_
      obtain ⟨g2, h⟩ := h
      exact r_thr (r_iret X h g2.1 g2.2 dX3_kinds_84)
    · replace h := h.2 c1
      refine r_aload_n X 0 dX3_kinds_8 rfl rfl ?_
      obtain ⟨g3, h⟩ := h
      refine gf_X3_25 X g3 dX3_kinds_9 ?_
      refine r_sipush (v := 300) X dX3_kinds_12 rfl ?_
      refine r_ic_ne X 45 dX3_kinds_15 (by decide) (fun c4 => ?_) (fun c4 => ?_)
      · replace h := h.2 c4
        refine r_sub [0, 1] rfl ?_
        exact tb_X3_kinds_45 X hnt hfl Q E (l_X3_kinds_4 G MC MS Q E v0 n) v0 v1 ce sl s ih h
      · replace h := h.1 c4
        refine r_aload_n X 0 dX3_kinds_18 rfl rfl ?_
        refine gf_X3_43 X g3 dX3_kinds_19 ?_
        refine r_bipush (v := 10) X dX3_kinds_22 rfl ?_
        refine r_ic_ge X 45 dX3_kinds_24 (by decide) (fun c5 => ?_) (fun c5 => ?_)
        · replace h := h.1 c5
          refine r_sub [0, 1] rfl ?_
          exact tb_X3_kinds_45 X hnt hfl Q E (l_X3_kinds_4 G MC MS Q E v0 n) v0 v1 ce sl s ih h
        · replace h := h.2 c5
          refine r_iload_n X 1 dX3_kinds_27 rfl rfl ?_
          refine r_aload_n X 0 dX3_kinds_28 rfl rfl ?_
          refine gf_X3_43 X g3 dX3_kinds_29 ?_
          refine r_ishr X dX3_kinds_32 ?_
          refine r_iconst (v := 1) X dX3_kinds_33 rfl ?_
          refine r_iand X dX3_kinds_34 ?_
          refine r_iconst (v := 1) X dX3_kinds_35 rfl ?_
          refine r_ic_ne X 45 dX3_kinds_36 (by decide) (fun c6 => ?_) (fun c6 => ?_)
          · replace h := h.2 c6
            refine r_sub [0, 1] rfl ?_
            exact tb_X3_kinds_45 X hnt hfl Q E (l_X3_kinds_4 G MC MS Q E v0 n) v0 v1 ce sl s ih h
          · replace h := h.1 c6
            refine r_aload_n X 0 dX3_kinds_39 rfl rfl ?_
            refine r_iconst (v := 4) X dX3_kinds_40 rfl ?_
            obtain ⟨g7, h⟩ := h
            refine r_ca X (r_okV (As := [.int 4]) (rest := []) X (m_X3_wrong (xl x) G X.2.2.2.2.1 hfl v0 4 s _ h) (cl_X3_70 X ⟨(Nat.le_of_ble_eq_true rfl), (Nat.le_of_ble_eq_true rfl)⟩) 3 g3 rfl rfl rfl rfl (Nat.le_of_ble_eq_true rfl) dX3_kinds_41 g7) (fun r9 s8 h => ?_)
            obtain ⟨g10, h⟩ := h
            obtain ⟨g11, h⟩ := h
            exact r_athrow X dX3_kinds_44 (r_out X hnt g10 h g11.1 g11.2)
theorem e_X3_kinds {x : CT} {G : GT} {MC MS : Nat} (X : Cx x G cX3_kinds 3 RX3 (some .int) (rm_X3_kinds MC MS)) (hnt : ∀ z ∈ (xc x).exceptionTable.toList, False) (hfl : (xl x).stackTraces = false) (a0 : Nat) (s : PS) (Q : Int32 → PS → Prop) (E : Nat → PS → Prop) (h : w_X3_kinds G MC MS a0 s Q E) : WB x G 3 (Qx x G MC MS (va_Qi Q (fun u t => Wr G u t) (kF G)) E) 0 0 s 0 [(0, .ref a0)] [] := by
  unfold w_X3_kinds at h
  refine r_iconst (v := 0) X dX3_kinds_0 rfl ?_
  refine r_istore_n (lv' := [(1, .int 0), (0, .ref a0)]) X dX3_kinds_1 rfl (Nat.le_of_ble_eq_true rfl) rfl ?_
  refine r_iconst (v := 1) X dX3_kinds_2 rfl ?_
  refine r_istore_n (lv' := [(2, .int 1), (1, .int 0), (0, .ref a0)]) X dX3_kinds_3 rfl (Nat.le_of_ble_eq_true rfl) rfl ?_
  refine r_sub [2, 1, 0] rfl ?_
  obtain ⟨n1, h⟩ := h
  exact tl_X3_kinds_4 X hnt hfl Q E a0 n1 0 1 0 0 s h
theorem m_X3_kinds (l : Launch) (G : GT) (g : GK G) (hfl : l.stackTraces = false) (MC MS : Nat) (a0 : Nat) (s : PS) (Q : Int32 → PS → Prop) (E : Nat → PS → Prop) (h : w_X3_kinds G MC MS a0 s Q E) : vx_Met l yX3_kinds (ws_ yX3_kinds cX3_kinds 3 (some .int)) (rm_X3_kinds MC MS) (va_Pc [.ref a0] (Wr G s)) (va_Qi Q (fun u t => Wr G u t) (kF G)) (XW G E) MC MS (kF G) := by
  refine vx_ofW (cc := cX3_kinds) (maxL := 3) (ret := (some .int)) (by decide) rfl ?_
  intro p e s0 m args below meth c s₁ B hml hnt hv
  obtain ⟨rfl, hw⟩ := hv
  exact wb_of [.ref a0] (Nat.le_of_ble_eq_true rfl) hw.1 rfl (e_X3_kinds (cx_of g B hml rfl hw) hnt hfl a0 s Q E h)
theorem e_X3_doing {x : CT} {G : GT} {MC MS : Nat} (X : Cx x G cX3_doing 4 RX3 (some (.object "AgainstFeather$Doing")) (rm_X3_doing MC MS)) (hnt : ∀ z ∈ (xc x).exceptionTable.toList, False) (hfl : (xl x).stackTraces = false) (a0 : Nat) (p1 : Int32) (s : PS) (Q : Nat → PS → Prop) (E : Nat → PS → Prop) (h : w_X3_doing G MC MS a0 p1 s Q E) : WB x G 4 (Qx x G MC MS (va_Qr (fun u : Nat × PS => Q u.1 u.2) (fun u a t => a = u.1 ∧ Wr G u.2 t) (kF G)) E) 0 0 s 0 [(0, .ref a0), (1, .int p1)] [] := by
  unfold w_X3_doing at h
  refine r_aload_n X 0 dX3_doing_0 rfl rfl ?_
  obtain ⟨g1, h⟩ := h
  refine gf_X3_83 X g1 dX3_doing_1 ?_
  refine r_nmI (fun y2 e3 => ?_)
  replace h := h y2 e3
  by_cases c4 : y2 = 204
  · replace h := h.1 c4
    refine r_tin X 52 dX3_doing_4 204 c4 (by decide) (by decide) rfl (by decide) ?_
    obtain ⟨g5, h⟩ := h
    refine r_new X 11 in_X11 tyX11_ok rfl q776 q777 q165 (df_of df_X11) g5 dX3_doing_52 (fun z6 e7 w8 u9 s10 e11 => ?_)
    replace h := h z6 e7 w8 u9 s10 e11
    have g12 : gT s10 z6 = 111 := by rw [e11, gT_pNew, if_pos e7]
    refine r_dup X dX3_doing_55 rfl ?_
    refine r_aload_n X 0 dX3_doing_56 rfl rfl ?_
    have g13 : gT s10 a0 = 103 := by rw [e11, gT_pNew, if_neg (fun c => by have := u9 _ (show gT s a0 ≠ 0 by rw [g1]; decide); rw [e7] at this; omega)]; exact g1
    refine gf_X3_83 X g13 dX3_doing_57 ?_
    refine r_aload_n X 0 dX3_doing_60 rfl rfl ?_
    refine r_iconst (v := 0) X dX3_doing_61 rfl ?_
    refine r_sipush (v := 999) X dX3_doing_62 rfl ?_
    obtain ⟨A14, B15, h⟩ := h
    obtain ⟨g16, h⟩ := h
    refine r_xi X (r_okVX (As := [.int 0, .int 999]) (rest := [.int (gI s10 a0 7), .ref z6, .ref z6]) X (m_X3_number (xl x) G X.2.2.2.2.1 hfl A14 B15 a0 0 999 s10 _ _ h) (cl_X3_115 X ⟨(Nat.le_of_ble_eq_true rfl), (Nat.le_of_ble_eq_true rfl)⟩) 3 g13 rfl rfl rfl rfl (Nat.le_of_ble_eq_true rfl) dX3_doing_65 g16) (fun q18 s19 g20 h => r_out X hnt g20 h (g16).1 (g16).2) (fun r21 s17 h => ?_)
    refine r_iconst (v := (-1)) X dX3_doing_68 rfl ?_
    refine r_iconst (v := (-1)) X dX3_doing_69 rfl ?_
    refine r_iconst (v := 0) X dX3_doing_70 rfl ?_
    refine r_iload_n X 1 dX3_doing_71 rfl rfl ?_
    obtain ⟨g22, h⟩ := h
    refine r_cv X (r_okIN (As := [.int (gI s10 a0 7), .int r21, .int (-1), .int (-1), .int 0, .int p1]) (rest := [.ref z6]) X (m_X11_init (xl x) G X.2.2.2.2.1 z6 (gI s10 a0 7) r21 (-1) (-1) 0 p1 s17 _ h) (cl_X3_119 X ⟨(Nat.le_of_ble_eq_true rfl), (Nat.le_of_ble_eq_true rfl)⟩) rfl rfl (Nat.le_of_ble_eq_true rfl) dX3_doing_72 g22) (fun s23 h => ?_)
    obtain ⟨g24, h⟩ := h
    exact r_thr (r_aret X (Or.inl ⟨_, rfl⟩) h g24.1 g24.2 dX3_doing_75)
  · replace h := h.2 c4
    by_cases c25 : y2 = 205
    · replace h := h.1 c25
      refine r_tin X 76 dX3_doing_4 205 c25 (by decide) (by decide) rfl (by decide) ?_
      refine r_aload_n X 0 dX3_doing_76 rfl rfl ?_
      refine r_iload_n X 1 dX3_doing_77 rfl rfl ?_
      obtain ⟨A26, B27, h⟩ := h
      obtain ⟨g28, h⟩ := h
      refine r_xa X (r_okVX (As := [.int p1]) (rest := []) X (m_X3_deed (xl x) G X.2.2.2.2.1 hfl A26 B27 a0 p1 s _ _ h) (cl_X3_122 X ⟨(Nat.le_of_ble_eq_true rfl), (Nat.le_of_ble_eq_true rfl)⟩) 3 g1 rfl rfl rfl rfl (Nat.le_of_ble_eq_true rfl) dX3_doing_78 g28) (fun q30 s31 g32 h => r_out X hnt g32 h (g28).1 (g28).2) (fun r33 s29 h => ?_)
      obtain ⟨g34, h⟩ := h
      exact r_thr (r_aret X (Or.inl ⟨_, rfl⟩) h g34.1 g34.2 dX3_doing_81)
    · replace h := h.2 c25
      by_cases c35 : y2 = 206
      · replace h := h.1 c35
        refine r_tin X 82 dX3_doing_4 206 c35 (by decide) (by decide) rfl (by decide) ?_
        obtain ⟨g36, h⟩ := h
        refine r_new X 11 in_X11 tyX11_ok rfl q776 q777 q165 (df_of df_X11) g36 dX3_doing_82 (fun z37 e38 w39 u40 s41 e42 => ?_)
        replace h := h z37 e38 w39 u40 s41 e42
        have g43 : gT s41 z37 = 111 := by rw [e42, gT_pNew, if_pos e38]
        refine r_dup X dX3_doing_85 rfl ?_
        refine r_aload_n X 0 dX3_doing_86 rfl rfl ?_
        have g44 : gT s41 a0 = 103 := by rw [e42, gT_pNew, if_neg (fun c => by have := u40 _ (show gT s a0 ≠ 0 by rw [g1]; decide); rw [e38] at this; omega)]; exact g1
        refine gf_X3_83 X g44 dX3_doing_87 ?_
        refine r_aload_n X 0 dX3_doing_90 rfl rfl ?_
        obtain ⟨A45, B46, h⟩ := h
        obtain ⟨g47, h⟩ := h
        refine r_xi X (r_okVX (As := []) (rest := [.int (gI s41 a0 7), .ref z37, .ref z37]) X (m_X3_kinds (xl x) G X.2.2.2.2.1 hfl A45 B46 a0 s41 _ _ h) (cl_X3_125 X ⟨(Nat.le_of_ble_eq_true rfl), (Nat.le_of_ble_eq_true rfl)⟩) 3 g44 rfl rfl rfl rfl (Nat.le_of_ble_eq_true rfl) dX3_doing_91 g47) (fun q49 s50 g51 h => r_out X hnt g51 h (g47).1 (g47).2) (fun r52 s48 h => ?_)
        refine r_iconst (v := (-1)) X dX3_doing_94 rfl ?_
        refine r_iconst (v := (-1)) X dX3_doing_95 rfl ?_
        refine r_iconst (v := 0) X dX3_doing_96 rfl ?_
        refine r_iload_n X 1 dX3_doing_97 rfl rfl ?_
        obtain ⟨g53, h⟩ := h
        refine r_cv X (r_okIN (As := [.int (gI s41 a0 7), .int r52, .int (-1), .int (-1), .int 0, .int p1]) (rest := [.ref z37]) X (m_X11_init (xl x) G X.2.2.2.2.1 z37 (gI s41 a0 7) r52 (-1) (-1) 0 p1 s48 _ h) (cl_X3_119 X ⟨(Nat.le_of_ble_eq_true rfl), (Nat.le_of_ble_eq_true rfl)⟩) rfl rfl (Nat.le_of_ble_eq_true rfl) dX3_doing_98 g53) (fun s54 h => ?_)
        obtain ⟨g55, h⟩ := h
        exact r_thr (r_aret X (Or.inl ⟨_, rfl⟩) h g55.1 g55.2 dX3_doing_101)
      · replace h := h.2 c35
        by_cases c56 : y2 = 207
        · replace h := h.1 c56
          refine r_tin X 102 dX3_doing_4 207 c56 (by decide) (by decide) rfl (by decide) ?_
          refine r_aload_n X 0 dX3_doing_102 rfl rfl ?_
          refine r_iconst (v := 0) X dX3_doing_103 rfl ?_
          refine r_iconst (v := 5) X dX3_doing_104 rfl ?_
          obtain ⟨A57, B58, h⟩ := h
          obtain ⟨g59, h⟩ := h
          refine r_xi X (r_okVX (As := [.int 0, .int 5]) (rest := []) X (m_X3_number (xl x) G X.2.2.2.2.1 hfl A57 B58 a0 0 5 s _ _ h) (cl_X3_115 X ⟨(Nat.le_of_ble_eq_true rfl), (Nat.le_of_ble_eq_true rfl)⟩) 3 g1 rfl rfl rfl rfl (Nat.le_of_ble_eq_true rfl) dX3_doing_105 g59) (fun q61 s62 g63 h => r_out X hnt g63 h (g59).1 (g59).2) (fun r64 s60 h => ?_)
          refine r_istore_n (lv' := [(2, .int r64), (0, .ref a0), (1, .int p1)]) X dX3_doing_108 rfl (Nat.le_of_ble_eq_true rfl) rfl ?_
          refine r_aload_n X 1 dX3_doing_109 rfl rfl ?_
          refine r_sipush (v := 215) X dX3_doing_110 rfl ?_
          refine r_iconst (v := 5) X dX3_doing_113 rfl ?_
          obtain ⟨A65, B66, h⟩ := h
          obtain ⟨g67, h⟩ := h
          obtain ⟨g68, h⟩ := h
          refine r_xi X (r_okVX (As := [.int 215, .int 5]) (rest := []) X (m_X3_behind (xl x) G X.2.2.2.2.1 hfl A65 B66 a0 215 5 s60 _ _ h) (cl_X3_128 X ⟨(Nat.le_of_ble_eq_true rfl), (Nat.le_of_ble_eq_true rfl)⟩) 3 g68 rfl rfl rfl rfl (Nat.le_of_ble_eq_true rfl) dX3_doing_114 g67) (fun q70 s71 g72 h => r_out X hnt g72 h (g67).1 (g67).2) (fun r73 s69 h => ?_)
          refine r_istore_n (lv' := [(3, .int r73), (2, .int r64), (0, .ref a0), (1, .int p1)]) X dX3_doing_117 rfl (Nat.le_of_ble_eq_true rfl) rfl ?_
          obtain ⟨g74, h⟩ := h
          refine r_new X 11 in_X11 tyX11_ok rfl q776 q777 q165 (df_of df_X11) g74 dX3_doing_118 (fun z75 e76 w77 u78 s79 e80 => ?_)
          replace h := h z75 e76 w77 u78 s79 e80
          have g81 : gT s79 z75 = 111 := by rw [e80, gT_pNew, if_pos e76]
          refine r_dup X dX3_doing_121 rfl ?_
          refine r_aload_n X 2 dX3_doing_122 rfl rfl ?_
          obtain ⟨g82, h⟩ := h
          refine gf_X3_83 X g82 dX3_doing_123 ?_
          refine r_iload_n X 1 dX3_doing_126 rfl rfl ?_
          refine r_iload_n X 0 dX3_doing_127 rfl rfl ?_
          refine r_aload_n X 2 dX3_doing_128 rfl rfl ?_
          refine r_sipush (v := 216) X dX3_doing_129 rfl ?_
          refine r_bipush (v := 99) X dX3_doing_132 rfl ?_
          obtain ⟨A83, B84, h⟩ := h
          obtain ⟨g85, h⟩ := h
          refine r_xi X (r_okVX (As := [.int 216, .int 99]) (rest := [.int r73, .int r64, .int (gI s79 a0 7), .ref z75, .ref z75]) X (m_X3_behind (xl x) G X.2.2.2.2.1 hfl A83 B84 a0 216 99 s79 _ _ h) (cl_X3_128 X ⟨(Nat.le_of_ble_eq_true rfl), (Nat.le_of_ble_eq_true rfl)⟩) 3 g82 rfl rfl rfl rfl (Nat.le_of_ble_eq_true rfl) dX3_doing_134 g85) (fun q87 s88 g89 h => r_out X hnt g89 h (g85).1 (g85).2) (fun r90 s86 h => ?_)
          refine r_iconst (v := 0) X dX3_doing_137 rfl ?_
          refine r_iload_n X 3 dX3_doing_138 rfl rfl ?_
          obtain ⟨g91, h⟩ := h
          refine r_cv X (r_okIN (As := [.int (gI s79 a0 7), .int r64, .int r73, .int r90, .int 0, .int p1]) (rest := [.ref z75]) X (m_X11_init (xl x) G X.2.2.2.2.1 z75 (gI s79 a0 7) r64 r73 r90 0 p1 s86 _ h) (cl_X3_119 X ⟨(Nat.le_of_ble_eq_true rfl), (Nat.le_of_ble_eq_true rfl)⟩) rfl rfl (Nat.le_of_ble_eq_true rfl) dX3_doing_139 g91) (fun s92 h => ?_)
          obtain ⟨g93, h⟩ := h
          exact r_thr (r_aret X (Or.inl ⟨_, rfl⟩) h g93.1 g93.2 dX3_doing_142)
        · replace h := h.2 c56
          by_cases c94 : y2 = 208
          · replace h := h.1 c94
            refine r_tin X 143 dX3_doing_4 208 c94 (by decide) (by decide) rfl (by decide) ?_
            obtain ⟨g95, h⟩ := h
            refine r_new X 11 in_X11 tyX11_ok rfl q776 q777 q165 (df_of df_X11) g95 dX3_doing_143 (fun z96 e97 w98 u99 s100 e101 => ?_)
            replace h := h z96 e97 w98 u99 s100 e101
            have g102 : gT s100 z96 = 111 := by rw [e101, gT_pNew, if_pos e97]
            refine r_dup X dX3_doing_146 rfl ?_
            refine r_aload_n X 0 dX3_doing_147 rfl rfl ?_
            have g103 : gT s100 a0 = 103 := by rw [e101, gT_pNew, if_neg (fun c => by have := u99 _ (show gT s a0 ≠ 0 by rw [g1]; decide); rw [e97] at this; omega)]; exact g1
            refine gf_X3_83 X g103 dX3_doing_148 ?_
            refine r_aload_n X 0 dX3_doing_151 rfl rfl ?_
            refine r_iconst (v := 0) X dX3_doing_152 rfl ?_
            refine r_iconst (v := 5) X dX3_doing_153 rfl ?_
            obtain ⟨A104, B105, h⟩ := h
            obtain ⟨g106, h⟩ := h
            refine r_xi X (r_okVX (As := [.int 0, .int 5]) (rest := [.int (gI s100 a0 7), .ref z96, .ref z96]) X (m_X3_number (xl x) G X.2.2.2.2.1 hfl A104 B105 a0 0 5 s100 _ _ h) (cl_X3_115 X ⟨(Nat.le_of_ble_eq_true rfl), (Nat.le_of_ble_eq_true rfl)⟩) 3 g103 rfl rfl rfl rfl (Nat.le_of_ble_eq_true rfl) dX3_doing_154 g106) (fun q108 s109 g110 h => r_out X hnt g110 h (g106).1 (g106).2) (fun r111 s107 h => ?_)
            refine r_iconst (v := (-1)) X dX3_doing_157 rfl ?_
            refine r_iconst (v := (-1)) X dX3_doing_158 rfl ?_
            refine r_iconst (v := 0) X dX3_doing_159 rfl ?_
            refine r_iload_n X 1 dX3_doing_160 rfl rfl ?_
            obtain ⟨g112, h⟩ := h
            refine r_cv X (r_okIN (As := [.int (gI s100 a0 7), .int r111, .int (-1), .int (-1), .int 0, .int p1]) (rest := [.ref z96]) X (m_X11_init (xl x) G X.2.2.2.2.1 z96 (gI s100 a0 7) r111 (-1) (-1) 0 p1 s107 _ h) (cl_X3_119 X ⟨(Nat.le_of_ble_eq_true rfl), (Nat.le_of_ble_eq_true rfl)⟩) rfl rfl (Nat.le_of_ble_eq_true rfl) dX3_doing_161 g112) (fun s113 h => ?_)
            obtain ⟨g114, h⟩ := h
            exact r_thr (r_aret X (Or.inl ⟨_, rfl⟩) h g114.1 g114.2 dX3_doing_164)
          · replace h := h.2 c94
            by_cases c115 : y2 = 209
            · replace h := h.1 c115
              refine r_tin X 165 dX3_doing_4 209 c115 (by decide) (by decide) rfl (by decide) ?_
              obtain ⟨g116, h⟩ := h
              refine r_new X 11 in_X11 tyX11_ok rfl q776 q777 q165 (df_of df_X11) g116 dX3_doing_165 (fun z117 e118 w119 u120 s121 e122 => ?_)
              replace h := h z117 e118 w119 u120 s121 e122
              have g123 : gT s121 z117 = 111 := by rw [e122, gT_pNew, if_pos e118]
              refine r_dup X dX3_doing_168 rfl ?_
              refine r_aload_n X 0 dX3_doing_169 rfl rfl ?_
              have g124 : gT s121 a0 = 103 := by rw [e122, gT_pNew, if_neg (fun c => by have := u120 _ (show gT s a0 ≠ 0 by rw [g1]; decide); rw [e118] at this; omega)]; exact g1
              refine gf_X3_83 X g124 dX3_doing_170 ?_
              refine r_aload_n X 0 dX3_doing_173 rfl rfl ?_
              refine r_iconst (v := 0) X dX3_doing_174 rfl ?_
              refine r_bipush (v := 23) X dX3_doing_175 rfl ?_
              obtain ⟨A125, B126, h⟩ := h
              obtain ⟨g127, h⟩ := h
              refine r_xi X (r_okVX (As := [.int 0, .int 23]) (rest := [.int (gI s121 a0 7), .ref z117, .ref z117]) X (m_X3_number (xl x) G X.2.2.2.2.1 hfl A125 B126 a0 0 23 s121 _ _ h) (cl_X3_115 X ⟨(Nat.le_of_ble_eq_true rfl), (Nat.le_of_ble_eq_true rfl)⟩) 3 g124 rfl rfl rfl rfl (Nat.le_of_ble_eq_true rfl) dX3_doing_177 g127) (fun q129 s130 g131 h => r_out X hnt g131 h (g127).1 (g127).2) (fun r132 s128 h => ?_)
              refine r_iconst (v := (-1)) X dX3_doing_180 rfl ?_
              refine r_iconst (v := (-1)) X dX3_doing_181 rfl ?_
              refine r_iconst (v := 0) X dX3_doing_182 rfl ?_
              refine r_iload_n X 1 dX3_doing_183 rfl rfl ?_
              obtain ⟨g133, h⟩ := h
              refine r_cv X (r_okIN (As := [.int (gI s121 a0 7), .int r132, .int (-1), .int (-1), .int 0, .int p1]) (rest := [.ref z117]) X (m_X11_init (xl x) G X.2.2.2.2.1 z117 (gI s121 a0 7) r132 (-1) (-1) 0 p1 s128 _ h) (cl_X3_119 X ⟨(Nat.le_of_ble_eq_true rfl), (Nat.le_of_ble_eq_true rfl)⟩) rfl rfl (Nat.le_of_ble_eq_true rfl) dX3_doing_184 g133) (fun s134 h => ?_)
              obtain ⟨g135, h⟩ := h
              exact r_thr (r_aret X (Or.inl ⟨_, rfl⟩) h g135.1 g135.2 dX3_doing_187)
            · replace h := h.2 c115
              by_cases c136 : y2 = 210
              · replace h := h.1 c136
                refine r_tin X 188 dX3_doing_4 210 c136 (by decide) (by decide) rfl (by decide) ?_
                obtain ⟨g137, h⟩ := h
                refine r_new X 11 in_X11 tyX11_ok rfl q776 q777 q165 (df_of df_X11) g137 dX3_doing_188 (fun z138 e139 w140 u141 s142 e143 => ?_)
                replace h := h z138 e139 w140 u141 s142 e143
                have g144 : gT s142 z138 = 111 := by rw [e143, gT_pNew, if_pos e139]
                refine r_dup X dX3_doing_191 rfl ?_
                refine r_aload_n X 0 dX3_doing_192 rfl rfl ?_
                have g145 : gT s142 a0 = 103 := by rw [e143, gT_pNew, if_neg (fun c => by have := u141 _ (show gT s a0 ≠ 0 by rw [g1]; decide); rw [e139] at this; omega)]; exact g1
                refine gf_X3_83 X g145 dX3_doing_193 ?_
                refine r_aload_n X 0 dX3_doing_196 rfl rfl ?_
                refine r_iconst (v := 0) X dX3_doing_197 rfl ?_
                refine r_bipush (v := 7) X dX3_doing_198 rfl ?_
                obtain ⟨A146, B147, h⟩ := h
                obtain ⟨g148, h⟩ := h
                refine r_xi X (r_okVX (As := [.int 0, .int 7]) (rest := [.int (gI s142 a0 7), .ref z138, .ref z138]) X (m_X3_number (xl x) G X.2.2.2.2.1 hfl A146 B147 a0 0 7 s142 _ _ h) (cl_X3_115 X ⟨(Nat.le_of_ble_eq_true rfl), (Nat.le_of_ble_eq_true rfl)⟩) 3 g145 rfl rfl rfl rfl (Nat.le_of_ble_eq_true rfl) dX3_doing_200 g148) (fun q150 s151 g152 h => r_out X hnt g152 h (g148).1 (g148).2) (fun r153 s149 h => ?_)
                refine r_iconst (v := (-1)) X dX3_doing_203 rfl ?_
                refine r_iconst (v := (-1)) X dX3_doing_204 rfl ?_
                refine r_iconst (v := 0) X dX3_doing_205 rfl ?_
                refine r_iload_n X 1 dX3_doing_206 rfl rfl ?_
                obtain ⟨g154, h⟩ := h
                refine r_cv X (r_okIN (As := [.int (gI s142 a0 7), .int r153, .int (-1), .int (-1), .int 0, .int p1]) (rest := [.ref z138]) X (m_X11_init (xl x) G X.2.2.2.2.1 z138 (gI s142 a0 7) r153 (-1) (-1) 0 p1 s149 _ h) (cl_X3_119 X ⟨(Nat.le_of_ble_eq_true rfl), (Nat.le_of_ble_eq_true rfl)⟩) rfl rfl (Nat.le_of_ble_eq_true rfl) dX3_doing_207 g154) (fun s155 h => ?_)
                obtain ⟨g156, h⟩ := h
                exact r_thr (r_aret X (Or.inl ⟨_, rfl⟩) h g156.1 g156.2 dX3_doing_210)
              · replace h := h.2 c136
                by_cases c157 : y2 = 211
                · replace h := h.1 c157
                  refine r_tin X 188 dX3_doing_4 211 c157 (by decide) (by decide) rfl (by decide) ?_
                  obtain ⟨g158, h⟩ := h
                  refine r_new X 11 in_X11 tyX11_ok rfl q776 q777 q165 (df_of df_X11) g158 dX3_doing_188 (fun z159 e160 w161 u162 s163 e164 => ?_)
                  replace h := h z159 e160 w161 u162 s163 e164
                  have g165 : gT s163 z159 = 111 := by rw [e164, gT_pNew, if_pos e160]
                  refine r_dup X dX3_doing_191 rfl ?_
                  refine r_aload_n X 0 dX3_doing_192 rfl rfl ?_
                  have g166 : gT s163 a0 = 103 := by rw [e164, gT_pNew, if_neg (fun c => by have := u162 _ (show gT s a0 ≠ 0 by rw [g1]; decide); rw [e160] at this; omega)]; exact g1
                  refine gf_X3_83 X g166 dX3_doing_193 ?_
                  refine r_aload_n X 0 dX3_doing_196 rfl rfl ?_
                  refine r_iconst (v := 0) X dX3_doing_197 rfl ?_
                  refine r_bipush (v := 7) X dX3_doing_198 rfl ?_
                  obtain ⟨A167, B168, h⟩ := h
                  obtain ⟨g169, h⟩ := h
                  refine r_xi X (r_okVX (As := [.int 0, .int 7]) (rest := [.int (gI s163 a0 7), .ref z159, .ref z159]) X (m_X3_number (xl x) G X.2.2.2.2.1 hfl A167 B168 a0 0 7 s163 _ _ h) (cl_X3_115 X ⟨(Nat.le_of_ble_eq_true rfl), (Nat.le_of_ble_eq_true rfl)⟩) 3 g166 rfl rfl rfl rfl (Nat.le_of_ble_eq_true rfl) dX3_doing_200 g169) (fun q171 s172 g173 h => r_out X hnt g173 h (g169).1 (g169).2) (fun r174 s170 h => ?_)
                  refine r_iconst (v := (-1)) X dX3_doing_203 rfl ?_
                  refine r_iconst (v := (-1)) X dX3_doing_204 rfl ?_
                  refine r_iconst (v := 0) X dX3_doing_205 rfl ?_
                  refine r_iload_n X 1 dX3_doing_206 rfl rfl ?_
                  obtain ⟨g175, h⟩ := h
                  refine r_cv X (r_okIN (As := [.int (gI s163 a0 7), .int r174, .int (-1), .int (-1), .int 0, .int p1]) (rest := [.ref z159]) X (m_X11_init (xl x) G X.2.2.2.2.1 z159 (gI s163 a0 7) r174 (-1) (-1) 0 p1 s170 _ h) (cl_X3_119 X ⟨(Nat.le_of_ble_eq_true rfl), (Nat.le_of_ble_eq_true rfl)⟩) rfl rfl (Nat.le_of_ble_eq_true rfl) dX3_doing_207 g175) (fun s176 h => ?_)
                  obtain ⟨g177, h⟩ := h
                  exact r_thr (r_aret X (Or.inl ⟨_, rfl⟩) h g177.1 g177.2 dX3_doing_210)
                · replace h := h.2 c157
                  have o0 := lv_neT c4 (show Int32.toInt 204 = 204 from rfl)
                  have o1 := lv_neT c25 (show Int32.toInt 205 = 205 from rfl)
                  have o2 := lv_neT c35 (show Int32.toInt 206 = 206 from rfl)
                  have o3 := lv_neT c56 (show Int32.toInt 207 = 207 from rfl)
                  have o4 := lv_neT c94 (show Int32.toInt 208 = 208 from rfl)
                  have o5 := lv_neT c115 (show Int32.toInt 209 = 209 from rfl)
                  have o6 := lv_neT c136 (show Int32.toInt 210 = 210 from rfl)
                  have o7 := lv_neT c157 (show Int32.toInt 211 = 211 from rfl)
                  refine r_tout X 211 dX3_doing_4 (by omega) (by decide) ?_
                  obtain ⟨g178, h⟩ := h
                  refine r_new X 11 in_X11 tyX11_ok rfl q776 q777 q165 (df_of df_X11) g178 dX3_doing_211 (fun z179 e180 w181 u182 s183 e184 => ?_)
                  replace h := h z179 e180 w181 u182 s183 e184
                  have g185 : gT s183 z179 = 111 := by rw [e184, gT_pNew, if_pos e180]
                  refine r_dup X dX3_doing_214 rfl ?_
                  refine r_aload_n X 0 dX3_doing_215 rfl rfl ?_
                  have g186 : gT s183 a0 = 103 := by rw [e184, gT_pNew, if_neg (fun c => by have := u182 _ (show gT s a0 ≠ 0 by rw [g1]; decide); rw [e180] at this; omega)]; exact g1
                  refine gf_X3_83 X g186 dX3_doing_216 ?_
                  refine r_iconst (v := (-1)) X dX3_doing_219 rfl ?_
                  refine r_iconst (v := (-1)) X dX3_doing_220 rfl ?_
                  refine r_iconst (v := (-1)) X dX3_doing_221 rfl ?_
                  refine r_iconst (v := 0) X dX3_doing_222 rfl ?_
                  refine r_iload_n X 1 dX3_doing_223 rfl rfl ?_
                  obtain ⟨g187, h⟩ := h
                  refine r_cv X (r_okIN (As := [.int (gI s183 a0 7), .int (-1), .int (-1), .int (-1), .int 0, .int p1]) (rest := [.ref z179]) X (m_X11_init (xl x) G X.2.2.2.2.1 z179 (gI s183 a0 7) (-1) (-1) (-1) 0 p1 s183 _ h) (cl_X3_119 X ⟨(Nat.le_of_ble_eq_true rfl), (Nat.le_of_ble_eq_true rfl)⟩) rfl rfl (Nat.le_of_ble_eq_true rfl) dX3_doing_224 g187) (fun s188 h => ?_)
                  obtain ⟨g189, h⟩ := h
                  exact r_thr (r_aret X (Or.inl ⟨_, rfl⟩) h g189.1 g189.2 dX3_doing_227)
theorem m_X3_doing (l : Launch) (G : GT) (g : GK G) (hfl : l.stackTraces = false) (MC MS : Nat) (a0 : Nat) (p1 : Int32) (s : PS) (Q : Nat → PS → Prop) (E : Nat → PS → Prop) (h : w_X3_doing G MC MS a0 p1 s Q E) : vx_Met l yX3_doing (ws_ yX3_doing cX3_doing 4 (some (.object "AgainstFeather$Doing"))) (rm_X3_doing MC MS) (va_Pc [.ref a0, .int p1] (Wr G s)) (va_Qr (fun u : Nat × PS => Q u.1 u.2) (fun u a t => a = u.1 ∧ Wr G u.2 t) (kF G)) (XW G E) MC MS (kF G) := by
  refine vx_ofW (cc := cX3_doing) (maxL := 4) (ret := (some (.object "AgainstFeather$Doing"))) (by decide) rfl ?_
  intro p e s0 m args below meth c s₁ B hml hnt hv
  obtain ⟨rfl, hw⟩ := hv
  exact wb_of [.ref a0, .int p1] (Nat.le_of_ble_eq_true rfl) hw.1 rfl (e_X3_doing (cx_of g B hml rfl hw) hnt hfl a0 p1 s Q E h)
theorem tb_X3_read_42 {x : CT} {G : GT} {MC MS : Nat} (X : Cx x G cX3_read 2 RX3 (some (.object "AgainstFeather$Text")) (rm_X3_read MC MS)) (hnt : ∀ z ∈ (xc x).exceptionTable.toList, False) (hfl : (xl x).stackTraces = false) (Q : Nat → PS → Prop) (E : Nat → PS → Prop) (v0 : Nat) (ce sl : Nat) (s : PS) (h : b_X3_read_42 G MC MS Q E v0 ce sl s) : WB x G 2 (Qx x G MC MS (va_Qr (fun u : Nat × PS => Q u.1 u.2) (fun u a t => a = u.1 ∧ Wr G u.2 t) (kF G)) E) ce sl s 42 [(0, .ref v0)] [] := by
  unfold b_X3_read_42 at h
  refine r_aload_n X 0 dX3_read_42 rfl rfl ?_
  refine r_iconst (v := 1) X dX3_read_43 rfl ?_
  obtain ⟨g1, h⟩ := h
  obtain ⟨g2, h⟩ := h
  refine r_ca X (r_okV (As := [.int 1]) (rest := []) X (m_X3_wrong (xl x) G X.2.2.2.2.1 hfl v0 1 s _ h) (cl_X3_70 X ⟨(Nat.le_of_ble_eq_true rfl), (Nat.le_of_ble_eq_true rfl)⟩) 3 g2 rfl rfl rfl rfl (Nat.le_of_ble_eq_true rfl) dX3_read_44 g1) (fun r4 s3 h => ?_)
  obtain ⟨g5, h⟩ := h
  obtain ⟨g6, h⟩ := h
  exact r_athrow X dX3_read_47 (r_out X hnt g5 h g6.1 g6.2)
theorem tb_X3_read_154 {x : CT} {G : GT} {MC MS : Nat} (X : Cx x G cX3_read 2 RX3 (some (.object "AgainstFeather$Text")) (rm_X3_read MC MS)) (hnt : ∀ z ∈ (xc x).exceptionTable.toList, False) (hfl : (xl x).stackTraces = false) (Q : Nat → PS → Prop) (E : Nat → PS → Prop) (K12 : Nat → Nat → PS → Prop) (v0 : Nat) (v1 : Nat) (ce sl : Nat) (s : PS) (hK12 : ∀ (ce' : Nat) (sl' : Nat) (s' : PS), K12 ce' sl' s' → WB x G 2 (Qx x G MC MS (va_Qr (fun u : Nat × PS => Q u.1 u.2) (fun u a t => a = u.1 ∧ Wr G u.2 t) (kF G)) E) ce' sl' s' 12 [(0, .ref v0), (1, .ref v1)] []) (h : b_X3_read_154 G MC MS Q E K12 v0 v1 ce sl s) : WB x G 2 (Qx x G MC MS (va_Qr (fun u : Nat × PS => Q u.1 u.2) (fun u a t => a = u.1 ∧ Wr G u.2 t) (kF G)) E) ce sl s 154 [(0, .ref v0), (1, .ref v1)] [] := by
  unfold b_X3_read_154 at h
  refine r_aload_n X 0 dX3_read_154 rfl rfl ?_
  refine r_bipush (v := 59) X dX3_read_155 rfl ?_
  obtain ⟨A1, B2, h⟩ := h
  obtain ⟨g3, h⟩ := h
  obtain ⟨g4, h⟩ := h
  refine r_xv X (r_okVX (As := [.int 59]) (rest := []) X (m_X3_want (xl x) G X.2.2.2.2.1 hfl A1 B2 v0 59 s _ _ h) (cl_X3_111 X ⟨(Nat.le_of_ble_eq_true rfl), (Nat.le_of_ble_eq_true rfl)⟩) 3 g4 rfl rfl rfl rfl (Nat.le_of_ble_eq_true rfl) dX3_read_157 g3) (fun q6 s7 g8 h => r_out X hnt g8 h (g3).1 (g3).2) (fun s5 h => ?_)
  refine r_aload_n X 1 dX3_read_160 rfl rfl ?_
  refine r_dup X dX3_read_161 rfl ?_
  obtain ⟨g10, h⟩ := h
  refine gf_X3_90 X g10 dX3_read_162 ?_
  refine r_iconst (v := 1) X dX3_read_165 rfl ?_
  refine r_iadd X dX3_read_166 ?_
  obtain ⟨g11, h⟩ := h
  refine pf_X3_90 X g10 g11 dX3_read_167 (fun s12 e13 => ?_)
  replace h := h s12 e13
  refine r_goto X 12 dX3_read_170 (by decide) ?_
  exact hK12 (ce + A1) (sl + B2) s12 h
theorem tb_X3_read_88 {x : CT} {G : GT} {MC MS : Nat} (X : Cx x G cX3_read 2 RX3 (some (.object "AgainstFeather$Text")) (rm_X3_read MC MS)) (hnt : ∀ z ∈ (xc x).exceptionTable.toList, False) (hfl : (xl x).stackTraces = false) (Q : Nat → PS → Prop) (E : Nat → PS → Prop) (K12 : Nat → Nat → PS → Prop) (v0 : Nat) (v1 : Nat) (ce sl : Nat) (s : PS) (hK12 : ∀ (ce' : Nat) (sl' : Nat) (s' : PS), K12 ce' sl' s' → WB x G 2 (Qx x G MC MS (va_Qr (fun u : Nat × PS => Q u.1 u.2) (fun u a t => a = u.1 ∧ Wr G u.2 t) (kF G)) E) ce' sl' s' 12 [(0, .ref v0), (1, .ref v1)] []) (h : b_X3_read_88 G MC MS Q E K12 v0 v1 ce sl s) : WB x G 2 (Qx x G MC MS (va_Qr (fun u : Nat × PS => Q u.1 u.2) (fun u a t => a = u.1 ∧ Wr G u.2 t) (kF G)) E) ce sl s 88 [(0, .ref v0), (1, .ref v1)] [] := by
  unfold b_X3_read_88 at h
  refine r_aload_n X 1 dX3_read_88 rfl rfl ?_
  obtain ⟨g1, h⟩ := h
  refine gf_X3_90 X g1 dX3_read_89 ?_
  refine r_bipush (v := 24) X dX3_read_92 rfl ?_
  refine r_ic_ne X 104 dX3_read_94 (by decide) (fun c2 => ?_) (fun c2 => ?_)
  · replace h := h.2 c2
    refine r_aload_n X 0 dX3_read_104 rfl rfl ?_
    obtain ⟨g9, h⟩ := h
    obtain ⟨g10, h⟩ := h
    refine r_cv X (r_okV (As := []) (rest := []) X (m_X3_next (xl x) G X.2.2.2.2.1 v0 s _ h) (cl_X3_74 X ⟨(Nat.le_of_ble_eq_true rfl), (Nat.le_of_ble_eq_true rfl)⟩) 3 g10 rfl rfl rfl rfl (Nat.le_of_ble_eq_true rfl) dX3_read_105 g9) (fun s11 h => ?_)
    refine r_aload_n X 0 dX3_read_108 rfl rfl ?_
    obtain ⟨g12, h⟩ := h
    refine gf_X3_83 X g12 dX3_read_109 ?_
    refine r_sipush (v := 203) X dX3_read_112 rfl ?_
    refine r_ic_gt X 138 dX3_read_115 (by decide) (fun c13 => ?_) (fun c13 => ?_)
    · replace h := h.1 c13
      refine r_aload_n X 1 dX3_read_138 rfl rfl ?_
      obtain ⟨g14, h⟩ := h
      refine gf_X3_97 X g14 dX3_read_139 ?_
      obtain ⟨q15, g16, h⟩ := h
      refine r_top (show va_rf (gR s11 v1 2) = Value.ref q15 by rw [g16]; rfl) ?_
      refine r_aload_n X 0 dX3_read_142 rfl rfl ?_
      refine r_aload_n X 1 dX3_read_143 rfl rfl ?_
      refine gf_X3_90 X g14 dX3_read_144 ?_
      obtain ⟨A17, B18, h⟩ := h
      obtain ⟨g19, h⟩ := h
      refine r_xa X (r_okVX (As := [.int (gI s11 v1 1)]) (rest := [.ref q15]) X (m_X3_doing (xl x) G X.2.2.2.2.1 hfl A17 B18 v0 (gI s11 v1 1) s11 _ _ h) (cl_X3_101 X ⟨(Nat.le_of_ble_eq_true rfl), (Nat.le_of_ble_eq_true rfl)⟩) 3 g12 rfl rfl rfl rfl (Nat.le_of_ble_eq_true rfl) dX3_read_147 g19) (fun q21 s22 g23 h => r_out X hnt g23 h (g19).1 (g19).2) (fun r24 s20 h => ?_)
      obtain ⟨A25, B26, h⟩ := h
      obtain ⟨g27, h⟩ := h
      obtain ⟨g28, h⟩ := h
      refine r_ci X (r_okV (As := [.ref r24]) (rest := []) X (m_J2_add (xl x) G X.2.2.2.2.1 A25 B26 q15 r24 s20 _ h) (cl_X3_105 X ⟨(Nat.le_of_ble_eq_true rfl), (Nat.le_of_ble_eq_true rfl)⟩) 13 g28 rfl rfl rfl rfl (Nat.le_of_ble_eq_true rfl) dX3_read_150 g27) (fun r30 s29 h => ?_)
      obtain ⟨z31, h⟩ := h
      refine r_pop X dX3_read_153 rfl ?_
      exact tb_X3_read_154 X hnt hfl Q E K12 v0 v1 (((ce + 0) + A17) + A25) (((sl + 0) + B18) + B26) s29 hK12 h
    · replace h := h.2 c13
      refine r_aload_n X 1 dX3_read_118 rfl rfl ?_
      obtain ⟨g32, h⟩ := h
      refine gf_X3_86 X g32 dX3_read_119 ?_
      obtain ⟨q33, g34, h⟩ := h
      refine r_top (show va_rf (gR s11 v1 0) = Value.ref q33 by rw [g34]; rfl) ?_
      refine r_aload_n X 0 dX3_read_122 rfl rfl ?_
      refine gf_X3_83 X g12 dX3_read_123 ?_
      refine r_sipush (v := 200) X dX3_read_126 rfl ?_
      refine r_isub X dX3_read_129 ?_
      refine r_aload_n X 0 dX3_read_130 rfl rfl ?_
      obtain ⟨A35, B36, h⟩ := h
      obtain ⟨g37, h⟩ := h
      obtain ⟨d38, g39, h⟩ := h
      refine r_xa X (r_okVX (As := []) (rest := [.int ((gI s11 v0 7) - 200), .ref q33]) X (m_X3_sum (xl x) G X.2.2.2.2.1 hfl A35 B36 d38 (wr_X3_one G d38) (mr_X3_one (xl x) G X.2.2.2.2.1 hfl d38) v0 s11 _ _ h) (cl_X3_93 (d := d38) X ⟨(by simp only [rm_X3_read, rT] <;> omega), (by simp only [rm_X3_read, rT] <;> omega)⟩) 3 g12 rfl rfl rfl rfl (Nat.le_of_ble_eq_true rfl) dX3_read_131 g37) (fun q41 s42 g43 h => r_out X hnt g43 h (g37).1 (g37).2) (fun r44 s40 h => ?_)
      obtain ⟨g45, h⟩ := h
      obtain ⟨g46, h⟩ := h
      obtain ⟨g47, h⟩ := h
      refine r_aast X g45 g46 g47 dX3_read_134 (fun s48 e49 => ?_)
      replace h := h s48 e49
      refine r_goto X 154 dX3_read_135 (by decide) ?_
      exact tb_X3_read_154 X hnt hfl Q E K12 v0 v1 ((ce + 0) + A35) ((sl + 0) + B36) s48 hK12 h
  · replace h := h.1 c2
    refine r_aload_n X 0 dX3_read_97 rfl rfl ?_
    refine r_bipush (v := 6) X dX3_read_98 rfl ?_
    obtain ⟨g3, h⟩ := h
    obtain ⟨g4, h⟩ := h
    refine r_ca X (r_okV (As := [.int 6]) (rest := []) X (m_X3_wrong (xl x) G X.2.2.2.2.1 hfl v0 6 s _ h) (cl_X3_70 X ⟨(Nat.le_of_ble_eq_true rfl), (Nat.le_of_ble_eq_true rfl)⟩) 3 g4 rfl rfl rfl rfl (Nat.le_of_ble_eq_true rfl) dX3_read_100 g3) (fun r6 s5 h => ?_)
    obtain ⟨g7, h⟩ := h
    obtain ⟨g8, h⟩ := h
    exact r_athrow X dX3_read_103 (r_out X hnt g7 h g8.1 g8.2)
theorem tl_X3_read_12 {x : CT} {G : GT} {MC MS : Nat} (X : Cx x G cX3_read 2 RX3 (some (.object "AgainstFeather$Text")) (rm_X3_read MC MS)) (hnt : ∀ z ∈ (xc x).exceptionTable.toList, False) (hfl : (xl x).stackTraces = false) (Q : Nat → PS → Prop) (E : Nat → PS → Prop) (v0 : Nat) (v1 : Nat) : ∀ (n : Nat) (ce : Nat) (sl : Nat) (s : PS) (h : l_X3_read_12 G MC MS Q E v0 v1 n ce sl s), WB x G 2 (Qx x G MC MS (va_Qr (fun u : Nat × PS => Q u.1 u.2) (fun u a t => a = u.1 ∧ Wr G u.2 t) (kF G)) E) ce sl s 12 [(0, .ref v0), (1, .ref v1)] [] := by
  intro n
  induction n with
  | zero =>
    intro ce sl s h
    exact False.elim h
  | succ n ih =>
    intro ce sl s h
    unfold l_X3_read_12 at h
    refine r_aload_n X 0 dX3_read_12 rfl rfl ?_
    obtain ⟨g1, h⟩ := h
    refine gf_X3_25 X g1 dX3_read_13 ?_
    refine r_sipush (v := 301) X dX3_read_16 rfl ?_
    refine r_ic_eq X 173 dX3_read_19 (by decide) (fun c2 => ?_) (fun c2 => ?_)
    · replace h := h.1 c2
      refine r_aload_n X 1 dX3_read_173 rfl rfl ?_
      obtain ⟨g3, h⟩ := h
      exact r_thr (r_aret X (Or.inl ⟨_, rfl⟩) h g3.1 g3.2 dX3_read_174)
    · replace h := h.2 c2
      refine r_aload_n X 0 dX3_read_22 rfl rfl ?_
      refine gf_X3_25 X g1 dX3_read_23 ?_
      refine r_sipush (v := 200) X dX3_read_26 rfl ?_
      refine r_ic_lt X 42 dX3_read_29 (by decide) (fun c4 => ?_) (fun c4 => ?_)
      · replace h := h.1 c4
        refine r_sub [0] rfl ?_
        exact tb_X3_read_42 X hnt hfl Q E v0 ce sl s h
      · replace h := h.2 c4
        refine r_aload_n X 0 dX3_read_32 rfl rfl ?_
        refine gf_X3_25 X g1 dX3_read_33 ?_
        refine r_sipush (v := 212) X dX3_read_36 rfl ?_
        refine r_ic_le X 48 dX3_read_39 (by decide) (fun c5 => ?_) (fun c5 => ?_)
        · replace h := h.1 c5
          refine r_aload_n X 0 dX3_read_48 rfl rfl ?_
          refine r_aload_n X 0 dX3_read_49 rfl rfl ?_
          refine gf_X3_25 X g1 dX3_read_50 ?_
          obtain ⟨g6, h⟩ := h
          refine pf_X3_83 X g1 g6 dX3_read_53 (fun s7 e8 => ?_)
          replace h := h s7 e8
          refine r_aload_n X 0 dX3_read_56 rfl rfl ?_
          have g9 : gT s7 v0 = 103 := by rw [e8]; exact g1
          refine gf_X3_83 X g9 dX3_read_57 ?_
          refine r_sipush (v := 203) X dX3_read_60 rfl ?_
          refine r_ic_gt X 88 dX3_read_63 (by decide) (fun c10 => ?_) (fun c10 => ?_)
          · replace h := h.1 c10
            exact tb_X3_read_88 X hnt hfl Q E (l_X3_read_12 G MC MS Q E v0 v1 n) v0 v1 ce sl s7 ih h
          · replace h := h.2 c10
            refine r_aload_n X 1 dX3_read_66 rfl rfl ?_
            obtain ⟨g11, h⟩ := h
            refine gf_X3_86 X g11 dX3_read_67 ?_
            obtain ⟨q12, g13, h⟩ := h
            refine r_top (show va_rf (gR s7 v1 0) = Value.ref q12 by rw [g13]; rfl) ?_
            refine r_aload_n X 0 dX3_read_70 rfl rfl ?_
            refine gf_X3_83 X g9 dX3_read_71 ?_
            refine r_sipush (v := 200) X dX3_read_74 rfl ?_
            refine r_isub X dX3_read_77 ?_
            obtain ⟨g14, h⟩ := h
            obtain ⟨g15, h⟩ := h
            refine r_aaldM X g14 (by decide) g15 dX3_read_78 ?_
            refine r_ifnull X 88 dX3_read_79 (by decide) (fun c17 => ?_) (fun q16 c17 => ?_)
            · replace h := h.1 c17
              exact tb_X3_read_88 X hnt hfl Q E (l_X3_read_12 G MC MS Q E v0 v1 n) v0 v1 ce sl s7 ih h
            · replace h := h.2 q16 c17
              refine r_aload_n X 0 dX3_read_82 rfl rfl ?_
              refine r_iconst (v := 4) X dX3_read_83 rfl ?_
              obtain ⟨g18, h⟩ := h
              refine r_ca X (r_okV (As := [.int 4]) (rest := []) X (m_X3_wrong (xl x) G X.2.2.2.2.1 hfl v0 4 s7 _ h) (cl_X3_70 X ⟨(Nat.le_of_ble_eq_true rfl), (Nat.le_of_ble_eq_true rfl)⟩) 3 g9 rfl rfl rfl rfl (Nat.le_of_ble_eq_true rfl) dX3_read_84 g18) (fun r20 s19 h => ?_)
              obtain ⟨g21, h⟩ := h
              obtain ⟨g22, h⟩ := h
              exact r_athrow X dX3_read_87 (r_out X hnt g21 h g22.1 g22.2)
        · replace h := h.2 c5
          refine r_sub [0] rfl ?_
          exact tb_X3_read_42 X hnt hfl Q E v0 ce sl s h
theorem e_X3_read {x : CT} {G : GT} {MC MS : Nat} (X : Cx x G cX3_read 2 RX3 (some (.object "AgainstFeather$Text")) (rm_X3_read MC MS)) (hnt : ∀ z ∈ (xc x).exceptionTable.toList, False) (hfl : (xl x).stackTraces = false) (a0 : Nat) (s : PS) (Q : Nat → PS → Prop) (E : Nat → PS → Prop) (h : w_X3_read G MC MS a0 s Q E) : WB x G 2 (Qx x G MC MS (va_Qr (fun u : Nat × PS => Q u.1 u.2) (fun u a t => a = u.1 ∧ Wr G u.2 t) (kF G)) E) 0 0 s 0 [(0, .ref a0)] [] := by
  unfold w_X3_read at h
  obtain ⟨g1, h⟩ := h
  refine r_new X 4 in_X4 tyX4_ok rfl q404 q405 q142 (df_of df_X4) g1 dX3_read_0 (fun z2 e3 w4 u5 s6 e7 => ?_)
  replace h := h z2 e3 w4 u5 s6 e7
  have g8 : gT s6 z2 = 104 := by rw [e7, gT_pNew, if_pos e3]
  refine r_dup X dX3_read_3 rfl ?_
  obtain ⟨g9, h⟩ := h
  refine r_cv X (r_okIN (As := []) (rest := [.ref z2]) X (m_X4_init (xl x) G X.2.2.2.2.1 z2 s6 _ h) (cl_X3_82 X ⟨(Nat.le_of_ble_eq_true rfl), (Nat.le_of_ble_eq_true rfl)⟩) rfl rfl (Nat.le_of_ble_eq_true rfl) dX3_read_4 g9) (fun s10 h => ?_)
  refine r_astore_n (lv' := [(1, .ref z2), (0, .ref a0)]) X dX3_read_7 rfl (Nat.le_of_ble_eq_true rfl) rfl ?_
  refine r_aload_n X 1 dX3_read_8 rfl rfl ?_
  obtain ⟨g11, h⟩ := h
  obtain ⟨g12, h⟩ := h
  refine r_cv X (r_okV (As := []) (rest := []) X (m_X3_next (xl x) G X.2.2.2.2.1 a0 s10 _ h) (cl_X3_74 X ⟨(Nat.le_of_ble_eq_true rfl), (Nat.le_of_ble_eq_true rfl)⟩) 3 g12 rfl rfl rfl rfl (Nat.le_of_ble_eq_true rfl) dX3_read_9 g11) (fun s13 h => ?_)
  refine r_sub [1, 0] rfl ?_
  obtain ⟨n14, h⟩ := h
  exact tl_X3_read_12 X hnt hfl Q E a0 z2 n14 (((0 + 1) + 2) + 0) (((0 + 3) + 7) + 0) s13 h
theorem m_X3_read (l : Launch) (G : GT) (g : GK G) (hfl : l.stackTraces = false) (MC MS : Nat) (a0 : Nat) (s : PS) (Q : Nat → PS → Prop) (E : Nat → PS → Prop) (h : w_X3_read G MC MS a0 s Q E) : vx_Met l yX3_read (ws_ yX3_read cX3_read 2 (some (.object "AgainstFeather$Text"))) (rm_X3_read MC MS) (va_Pc [.ref a0] (Wr G s)) (va_Qr (fun u : Nat × PS => Q u.1 u.2) (fun u a t => a = u.1 ∧ Wr G u.2 t) (kF G)) (XW G E) MC MS (kF G) := by
  refine vx_ofW (cc := cX3_read) (maxL := 2) (ret := (some (.object "AgainstFeather$Text"))) (by decide) rfl ?_
  intro p e s0 m args below meth c s₁ B hml hnt hv
  obtain ⟨rfl, hw⟩ := hv
  exact wb_of [.ref a0] (Nat.le_of_ble_eq_true rfl) hw.1 rfl (e_X3_read (cx_of g B hml rfl hw) hnt hfl a0 s Q E h)
theorem e_X0_text {x : CT} {G : GT} {MC MS : Nat} (X : Cx x G cX0_text 5 RX0 (some .int) (rm_X0_text MC MS)) (hph : kP G = 1) (htab : (xc x).exceptionTable.toList = tableOf [((30 : Nat), (62 : Nat), (70 : Nat), (128 : Nat)), ((30 : Nat), (62 : Nat), (96 : Nat), (0 : Nat)), ((70 : Nat), (89 : Nat), (96 : Nat), (0 : Nat)), ((96 : Nat), (98 : Nat), (96 : Nat), (0 : Nat))]) (hfl : (xl x).stackTraces = false) (s : PS) (Q : Int32 → PS → Prop) (h : w_X0_text G MC MS s Q) : WB x G 5 (QfI x G MC MS Q) 0 0 s 0 [(0, .ref (kB G + 0))] [] := by
  unfold w_X0_text at h
  refine r_aload_n X 0 dX0_text_0 rfl rfl ?_
  refine gr_X0_12 X hph 0 0 1 ly_0 rfl rfl dX0_text_1 ?_
  refine gr_X0_74 X hph 1 1 2 ly_1 rfl rfl dX0_text_4 ?_
  refine r_iconst (v := 4) X dX0_text_7 rfl ?_
  refine r_ialdL X hph 2 9 ly_2 tn_4 il_4_9 dX0_text_8 ?_
  refine r_iconst (v := 4) X dX0_text_9 rfl ?_
  refine r_ic_ne X 15 dX0_text_10 (by decide) (fun c1 => ?_) (fun c1 => ?_)
  · replace h := h.2 c1
    refine r_aload_n X 0 dX0_text_15 rfl rfl ?_
    refine gl_X0_108 X hph 0 ly_0 dX0_text_16 ?_
    refine r_nmI (fun y3 e4 => ?_)
    replace h := h y3 e4
    refine r_istore_n (lv' := [(1, .int y3), (0, .ref (kB G + 0))]) X dX0_text_19 rfl (Nat.le_of_ble_eq_true rfl) rfl ?_
    refine r_aload_n X 1 dX0_text_20 rfl rfl ?_
    refine r_iconst (v := 0) X dX0_text_21 rfl ?_
    refine pl_X0_23 X hph 0 ly_0 dX0_text_22 (fun s5 e6 => ?_)
    replace h := h s5 e6
    refine r_aload_n X 1 dX0_text_25 rfl rfl ?_
    refine r_iconst (v := (-1)) X dX0_text_26 rfl ?_
    refine pl_X0_27 X hph 0 ly_0 dX0_text_27 (fun s7 e8 => ?_)
    replace h := h s7 e8
    refine r_aload_n X 1 dX0_text_30 rfl rfl ?_
    refine gr_X0_12 X hph 0 0 1 ly_0 rfl rfl dX0_text_31 ?_
    refine gr_X0_115 X hph 1 1 78 ly_1 rfl rfl dX0_text_34 ?_
    refine r_aload_n X 1 dX0_text_37 rfl rfl ?_
    refine gr_X0_12 X hph 0 0 1 ly_0 rfl rfl dX0_text_38 ?_
    refine gr_X0_74 X hph 1 1 2 ly_1 rfl rfl dX0_text_41 ?_
    refine r_iconst (v := 4) X dX0_text_44 rfl ?_
    refine r_ialdL X hph 2 9 ly_2 tn_4 il_4_9 dX0_text_45 ?_
    obtain ⟨g9, h⟩ := h
    refine r_new X 3 in_X3 tyX3_ok rfl q369 q370 q141 (df_of df_X3) g9 dX0_text_46 (fun z10 e11 w12 u13 s14 e15 => ?_)
    replace h := h z10 e11 w12 u13 s14 e15
    have g16 : gT s14 z10 = 103 := by rw [e15, gT_pNew, if_pos e11]
    refine r_dup X dX0_text_49 rfl ?_
    refine r_aload_n X 1 dX0_text_50 rfl rfl ?_
    refine gr_X0_19 X hph 0 0 157 ly_0 rfl rfl dX0_text_51 ?_
    refine r_iload_n X 0 dX0_text_54 rfl rfl ?_
    obtain ⟨g17, h⟩ := h
    refine r_cv X (r_okI (As := [.ref (kB G + 157), .int y3]) (rest := [.ref z10, .int (gI s7 (kB G + 2) 4), .ref (kB G + 78)]) X (m_X3_init (xl x) G X.2.2.2.2.1 z10 (kB G + 157) y3 s14 _ h) (cl_X0_121 X ⟨(Nat.le_of_ble_eq_true rfl), (Nat.le_of_ble_eq_true rfl)⟩) rfl rfl (Nat.le_of_ble_eq_true rfl) dX0_text_55 g17) (fun s18 h => ?_)
    obtain ⟨A19, B20, h⟩ := h
    obtain ⟨g21, h⟩ := h
    obtain ⟨g22, h⟩ := h
    refine r_xa X (r_okVX (As := []) (rest := [.int (gI s7 (kB G + 2) 4), .ref (kB G + 78)]) X (m_X3_read (xl x) G X.2.2.2.2.1 hfl A19 B20 z10 s18 _ _ h) (cl_X0_124 X ⟨(Nat.le_of_ble_eq_true rfl), (Nat.le_of_ble_eq_true rfl)⟩) 3 g22 rfl rfl rfl rfl (Nat.le_of_ble_eq_true rfl) dX0_text_58 g21) (fun q24 s25 g26 h => ?_) (fun r27 s23 h => ?_)
    · refine r_catch X (pc2 := 70) htab (by decide) (by decide) q368 q527 rfl g26 ?_
      refine r_astore_n (lv' := [(2, .ref q24), (1, .int y3), (0, .ref (kB G + 0))]) X dX0_text_70 rfl (Nat.le_of_ble_eq_true rfl) rfl ?_
      refine r_aload_n X 2 dX0_text_71 rfl rfl ?_
      refine r_aload_n X 0 dX0_text_72 rfl rfl ?_
      refine gf_X0_130 X g26 dX0_text_73 ?_
      refine pl_X0_23 X hph 0 ly_0 dX0_text_76 (fun s28 e29 => ?_)
      replace h := h s28 e29
      refine r_aload_n X 2 dX0_text_79 rfl rfl ?_
      refine r_aload_n X 0 dX0_text_80 rfl rfl ?_
      have g30 : gT s28 q24 = 105 := by rw [e29]; exact g26
      refine gf_X0_131 X g30 dX0_text_81 ?_
      refine pl_X0_27 X hph 0 ly_0 dX0_text_84 (fun s31 e32 => ?_)
      replace h := h s31 e32
      refine r_iconst (v := (-1)) X dX0_text_87 rfl ?_
      refine r_istore_n (lv' := [(3, .int (-1)), (2, .ref q24), (1, .int y3), (0, .ref (kB G + 0))]) X dX0_text_88 rfl (Nat.le_of_ble_eq_true rfl) rfl ?_
      refine r_aload_n X 3 dX0_text_89 rfl rfl ?_
      refine r_iconst (v := 0) X dX0_text_90 rfl ?_
      refine pl_X0_108 X hph 0 ly_0 dX0_text_91 (fun s33 e34 => ?_)
      replace h := h s33 e34
      refine r_iload_n X 0 dX0_text_94 rfl rfl ?_
      obtain ⟨g35, h⟩ := h
      exact r_iret X h g35.1 g35.2 dX0_text_95
    · obtain ⟨g36, h⟩ := h
      obtain ⟨g37, h⟩ := h
      obtain ⟨g38, h⟩ := h
      refine r_aast X g36 g37 g38 dX0_text_61 (fun s39 e40 => ?_)
      replace h := h s39 e40
      refine r_aload_n X 1 dX0_text_62 rfl rfl ?_
      refine r_iconst (v := 0) X dX0_text_63 rfl ?_
      refine pl_X0_108 X hph 0 ly_0 dX0_text_64 (fun s41 e42 => ?_)
      replace h := h s41 e42
      refine r_goto X 106 dX0_text_67 (by decide) ?_
      refine r_aload_n X 1 dX0_text_106 rfl rfl ?_
      refine gr_X0_12 X hph 0 0 1 ly_0 rfl rfl dX0_text_107 ?_
      refine gr_X0_74 X hph 1 1 2 ly_1 rfl rfl dX0_text_110 ?_
      refine r_iconst (v := 4) X dX0_text_113 rfl ?_
      refine r_dup2 X dX0_text_114 rfl rfl ?_
      refine r_ialdL X hph 2 9 ly_2 tn_4 il_4_9 dX0_text_115 ?_
      refine r_iconst (v := 1) X dX0_text_116 rfl ?_
      refine r_iadd X dX0_text_117 ?_
      refine r_iastL X hph 2 9 ly_2 tn_4 il_4_9 dX0_text_118 (fun s43 e44 => ?_)
      replace h := h s43 e44
      refine r_aload_n X 1 dX0_text_119 rfl rfl ?_
      refine gr_X0_12 X hph 0 0 1 ly_0 rfl rfl dX0_text_120 ?_
      refine gr_X0_74 X hph 1 1 2 ly_1 rfl rfl dX0_text_123 ?_
      refine r_iconst (v := 4) X dX0_text_126 rfl ?_
      refine r_ialdL X hph 2 9 ly_2 tn_4 il_4_9 dX0_text_127 ?_
      refine r_iconst (v := 1) X dX0_text_128 rfl ?_
      refine r_isub X dX0_text_129 ?_
      obtain ⟨g45, h⟩ := h
      exact r_iret X h g45.1 g45.2 dX0_text_130
  · replace h := h.1 c1
    refine r_iconst (v := (-1)) X dX0_text_13 rfl ?_
    obtain ⟨g2, h⟩ := h
    exact r_iret X h g2.1 g2.2 dX0_text_14
theorem m_X0_text (l : Launch) (G : GT) (g : GK G) (hph : kP G = 1) (hfl : l.stackTraces = false) (MC MS : Nat) (s : PS) (Q : Int32 → PS → Prop) (h : w_X0_text G MC MS s Q) : Met l yX0_text (wsH_ yX0_text cX0_text 5 (some .int) [((30 : Nat), (62 : Nat), (70 : Nat), (128 : Nat)), ((30 : Nat), (62 : Nat), (96 : Nat), (0 : Nat)), ((70 : Nat), (89 : Nat), (96 : Nat), (0 : Nat)), ((96 : Nat), (98 : Nat), (96 : Nat), (0 : Nat))]) (rm_X0_text MC MS) (va_Pc [.ref (kB G + 0)] (Wr G s)) (va_Qi Q (fun u t => Wr G u t) (kF G)) MC MS (kF G) := by
  refine mx_ofH (cc := cX0_text) (maxL := 5) (ret := (some .int)) (hh := [((30 : Nat), (62 : Nat), (70 : Nat), (128 : Nat)), ((30 : Nat), (62 : Nat), (96 : Nat), (0 : Nat)), ((70 : Nat), (89 : Nat), (96 : Nat), (0 : Nat)), ((96 : Nat), (98 : Nat), (96 : Nat), (0 : Nat))]) (by decide) rfl ?_
  intro p e s0 m args below meth c s₁ B hml ht hv
  obtain ⟨rfl, hw⟩ := hv
  exact wb_of [.ref (kB G + 0)] (Nat.le_of_ble_eq_true rfl) hw.1 rfl (e_X0_text (cx_ofH g B hml rfl hw) hph ht hfl s Q h)
theorem e_X0_fault {x : CT} {G : GT} (X : Cx x G cX0_fault 2 RX0 (some .int) rm_X0_fault) (hph : kP G = 1) (p1 : Int32) (s : PS) (Q : Int32 → PS → Prop) (h : w_X0_fault G p1 s Q) : WB x G 2 (QfI x G 0 0 Q) 0 0 s 0 [(0, .ref (kB G + 0)), (1, .int p1)] [] := by
  unfold w_X0_fault at h
  refine r_iload_n X 1 dX0_fault_0 rfl rfl ?_
  have hJ : WB x G 2 (QfI x G 0 0 Q) 0 0 s 24 [(0, .ref (kB G + 0)), (1, .int p1)] [.int (if p1 = 0 then (gI s (kB G + 0) 4) else (if p1 = 1 then (gI s (kB G + 0) 5) else (-1) : Int32) : Int32)] := by
    exact r_iret X h (Nat.le_of_ble_eq_true rfl) (Nat.le_of_ble_eq_true rfl) dX0_fault_24
  refine r_if_ne X 11 dX0_fault_1 (by decide) (fun c2 => ?_) (fun c2 => ?_)
  · rw [if_neg c2] at hJ
    refine r_iload_n X 1 dX0_fault_11 rfl rfl ?_
    refine r_iconst (v := 1) X dX0_fault_12 rfl ?_
    refine r_ic_ne X 23 dX0_fault_13 (by decide) (fun c1 => ?_) (fun c1 => ?_)
    · rw [if_neg c1] at hJ
      refine r_iconst (v := (-1)) X dX0_fault_23 rfl ?_
      exact hJ
    · rw [if_pos c1] at hJ
      refine r_aload_n X 0 dX0_fault_16 rfl rfl ?_
      refine gl_X0_27 X hph 0 ly_0 dX0_fault_17 ?_
      refine r_goto X 24 dX0_fault_20 (by decide) ?_
      exact hJ
  · rw [if_pos c2] at hJ
    refine r_aload_n X 0 dX0_fault_4 rfl rfl ?_
    refine gl_X0_23 X hph 0 ly_0 dX0_fault_5 ?_
    refine r_goto X 24 dX0_fault_8 (by decide) ?_
    exact hJ
theorem m_X0_fault (l : Launch) (G : GT) (g : GK G) (hph : kP G = 1) (p1 : Int32) (s : PS) (Q : Int32 → PS → Prop) (h : w_X0_fault G p1 s Q) : Met l yX0_fault (ws_ yX0_fault cX0_fault 2 (some .int)) rm_X0_fault (va_Pc [.ref (kB G + 0), .int p1] (Wr G s)) (va_Qi Q (fun u t => Wr G u t) (kF G)) 0 0 (kF G) := by
  refine Met.ofW (cc := cX0_fault) (maxL := 2) (ret := (some .int)) (by decide) rfl ?_
  intro p e s0 m args below meth c s₁ B hml hv
  obtain ⟨rfl, hw⟩ := hv
  exact wb_of [.ref (kB G + 0), .int p1] (Nat.le_of_ble_eq_true rfl) hw.1 rfl (e_X0_fault (cx_of g B hml rfl hw) hph p1 s Q h)
theorem e_X0_isText {x : CT} {G : GT} (X : Cx x G cX0_isText 2 RX0 (some .boolean) rm_X0_isText) (hph : kP G = 1) (p1 : Int32) (s : PS) (Q : Int32 → PS → Prop) (h : w_X0_isText G p1 s Q) : WB x G 2 (QfI x G 0 0 (fun r u => (r = 0 ∨ r = 1) ∧ Q r u)) 0 0 s 0 [(0, .ref (kB G + 0)), (1, .int p1)] [] := by
  unfold w_X0_isText at h
  refine r_iload_n X 1 dX0_isText_0 rfl rfl ?_
  refine r_iconst (v := 0) X dX0_isText_1 rfl ?_
  refine r_aload_n X 0 dX0_isText_2 rfl rfl ?_
  refine gr_X0_12 X hph 0 0 1 ly_0 rfl rfl dX0_isText_3 ?_
  refine gr_X0_74 X hph 1 1 2 ly_1 rfl rfl dX0_isText_6 ?_
  refine r_iconst (v := 4) X dX0_isText_9 rfl ?_
  refine r_ialdL X hph 2 9 ly_2 tn_4 il_4_9 dX0_isText_10 ?_
  refine r_iconst (v := 1) X dX0_isText_11 rfl ?_
  refine r_isub X dX0_isText_12 ?_
  refine r_ci X (r_okS (As := [.int p1, .int 0, .int ((gI s (kB G + 2) 4) - 1)]) (rest := []) X (m_X0_in (xl x) G X.2.2.2.2.1 p1 0 ((gI s (kB G + 2) 4) - 1) s _ h) (cl_X0_77 X ⟨(Nat.le_of_ble_eq_true rfl), (Nat.le_of_ble_eq_true rfl)⟩) rfl rfl (Nat.le_of_ble_eq_true rfl) dX0_isText_13 ⟨Nat.le_of_ble_eq_true rfl, Nat.le_of_ble_eq_true rfl⟩) (fun r2 s1 h => ?_)
  obtain ⟨z3, h⟩ := h
  exact r_zret X z3 h (Nat.le_of_ble_eq_true rfl) (Nat.le_of_ble_eq_true rfl) dX0_isText_16
theorem m_X0_isText (l : Launch) (G : GT) (g : GK G) (hph : kP G = 1) (p1 : Int32) (s : PS) (Q : Int32 → PS → Prop) (h : w_X0_isText G p1 s Q) : Met l yX0_isText (ws_ yX0_isText cX0_isText 2 (some .boolean)) rm_X0_isText (va_Pc [.ref (kB G + 0), .int p1] (Wr G s)) (va_Qi (fun r u => (r = 0 ∨ r = 1) ∧ Q r u) (fun u t => Wr G u t) (kF G)) 0 0 (kF G) := by
  refine Met.ofW (cc := cX0_isText) (maxL := 2) (ret := (some .boolean)) (by decide) rfl ?_
  intro p e s0 m args below meth c s₁ B hml hv
  obtain ⟨rfl, hw⟩ := hv
  exact wb_of [.ref (kB G + 0), .int p1] (Nat.le_of_ble_eq_true rfl) hw.1 rfl (e_X0_isText (cx_of g B hml rfl hw) hph p1 s Q h)
theorem tb_X0_by_15 {x : CT} {G : GT} (X : Cx x G cX0_by 2 RX0 (some .boolean) rm_X0_by) (hph : kP G = 1) (Q : Int32 → PS → Prop) (v1 : Int32) (s : PS) (h : b_X0_by_15 G Q v1 s) : WB x G 2 (QfI x G 0 0 (fun r u => (r = 0 ∨ r = 1) ∧ Q r u)) 0 0 s 15 [(0, .ref (kB G + 0)), (1, .int v1)] [] := by
  unfold b_X0_by_15 at h
  refine r_aload_n X 0 dX0_by_15 rfl rfl ?_
  refine gr_X0_12 X hph 0 0 1 ly_0 rfl rfl dX0_by_16 ?_
  refine gr_X0_74 X hph 1 1 2 ly_1 rfl rfl dX0_by_19 ?_
  refine r_iconst (v := 5) X dX0_by_22 rfl ?_
  refine r_iload_n X 1 dX0_by_23 rfl rfl ?_
  refine r_iastL X hph 2 9 ly_2 tn_5 il_5_9 dX0_by_24 (fun s1 e2 => ?_)
  replace h := h s1 e2
  refine r_iconst (v := 1) X dX0_by_25 rfl ?_
  exact r_zret X (Or.inr rfl) h (Nat.le_of_ble_eq_true rfl) (Nat.le_of_ble_eq_true rfl) dX0_by_26
theorem e_X0_by {x : CT} {G : GT} (X : Cx x G cX0_by 2 RX0 (some .boolean) rm_X0_by) (hph : kP G = 1) (p1 : Int32) (s : PS) (Q : Int32 → PS → Prop) (h : w_X0_by G p1 s Q) : WB x G 2 (QfI x G 0 0 (fun r u => (r = 0 ∨ r = 1) ∧ Q r u)) 0 0 s 0 [(0, .ref (kB G + 0)), (1, .int p1)] [] := by
  unfold w_X0_by at h
  refine r_iload_n X 1 dX0_by_0 rfl rfl ?_
  refine r_iconst (v := (-1)) X dX0_by_1 rfl ?_
  refine r_ic_eq X 15 dX0_by_2 (by decide) (fun c1 => ?_) (fun c1 => ?_)
  · replace h := h.1 c1
    exact tb_X0_by_15 X hph Q p1 s h
  · replace h := h.2 c1
    refine r_aload_n X 0 dX0_by_5 rfl rfl ?_
    refine r_iload_n X 1 dX0_by_6 rfl rfl ?_
    refine r_ci X (r_okVL (As := [.int p1]) (rest := []) X (m_X0_isText (xl x) G X.2.2.2.2.1 hph p1 s _ h) (cl_X0_134 X ⟨(Nat.le_of_ble_eq_true rfl), (Nat.le_of_ble_eq_true rfl)⟩) hph 0 ly_0 rfl rfl rfl rfl (Nat.le_of_ble_eq_true rfl) dX0_by_7 ⟨Nat.le_of_ble_eq_true rfl, Nat.le_of_ble_eq_true rfl⟩) (fun r3 s2 h => ?_)
    obtain ⟨z4, h⟩ := h
    refine r_if_ne X 15 dX0_by_10 (by decide) (fun c5 => ?_) (fun c5 => ?_)
    · replace h := h.2 c5
      exact tb_X0_by_15 X hph Q p1 s2 h
    · replace h := h.1 c5
      refine r_iconst (v := 0) X dX0_by_13 rfl ?_
      exact r_zret X (Or.inl rfl) h (Nat.le_of_ble_eq_true rfl) (Nat.le_of_ble_eq_true rfl) dX0_by_14
theorem m_X0_by (l : Launch) (G : GT) (g : GK G) (hph : kP G = 1) (p1 : Int32) (s : PS) (Q : Int32 → PS → Prop) (h : w_X0_by G p1 s Q) : Met l yX0_by (ws_ yX0_by cX0_by 2 (some .boolean)) rm_X0_by (va_Pc [.ref (kB G + 0), .int p1] (Wr G s)) (va_Qi (fun r u => (r = 0 ∨ r = 1) ∧ Q r u) (fun u t => Wr G u t) (kF G)) 0 0 (kF G) := by
  refine Met.ofW (cc := cX0_by) (maxL := 2) (ret := (some .boolean)) (by decide) rfl ?_
  intro p e s0 m args below meth c s₁ B hml hv
  obtain ⟨rfl, hw⟩ := hv
  exact wb_of [.ref (kB G + 0), .int p1] (Nat.le_of_ble_eq_true rfl) hw.1 rfl (e_X0_by (cx_of g B hml rfl hw) hph p1 s Q h)
theorem e_X1_owes {x : CT} {G : GT} (X : Cx x G cX1_owes 3 RX1 (some .int) rm_X1_owes) (a0 : Nat) (p1 : Int32) (p2 : Int32) (s : PS) (Q : Int32 → PS → Prop) (h : w_X1_owes G a0 p1 p2 s Q) : WB x G 3 (QfI x G 0 0 Q) 0 0 s 0 [(0, .ref a0), (1, .int p1), (2, .int p2)] [] := by
  unfold w_X1_owes at h
  refine r_aload_n X 0 dX1_owes_0 rfl rfl ?_
  obtain ⟨g1, h⟩ := h
  refine gf_X1_21 X g1 dX1_owes_1 ?_
  obtain ⟨q2, g3, h⟩ := h
  refine r_top (show va_rf (gR s a0 3) = Value.ref q2 by rw [g3]; rfl) ?_
  refine r_bipush (v := 8) X dX1_owes_4 rfl ?_
  refine r_bipush (v := 6) X dX1_owes_6 rfl ?_
  refine r_iload_n X 1 dX1_owes_8 rfl rfl ?_
  refine r_imul X dX1_owes_9 ?_
  refine r_iadd X dX1_owes_10 ?_
  refine r_iload_n X 2 dX1_owes_11 rfl rfl ?_
  refine r_iadd X dX1_owes_12 ?_
  obtain ⟨g4, h⟩ := h
  obtain ⟨g5, h⟩ := h
  refine r_iald X g4 g5 dX1_owes_13 ?_
  exact r_iret X h (Nat.le_of_ble_eq_true rfl) (Nat.le_of_ble_eq_true rfl) dX1_owes_14
theorem m_X1_owes (l : Launch) (G : GT) (g : GK G) (a0 : Nat) (p1 : Int32) (p2 : Int32) (s : PS) (Q : Int32 → PS → Prop) (h : w_X1_owes G a0 p1 p2 s Q) : Met l yX1_owes (ws_ yX1_owes cX1_owes 3 (some .int)) rm_X1_owes (va_Pc [.ref a0, .int p1, .int p2] (Wr G s)) (va_Qi Q (fun u t => Wr G u t) (kF G)) 0 0 (kF G) := by
  refine Met.ofW (cc := cX1_owes) (maxL := 3) (ret := (some .int)) (by decide) rfl ?_
  intro p e s0 m args below meth c s₁ B hml hv
  obtain ⟨rfl, hw⟩ := hv
  exact wb_of [.ref a0, .int p1, .int p2] (Nat.le_of_ble_eq_true rfl) hw.1 rfl (e_X1_owes (cx_of g B hml rfl hw) a0 p1 p2 s Q h)
theorem tb_X1_keeps_54 {x : CT} {G : GT} (X : Cx x G cX1_keeps 2 RX1 none rm_X1_keeps) (Q : PS → Prop) (v0 : Nat) (s : PS) (h : b_X1_keeps_54 G Q v0 s) : WB x G 2 (QfV x G 0 0 Q) 0 0 s 54 [(0, .ref v0)] [] := by
  unfold b_X1_keeps_54 at h
  refine r_aload_n X 0 dX1_keeps_54 rfl rfl ?_
  obtain ⟨g1, h⟩ := h
  refine gf_X1_21 X g1 dX1_keeps_55 ?_
  obtain ⟨q2, g3, h⟩ := h
  refine r_top (show va_rf (gR s v0 3) = Value.ref q2 by rw [g3]; rfl) ?_
  refine r_aload_n X 0 dX1_keeps_58 rfl rfl ?_
  refine gf_X1_35 X g1 dX1_keeps_59 ?_
  obtain ⟨q4, g5, h⟩ := h
  refine r_top (show va_rf (gR s v0 7) = Value.ref q4 by rw [g5]; rfl) ?_
  refine r_aload_n X 0 dX1_keeps_62 rfl rfl ?_
  refine gf_X1_9 X g1 dX1_keeps_63 ?_
  obtain ⟨q6, g7, h⟩ := h
  refine r_top (show va_rf (gR s v0 0) = Value.ref q6 by rw [g7]; rfl) ?_
  refine r_bipush (v := 6) X dX1_keeps_66 rfl ?_
  obtain ⟨g8, h⟩ := h
  obtain ⟨g9, h⟩ := h
  refine r_iald X g8 g9 dX1_keeps_68 ?_
  obtain ⟨g10, h⟩ := h
  obtain ⟨g11, h⟩ := h
  refine r_aald X (by rw [g10]; decide) (by rw [g10]; decide) g11 dX1_keeps_69 ?_
  obtain ⟨q12, g13, h⟩ := h
  refine r_top (show va_rf (gR s q4 (Int32.toNatClampNeg (gI s q6 (Int32.toNatClampNeg 6)))) = Value.ref q12 by rw [g13]; rfl) ?_
  refine r_cv X (r_okS (As := [.ref q2, .ref q12]) (rest := []) X (m_X1_copy (xl x) G X.2.2.2.2.1 q2 q12 s _ h) (cl_X1_50 X ⟨(Nat.le_of_ble_eq_true rfl), (Nat.le_of_ble_eq_true rfl)⟩) rfl rfl (Nat.le_of_ble_eq_true rfl) dX1_keeps_70 ⟨Nat.le_of_ble_eq_true rfl, Nat.le_of_ble_eq_true rfl⟩) (fun s14 h => ?_)
  refine r_aload_n X 0 dX1_keeps_73 rfl rfl ?_
  obtain ⟨g15, h⟩ := h
  refine gf_X1_9 X g15 dX1_keeps_74 ?_
  obtain ⟨q16, g17, h⟩ := h
  refine r_top (show va_rf (gR s14 v0 0) = Value.ref q16 by rw [g17]; rfl) ?_
  refine r_bipush (v := 6) X dX1_keeps_77 rfl ?_
  refine r_dup2 X dX1_keeps_79 rfl rfl ?_
  obtain ⟨g18, h⟩ := h
  obtain ⟨g19, h⟩ := h
  refine r_iald X g18 g19 dX1_keeps_80 ?_
  refine r_iconst (v := 1) X dX1_keeps_81 rfl ?_
  refine r_iadd X dX1_keeps_82 ?_
  obtain ⟨g20, h⟩ := h
  refine r_iast X g18 g19 g20 dX1_keeps_83 (fun s21 e22 => ?_)
  replace h := h s21 e22
  exact r_vret X h (Nat.le_of_ble_eq_true rfl) (Nat.le_of_ble_eq_true rfl) dX1_keeps_84
theorem tl_X1_keeps_14 {x : CT} {G : GT} (X : Cx x G cX1_keeps 2 RX1 none rm_X1_keeps) (Q : PS → Prop) (v0 : Nat) : ∀ (n : Nat) (v1 : Int32) (s : PS) (h : l_X1_keeps_14 G Q v0 n v1 s), WB x G 2 (QfV x G 0 0 Q) 0 0 s 14 [(0, .ref v0), (1, .int v1)] [] := by
  intro n
  induction n with
  | zero =>
    intro v1 s h
    exact False.elim h
  | succ n ih =>
    intro v1 s h
    unfold l_X1_keeps_14 at h
    refine r_iload_n X 1 dX1_keeps_14 rfl rfl ?_
    refine r_bipush (v := 30) X dX1_keeps_15 rfl ?_
    refine r_ic_ge X 43 dX1_keeps_17 (by decide) (fun c1 => ?_) (fun c1 => ?_)
    · replace h := h.1 c1
      refine r_aload_n X 0 dX1_keeps_43 rfl rfl ?_
      obtain ⟨g2, h⟩ := h
      refine gf_X1_9 X g2 dX1_keeps_44 ?_
      obtain ⟨q3, g4, h⟩ := h
      refine r_top (show va_rf (gR s v0 0) = Value.ref q3 by rw [g4]; rfl) ?_
      refine r_bipush (v := 6) X dX1_keeps_47 rfl ?_
      refine r_dup2 X dX1_keeps_49 rfl rfl ?_
      obtain ⟨g5, h⟩ := h
      obtain ⟨g6, h⟩ := h
      refine r_iald X g5 g6 dX1_keeps_50 ?_
      refine r_iconst (v := 1) X dX1_keeps_51 rfl ?_
      refine r_isub X dX1_keeps_52 ?_
      obtain ⟨g7, h⟩ := h
      refine r_iast X g5 g6 g7 dX1_keeps_53 (fun s8 e9 => ?_)
      replace h := h s8 e9
      refine r_sub [0] rfl ?_
      exact tb_X1_keeps_54 X Q v0 s8 h
    · replace h := h.2 c1
      refine r_aload_n X 0 dX1_keeps_20 rfl rfl ?_
      obtain ⟨g10, h⟩ := h
      refine gf_X1_35 X g10 dX1_keeps_21 ?_
      obtain ⟨q11, g12, h⟩ := h
      refine r_top (show va_rf (gR s v0 7) = Value.ref q11 by rw [g12]; rfl) ?_
      refine r_iload_n X 1 dX1_keeps_24 rfl rfl ?_
      obtain ⟨g13, h⟩ := h
      obtain ⟨g14, h⟩ := h
      refine r_aald X (by rw [g13]; decide) (by rw [g13]; decide) g14 dX1_keeps_25 ?_
      obtain ⟨q15, g16, h⟩ := h
      refine r_top (show va_rf (gR s q11 (Int32.toNatClampNeg v1)) = Value.ref q15 by rw [g16]; rfl) ?_
      refine r_aload_n X 0 dX1_keeps_26 rfl rfl ?_
      refine gf_X1_35 X g10 dX1_keeps_27 ?_
      obtain ⟨q17, g18, h⟩ := h
      refine r_top (show va_rf (gR s v0 7) = Value.ref q17 by rw [g18]; rfl) ?_
      refine r_iload_n X 1 dX1_keeps_30 rfl rfl ?_
      refine r_iconst (v := 1) X dX1_keeps_31 rfl ?_
      refine r_isub X dX1_keeps_32 ?_
      obtain ⟨g19, h⟩ := h
      obtain ⟨g20, h⟩ := h
      refine r_aald X (by rw [g19]; decide) (by rw [g19]; decide) g20 dX1_keeps_33 ?_
      obtain ⟨q21, g22, h⟩ := h
      refine r_top (show va_rf (gR s q17 (Int32.toNatClampNeg (v1 - 1))) = Value.ref q21 by rw [g22]; rfl) ?_
      refine r_cv X (r_okS (As := [.ref q15, .ref q21]) (rest := []) X (m_X1_copy (xl x) G X.2.2.2.2.1 q15 q21 s _ h) (cl_X1_50 X ⟨(Nat.le_of_ble_eq_true rfl), (Nat.le_of_ble_eq_true rfl)⟩) rfl rfl (Nat.le_of_ble_eq_true rfl) dX1_keeps_34 ⟨Nat.le_of_ble_eq_true rfl, Nat.le_of_ble_eq_true rfl⟩) (fun s23 h => ?_)
      refine r_iinc (lv' := [(1, .int (v1 + 1)), (0, .ref v0)]) X 1 dX1_keeps_37 rfl rfl (Nat.le_of_ble_eq_true rfl) rfl ?_
      refine r_goto X 14 dX1_keeps_40 (by decide) ?_
      refine r_sub [1, 0] rfl ?_
      exact ih (v1 + 1) s23 h
theorem e_X1_keeps {x : CT} {G : GT} (X : Cx x G cX1_keeps 2 RX1 none rm_X1_keeps) (a0 : Nat) (s : PS) (Q : PS → Prop) (h : w_X1_keeps G a0 s Q) : WB x G 2 (QfV x G 0 0 Q) 0 0 s 0 [(0, .ref a0)] [] := by
  unfold w_X1_keeps at h
  refine r_aload_n X 0 dX1_keeps_0 rfl rfl ?_
  obtain ⟨g1, h⟩ := h
  refine gf_X1_9 X g1 dX1_keeps_1 ?_
  obtain ⟨q2, g3, h⟩ := h
  refine r_top (show va_rf (gR s a0 0) = Value.ref q2 by rw [g3]; rfl) ?_
  refine r_bipush (v := 6) X dX1_keeps_4 rfl ?_
  obtain ⟨g4, h⟩ := h
  obtain ⟨g5, h⟩ := h
  refine r_iald X g4 g5 dX1_keeps_6 ?_
  refine r_bipush (v := 30) X dX1_keeps_7 rfl ?_
  refine r_ic_ne X 54 dX1_keeps_9 (by decide) (fun c6 => ?_) (fun c6 => ?_)
  · replace h := h.2 c6
    exact tb_X1_keeps_54 X Q a0 s h
  · replace h := h.1 c6
    refine r_iconst (v := 1) X dX1_keeps_12 rfl ?_
    refine r_istore_n (lv' := [(1, .int 1), (0, .ref a0)]) X dX1_keeps_13 rfl (Nat.le_of_ble_eq_true rfl) rfl ?_
    refine r_sub [1, 0] rfl ?_
    obtain ⟨n7, h⟩ := h
    exact tl_X1_keeps_14 X Q a0 n7 1 s h
theorem m_X1_keeps (l : Launch) (G : GT) (g : GK G) (a0 : Nat) (s : PS) (Q : PS → Prop) (h : w_X1_keeps G a0 s Q) : Met l yX1_keeps (ws_ yX1_keeps cX1_keeps 2 none) rm_X1_keeps (va_Pc [.ref a0] (Wr G s)) (va_Qv Q (fun u t => Wr G u t) (kF G)) 0 0 (kF G) := by
  refine Met.ofW (cc := cX1_keeps) (maxL := 2) (ret := none) (by decide) rfl ?_
  intro p e s0 m args below meth c s₁ B hml hv
  obtain ⟨rfl, hw⟩ := hv
  exact wb_of [.ref a0] (Nat.le_of_ble_eq_true rfl) hw.1 rfl (e_X1_keeps (cx_of g B hml rfl hw) a0 s Q h)
theorem e_X0_lend {x : CT} {G : GT} (X : Cx x G cX0_lend 4 RX0 (some .boolean) rm_X0_lend) (hph : kP G = 1) (p1 : Int32) (p2 : Int32) (p3 : Int32) (s : PS) (Q : Int32 → PS → Prop) (h : w_X0_lend G p1 p2 p3 s Q) : WB x G 4 (QfI x G 0 0 (fun r u => (r = 0 ∨ r = 1) ∧ Q r u)) 0 0 s 0 [(0, .ref (kB G + 0)), (1, .int p1), (2, .int p2), (3, .int p3)] [] := by
  unfold w_X0_lend at h
  refine r_aload_n X 0 dX0_lend_0 rfl rfl ?_
  refine r_iload_n X 1 dX0_lend_1 rfl rfl ?_
  refine r_ci X (r_okVL (As := [.int p1]) (rest := []) X (m_X0_isHeart (xl x) G X.2.2.2.2.1 hph p1 s _ h) (cl_X0_84 X ⟨(Nat.le_of_ble_eq_true rfl), (Nat.le_of_ble_eq_true rfl)⟩) hph 0 ly_0 rfl rfl rfl rfl (Nat.le_of_ble_eq_true rfl) dX0_lend_2 ⟨Nat.le_of_ble_eq_true rfl, Nat.le_of_ble_eq_true rfl⟩) (fun r2 s1 h => ?_)
  obtain ⟨z3, h⟩ := h
  refine r_if_eq X 44 dX0_lend_5 (by decide) (fun c4 => ?_) (fun c4 => ?_)
  · replace h := h.1 c4
    refine r_iconst (v := 0) X dX0_lend_44 rfl ?_
    exact r_zret X (Or.inl rfl) h (Nat.le_of_ble_eq_true rfl) (Nat.le_of_ble_eq_true rfl) dX0_lend_45
  · replace h := h.2 c4
    refine r_aload_n X 0 dX0_lend_8 rfl rfl ?_
    refine r_iload_n X 2 dX0_lend_9 rfl rfl ?_
    refine r_ci X (r_okVL (As := [.int p2]) (rest := []) X (m_X0_isHeart (xl x) G X.2.2.2.2.1 hph p2 s1 _ h) (cl_X0_84 X ⟨(Nat.le_of_ble_eq_true rfl), (Nat.le_of_ble_eq_true rfl)⟩) hph 0 ly_0 rfl rfl rfl rfl (Nat.le_of_ble_eq_true rfl) dX0_lend_10 ⟨Nat.le_of_ble_eq_true rfl, Nat.le_of_ble_eq_true rfl⟩) (fun r6 s5 h => ?_)
    obtain ⟨z7, h⟩ := h
    refine r_if_eq X 44 dX0_lend_13 (by decide) (fun c8 => ?_) (fun c8 => ?_)
    · replace h := h.1 c8
      refine r_iconst (v := 0) X dX0_lend_44 rfl ?_
      exact r_zret X (Or.inl rfl) h (Nat.le_of_ble_eq_true rfl) (Nat.le_of_ble_eq_true rfl) dX0_lend_45
    · replace h := h.2 c8
      refine r_iload_n X 1 dX0_lend_16 rfl rfl ?_
      refine r_iload_n X 2 dX0_lend_17 rfl rfl ?_
      refine r_ic_eq X 44 dX0_lend_18 (by decide) (fun c9 => ?_) (fun c9 => ?_)
      · replace h := h.1 c9
        refine r_iconst (v := 0) X dX0_lend_44 rfl ?_
        exact r_zret X (Or.inl rfl) h (Nat.le_of_ble_eq_true rfl) (Nat.le_of_ble_eq_true rfl) dX0_lend_45
      · replace h := h.2 c9
        refine r_iload_n X 3 dX0_lend_21 rfl rfl ?_
        refine r_iconst (v := 0) X dX0_lend_22 rfl ?_
        refine r_bipush (v := 99) X dX0_lend_23 rfl ?_
        refine r_ci X (r_okS (As := [.int p3, .int 0, .int 99]) (rest := []) X (m_X0_in (xl x) G X.2.2.2.2.1 p3 0 99 s5 _ h) (cl_X0_77 X ⟨(Nat.le_of_ble_eq_true rfl), (Nat.le_of_ble_eq_true rfl)⟩) rfl rfl (Nat.le_of_ble_eq_true rfl) dX0_lend_25 ⟨Nat.le_of_ble_eq_true rfl, Nat.le_of_ble_eq_true rfl⟩) (fun r11 s10 h => ?_)
        obtain ⟨z12, h⟩ := h
        refine r_if_eq X 44 dX0_lend_28 (by decide) (fun c13 => ?_) (fun c13 => ?_)
        · replace h := h.1 c13
          refine r_iconst (v := 0) X dX0_lend_44 rfl ?_
          exact r_zret X (Or.inl rfl) h (Nat.le_of_ble_eq_true rfl) (Nat.le_of_ble_eq_true rfl) dX0_lend_45
        · replace h := h.2 c13
          refine r_aload_n X 0 dX0_lend_31 rfl rfl ?_
          refine gr_X0_12 X hph 0 0 1 ly_0 rfl rfl dX0_lend_32 ?_
          refine r_iload_n X 1 dX0_lend_35 rfl rfl ?_
          refine r_iload_n X 2 dX0_lend_36 rfl rfl ?_
          refine r_ci X (r_okVL (As := [.int p1, .int p2]) (rest := []) X (m_X1_owes (xl x) G X.2.2.2.2.1 (kB G + 1) p1 p2 s10 _ h) (cl_X0_196 X ⟨(Nat.le_of_ble_eq_true rfl), (Nat.le_of_ble_eq_true rfl)⟩) hph 1 ly_1 rfl rfl rfl rfl (Nat.le_of_ble_eq_true rfl) dX0_lend_37 ⟨Nat.le_of_ble_eq_true rfl, Nat.le_of_ble_eq_true rfl⟩) (fun r15 s14 h => ?_)
          refine r_iload_n X 3 dX0_lend_40 rfl rfl ?_
          refine r_ic_ne X 46 dX0_lend_41 (by decide) (fun c16 => ?_) (fun c16 => ?_)
          · replace h := h.2 c16
            refine r_aload_n X 0 dX0_lend_46 rfl rfl ?_
            refine gr_X0_12 X hph 0 0 1 ly_0 rfl rfl dX0_lend_47 ?_
            refine r_cv X (r_okVL (As := []) (rest := []) X (m_X1_keeps (xl x) G X.2.2.2.2.1 (kB G + 1) s14 _ h) (cl_X0_200 X ⟨(Nat.le_of_ble_eq_true rfl), (Nat.le_of_ble_eq_true rfl)⟩) hph 1 ly_1 rfl rfl rfl rfl (Nat.le_of_ble_eq_true rfl) dX0_lend_50 ⟨Nat.le_of_ble_eq_true rfl, Nat.le_of_ble_eq_true rfl⟩) (fun s17 h => ?_)
            refine r_aload_n X 0 dX0_lend_53 rfl rfl ?_
            refine gr_X0_12 X hph 0 0 1 ly_0 rfl rfl dX0_lend_54 ?_
            refine gr_X0_203 X hph 1 1 5 ly_1 rfl rfl dX0_lend_57 ?_
            refine r_bipush (v := 8) X dX0_lend_60 rfl ?_
            refine r_bipush (v := 6) X dX0_lend_62 rfl ?_
            refine r_iload_n X 1 dX0_lend_64 rfl rfl ?_
            refine r_imul X dX0_lend_65 ?_
            refine r_iadd X dX0_lend_66 ?_
            refine r_iload_n X 2 dX0_lend_67 rfl rfl ?_
            refine r_iadd X dX0_lend_68 ?_
            refine r_iload_n X 3 dX0_lend_69 rfl rfl ?_
            obtain ⟨g18, h⟩ := h
            refine r_iastL X hph 5 195 ly_5 rfl g18 dX0_lend_70 (fun s19 e20 => ?_)
            replace h := h s19 e20
            refine r_iconst (v := 1) X dX0_lend_71 rfl ?_
            exact r_zret X (Or.inr rfl) h (Nat.le_of_ble_eq_true rfl) (Nat.le_of_ble_eq_true rfl) dX0_lend_72
          · replace h := h.1 c16
            refine r_iconst (v := 0) X dX0_lend_44 rfl ?_
            exact r_zret X (Or.inl rfl) h (Nat.le_of_ble_eq_true rfl) (Nat.le_of_ble_eq_true rfl) dX0_lend_45
theorem m_X0_lend (l : Launch) (G : GT) (g : GK G) (hph : kP G = 1) (p1 : Int32) (p2 : Int32) (p3 : Int32) (s : PS) (Q : Int32 → PS → Prop) (h : w_X0_lend G p1 p2 p3 s Q) : Met l yX0_lend (ws_ yX0_lend cX0_lend 4 (some .boolean)) rm_X0_lend (va_Pc [.ref (kB G + 0), .int p1, .int p2, .int p3] (Wr G s)) (va_Qi (fun r u => (r = 0 ∨ r = 1) ∧ Q r u) (fun u t => Wr G u t) (kF G)) 0 0 (kF G) := by
  refine Met.ofW (cc := cX0_lend) (maxL := 4) (ret := (some .boolean)) (by decide) rfl ?_
  intro p e s0 m args below meth c s₁ B hml hv
  obtain ⟨rfl, hw⟩ := hv
  exact wb_of [.ref (kB G + 0), .int p1, .int p2, .int p3] (Nat.le_of_ble_eq_true rfl) hw.1 rfl (e_X0_lend (cx_of g B hml rfl hw) hph p1 p2 p3 s Q h)
theorem tl_X1_lentTo_4 {x : CT} {G : GT} (X : Cx x G cX1_lentTo 4 RX1 (some .int) rm_X1_lentTo) (Q : Int32 → PS → Prop) (v0 : Nat) (v1 : Int32) : ∀ (n : Nat) (v2 : Int32) (v3 : Int32) (s : PS) (h : l_X1_lentTo_4 G Q v0 v1 n v2 v3 s), WB x G 4 (QfI x G 0 0 Q) 0 0 s 4 [(0, .ref v0), (1, .int v1), (2, .int v2), (3, .int v3)] [] := by
  intro n
  induction n with
  | zero =>
    intro v2 v3 s h
    exact False.elim h
  | succ n ih =>
    intro v2 v3 s h
    unfold l_X1_lentTo_4 at h
    refine r_iload_n X 3 dX1_lentTo_4 rfl rfl ?_
    refine r_aload_n X 0 dX1_lentTo_5 rfl rfl ?_
    obtain ⟨g1, h⟩ := h
    refine gf_X1_9 X g1 dX1_lentTo_6 ?_
    obtain ⟨q2, g3, h⟩ := h
    refine r_top (show va_rf (gR s v0 0) = Value.ref q2 by rw [g3]; rfl) ?_
    refine r_iconst (v := 0) X dX1_lentTo_9 rfl ?_
    obtain ⟨g4, h⟩ := h
    obtain ⟨g5, h⟩ := h
    refine r_iald X g4 g5 dX1_lentTo_10 ?_
    refine r_ic_ge X 36 dX1_lentTo_11 (by decide) (fun c6 => ?_) (fun c6 => ?_)
    · replace h := h.1 c6
      refine r_iload_n X 2 dX1_lentTo_36 rfl rfl ?_
      exact r_iret X h (Nat.le_of_ble_eq_true rfl) (Nat.le_of_ble_eq_true rfl) dX1_lentTo_37
    · replace h := h.2 c6
      refine r_iload_n X 2 dX1_lentTo_14 rfl rfl ?_
      refine r_aload_n X 0 dX1_lentTo_15 rfl rfl ?_
      refine r_iload_n X 3 dX1_lentTo_16 rfl rfl ?_
      refine r_iload_n X 1 dX1_lentTo_17 rfl rfl ?_
      refine r_ci X (r_okV (As := [.int v3, .int v1]) (rest := [.int v2]) X (m_X1_owes (xl x) G X.2.2.2.2.1 v0 v3 v1 s _ h) (cl_X1_57 X ⟨(Nat.le_of_ble_eq_true rfl), (Nat.le_of_ble_eq_true rfl)⟩) 1 g1 rfl rfl rfl rfl (Nat.le_of_ble_eq_true rfl) dX1_lentTo_18 ⟨Nat.le_of_ble_eq_true rfl, Nat.le_of_ble_eq_true rfl⟩) (fun r8 s7 h => ?_)
      refine r_aload_n X 0 dX1_lentTo_21 rfl rfl ?_
      refine r_iload_n X 1 dX1_lentTo_22 rfl rfl ?_
      refine r_iload_n X 3 dX1_lentTo_23 rfl rfl ?_
      obtain ⟨g9, h⟩ := h
      refine r_ci X (r_okV (As := [.int v1, .int v3]) (rest := [.int r8, .int v2]) X (m_X1_owes (xl x) G X.2.2.2.2.1 v0 v1 v3 s7 _ h) (cl_X1_57 X ⟨(Nat.le_of_ble_eq_true rfl), (Nat.le_of_ble_eq_true rfl)⟩) 1 g9 rfl rfl rfl rfl (Nat.le_of_ble_eq_true rfl) dX1_lentTo_24 ⟨Nat.le_of_ble_eq_true rfl, Nat.le_of_ble_eq_true rfl⟩) (fun r11 s10 h => ?_)
      refine r_isub X dX1_lentTo_27 ?_
      refine r_iadd X dX1_lentTo_28 ?_
      refine r_nmI (fun y12 e13 => ?_)
      replace h := h y12 e13
      refine r_istore_n (lv' := [(2, .int y12), (0, .ref v0), (1, .int v1), (3, .int v3)]) X dX1_lentTo_29 rfl (Nat.le_of_ble_eq_true rfl) rfl ?_
      refine r_iinc (lv' := [(3, .int (v3 + 1)), (2, .int y12), (0, .ref v0), (1, .int v1)]) X 3 dX1_lentTo_30 rfl rfl (Nat.le_of_ble_eq_true rfl) rfl ?_
      refine r_goto X 4 dX1_lentTo_33 (by decide) ?_
      refine r_sub [2, 3, 1, 0] rfl ?_
      exact ih y12 (v3 + 1) s10 h
theorem e_X1_lentTo {x : CT} {G : GT} (X : Cx x G cX1_lentTo 4 RX1 (some .int) rm_X1_lentTo) (a0 : Nat) (p1 : Int32) (s : PS) (Q : Int32 → PS → Prop) (h : w_X1_lentTo G a0 p1 s Q) : WB x G 4 (QfI x G 0 0 Q) 0 0 s 0 [(0, .ref a0), (1, .int p1)] [] := by
  unfold w_X1_lentTo at h
  refine r_iconst (v := 0) X dX1_lentTo_0 rfl ?_
  refine r_istore_n (lv' := [(2, .int 0), (0, .ref a0), (1, .int p1)]) X dX1_lentTo_1 rfl (Nat.le_of_ble_eq_true rfl) rfl ?_
  refine r_iconst (v := 0) X dX1_lentTo_2 rfl ?_
  refine r_istore_n (lv' := [(3, .int 0), (2, .int 0), (0, .ref a0), (1, .int p1)]) X dX1_lentTo_3 rfl (Nat.le_of_ble_eq_true rfl) rfl ?_
  refine r_sub [2, 3, 1, 0] rfl ?_
  obtain ⟨n1, h⟩ := h
  exact tl_X1_lentTo_4 X Q a0 p1 n1 0 0 s h
theorem m_X1_lentTo (l : Launch) (G : GT) (g : GK G) (a0 : Nat) (p1 : Int32) (s : PS) (Q : Int32 → PS → Prop) (h : w_X1_lentTo G a0 p1 s Q) : Met l yX1_lentTo (ws_ yX1_lentTo cX1_lentTo 4 (some .int)) rm_X1_lentTo (va_Pc [.ref a0, .int p1] (Wr G s)) (va_Qi Q (fun u t => Wr G u t) (kF G)) 0 0 (kF G) := by
  refine Met.ofW (cc := cX1_lentTo) (maxL := 4) (ret := (some .int)) (by decide) rfl ?_
  intro p e s0 m args below meth c s₁ B hml hv
  obtain ⟨rfl, hw⟩ := hv
  exact wb_of [.ref a0, .int p1] (Nat.le_of_ble_eq_true rfl) hw.1 rfl (e_X1_lentTo (cx_of g B hml rfl hw) a0 p1 s Q h)
theorem e_J12_bitCount {x : CT} {G : GT} (X : Cx x G cJ12_bitCount 1 RJ12 (some .int) rm_J12_bitCount) (p1 : Int32) (s : PS) (Q : Int32 → PS → Prop) (h : w_J12_bitCount G p1 s Q) : WB x G 1 (QfI x G 0 0 Q) 0 0 s 0 [(0, .int p1)] [] := by
  unfold w_J12_bitCount at h
  refine r_iload_n X 0 dJ12_bitCount_0 rfl rfl ?_
  refine r_iload_n X 0 dJ12_bitCount_1 rfl rfl ?_
  refine r_iconst (v := 1) X dJ12_bitCount_2 rfl ?_
  refine r_iushr X dJ12_bitCount_3 ?_
  refine r_ldc_w X q868 dJ12_bitCount_4 ?_
  refine r_iand X dJ12_bitCount_7 ?_
  refine r_isub X dJ12_bitCount_8 ?_
  refine r_nmI (fun y1 e2 => ?_)
  replace h := h y1 e2
  refine r_istore_n (lv' := [(0, .int y1)]) X dJ12_bitCount_9 rfl (Nat.le_of_ble_eq_true rfl) rfl ?_
  refine r_iload_n X 0 dJ12_bitCount_10 rfl rfl ?_
  refine r_ldc_w X q869 dJ12_bitCount_11 ?_
  refine r_iand X dJ12_bitCount_14 ?_
  refine r_iload_n X 0 dJ12_bitCount_15 rfl rfl ?_
  refine r_iconst (v := 2) X dJ12_bitCount_16 rfl ?_
  refine r_iushr X dJ12_bitCount_17 ?_
  refine r_ldc_w X q869 dJ12_bitCount_18 ?_
  refine r_iand X dJ12_bitCount_21 ?_
  refine r_iadd X dJ12_bitCount_22 ?_
  refine r_nmI (fun y3 e4 => ?_)
  replace h := h y3 e4
  refine r_istore_n (lv' := [(0, .int y3)]) X dJ12_bitCount_23 rfl (Nat.le_of_ble_eq_true rfl) rfl ?_
  refine r_iload_n X 0 dJ12_bitCount_24 rfl rfl ?_
  refine r_iload_n X 0 dJ12_bitCount_25 rfl rfl ?_
  refine r_iconst (v := 4) X dJ12_bitCount_26 rfl ?_
  refine r_iushr X dJ12_bitCount_27 ?_
  refine r_iadd X dJ12_bitCount_28 ?_
  refine r_ldc_w X q870 dJ12_bitCount_29 ?_
  refine r_iand X dJ12_bitCount_32 ?_
  refine r_nmI (fun y5 e6 => ?_)
  replace h := h y5 e6
  refine r_istore_n (lv' := [(0, .int y5)]) X dJ12_bitCount_33 rfl (Nat.le_of_ble_eq_true rfl) rfl ?_
  refine r_iload_n X 0 dJ12_bitCount_34 rfl rfl ?_
  refine r_iload_n X 0 dJ12_bitCount_35 rfl rfl ?_
  refine r_bipush (v := 8) X dJ12_bitCount_36 rfl ?_
  refine r_iushr X dJ12_bitCount_38 ?_
  refine r_iadd X dJ12_bitCount_39 ?_
  refine r_nmI (fun y7 e8 => ?_)
  replace h := h y7 e8
  refine r_istore_n (lv' := [(0, .int y7)]) X dJ12_bitCount_40 rfl (Nat.le_of_ble_eq_true rfl) rfl ?_
  refine r_iload_n X 0 dJ12_bitCount_41 rfl rfl ?_
  refine r_iload_n X 0 dJ12_bitCount_42 rfl rfl ?_
  refine r_bipush (v := 16) X dJ12_bitCount_43 rfl ?_
  refine r_iushr X dJ12_bitCount_45 ?_
  refine r_iadd X dJ12_bitCount_46 ?_
  refine r_nmI (fun y9 e10 => ?_)
  replace h := h y9 e10
  refine r_istore_n (lv' := [(0, .int y9)]) X dJ12_bitCount_47 rfl (Nat.le_of_ble_eq_true rfl) rfl ?_
  refine r_iload_n X 0 dJ12_bitCount_48 rfl rfl ?_
  refine r_bipush (v := 63) X dJ12_bitCount_49 rfl ?_
  refine r_iand X dJ12_bitCount_51 ?_
  exact r_iret X h (Nat.le_of_ble_eq_true rfl) (Nat.le_of_ble_eq_true rfl) dJ12_bitCount_52
theorem m_J12_bitCount (l : Launch) (G : GT) (g : GK G) (p1 : Int32) (s : PS) (Q : Int32 → PS → Prop) (h : w_J12_bitCount G p1 s Q) : Met l yJ12_bitCount (ws_ yJ12_bitCount cJ12_bitCount 1 (some .int)) rm_J12_bitCount (va_Pc [.int p1] (Wr G s)) (va_Qi Q (fun u t => Wr G u t) (kF G)) 0 0 (kF G) := by
  refine Met.ofW (cc := cJ12_bitCount) (maxL := 1) (ret := (some .int)) (by decide) rfl ?_
  intro p e s0 m args below meth c s₁ B hml hv
  obtain ⟨rfl, hw⟩ := hv
  exact wb_of [.int p1] (Nat.le_of_ble_eq_true rfl) hw.1 rfl (e_J12_bitCount (cx_of g B hml rfl hw) p1 s Q h)
theorem e_X0_names {x : CT} {G : GT} (X : Cx x G cX0_names 2 RX0 none rm_X0_names) (hph : kP G = 1) (p1 : Int32) (s : PS) (Q : PS → Prop) (h : w_X0_names G p1 s Q) : WB x G 2 (QfV x G 0 0 Q) 0 0 s 0 [(0, .ref (kB G + 0)), (1, .int p1)] [] := by
  unfold w_X0_names at h
  refine r_aload_n X 0 dX0_names_0 rfl rfl ?_
  refine gr_X0_30 X hph 0 0 158 ly_0 rfl rfl dX0_names_1 ?_
  refine r_iconst (v := 0) X dX0_names_4 rfl ?_
  refine r_iload_n X 1 dX0_names_5 rfl rfl ?_
  refine r_iastL X hph 158 15 ly_158 tn_0 il_0_15 dX0_names_6 (fun s1 e2 => ?_)
  replace h := h s1 e2
  refine r_aload_n X 0 dX0_names_7 rfl rfl ?_
  refine gr_X0_30 X hph 0 0 158 ly_0 rfl rfl dX0_names_8 ?_
  refine r_iconst (v := 1) X dX0_names_11 rfl ?_
  refine r_aload_n X 0 dX0_names_12 rfl rfl ?_
  refine gr_X0_12 X hph 0 0 1 ly_0 rfl rfl dX0_names_13 ?_
  refine gr_X0_81 X hph 1 1 3 ly_1 rfl rfl dX0_names_16 ?_
  refine r_iload_n X 1 dX0_names_19 rfl rfl ?_
  obtain ⟨g3, h⟩ := h
  refine r_ialdL X hph 3 6 ly_3 rfl g3 dX0_names_20 ?_
  refine r_iastL X hph 158 15 ly_158 tn_1 il_1_15 dX0_names_21 (fun s4 e5 => ?_)
  replace h := h s4 e5
  exact r_vret X h (Nat.le_of_ble_eq_true rfl) (Nat.le_of_ble_eq_true rfl) dX0_names_22
theorem m_X0_names (l : Launch) (G : GT) (g : GK G) (hph : kP G = 1) (p1 : Int32) (s : PS) (Q : PS → Prop) (h : w_X0_names G p1 s Q) : Met l yX0_names (ws_ yX0_names cX0_names 2 none) rm_X0_names (va_Pc [.ref (kB G + 0), .int p1] (Wr G s)) (va_Qv Q (fun u t => Wr G u t) (kF G)) 0 0 (kF G) := by
  refine Met.ofW (cc := cX0_names) (maxL := 2) (ret := none) (by decide) rfl ?_
  intro p e s0 m args below meth c s₁ B hml hv
  obtain ⟨rfl, hw⟩ := hv
  exact wb_of [.ref (kB G + 0), .int p1] (Nat.le_of_ble_eq_true rfl) hw.1 rfl (e_X0_names (cx_of g B hml rfl hw) hph p1 s Q h)
theorem e_X0_rules {x : CT} {G : GT} (X : Cx x G cX0_rules 1 RX0 (some (.object "AgainstFeather$Text")) rm_X0_rules) (hph : kP G = 1) (s : PS) (Q : Nat → PS → Prop) (h : w_X0_rules G s Q) : WB x G 1 (QfA x G 0 0 Q) 0 0 s 0 [(0, .ref (kB G + 0))] [] := by
  unfold w_X0_rules at h
  refine r_aload_n X 0 dX0_rules_0 rfl rfl ?_
  refine gr_X0_12 X hph 0 0 1 ly_0 rfl rfl dX0_rules_1 ?_
  refine gr_X0_74 X hph 1 1 2 ly_1 rfl rfl dX0_rules_4 ?_
  refine r_iconst (v := 5) X dX0_rules_7 rfl ?_
  refine r_ialdL X hph 2 9 ly_2 tn_5 il_5_9 dX0_rules_8 ?_
  refine r_iconst (v := (-1)) X dX0_rules_9 rfl ?_
  refine r_ic_ne X 19 dX0_rules_10 (by decide) (fun c1 => ?_) (fun c1 => ?_)
  · replace h := h.2 c1
    refine r_aload_n X 0 dX0_rules_19 rfl rfl ?_
    refine gr_X0_12 X hph 0 0 1 ly_0 rfl rfl dX0_rules_20 ?_
    refine gr_X0_115 X hph 1 1 78 ly_1 rfl rfl dX0_rules_23 ?_
    refine r_aload_n X 0 dX0_rules_26 rfl rfl ?_
    refine gr_X0_12 X hph 0 0 1 ly_0 rfl rfl dX0_rules_27 ?_
    refine gr_X0_74 X hph 1 1 2 ly_1 rfl rfl dX0_rules_30 ?_
    refine r_iconst (v := 5) X dX0_rules_33 rfl ?_
    refine r_ialdL X hph 2 9 ly_2 tn_5 il_5_9 dX0_rules_34 ?_
    obtain ⟨g2, h⟩ := h
    refine r_aaldL X hph 78 5 4 ly_78 (by decide) rfl g2 dX0_rules_35 ?_
    obtain ⟨q3, g4, h⟩ := h
    refine r_top (show va_rf (gR s (kB G + 78) (gI s (kB G + 2) 5).toNatClampNeg) = Value.ref q3 by rw [g4]; rfl) ?_
    exact r_aret X (Or.inl ⟨_, rfl⟩) h (Nat.le_of_ble_eq_true rfl) (Nat.le_of_ble_eq_true rfl) dX0_rules_36
  · replace h := h.1 c1
    refine r_gets X X.2.2.2.2.1.2.2.2.2.1 q883 dX0_rules_13 ?_
    refine r_goto X 36 dX0_rules_16 (by decide) ?_
    exact r_aret X (Or.inl ⟨_, rfl⟩) h (Nat.le_of_ble_eq_true rfl) (Nat.le_of_ble_eq_true rfl) dX0_rules_36
theorem m_X0_rules (l : Launch) (G : GT) (g : GK G) (hph : kP G = 1) (s : PS) (Q : Nat → PS → Prop) (h : w_X0_rules G s Q) : Met l yX0_rules (ws_ yX0_rules cX0_rules 1 (some (.object "AgainstFeather$Text"))) rm_X0_rules (va_Pc [.ref (kB G + 0)] (Wr G s)) (va_Qr (fun u : Nat × PS => Q u.1 u.2) (fun u a t => a = u.1 ∧ Wr G u.2 t) (kF G)) 0 0 (kF G) := by
  refine Met.ofW (cc := cX0_rules) (maxL := 1) (ret := (some (.object "AgainstFeather$Text"))) (by decide) rfl ?_
  intro p e s0 m args below meth c s₁ B hml hv
  obtain ⟨rfl, hw⟩ := hv
  exact wb_of [.ref (kB G + 0)] (Nat.le_of_ble_eq_true rfl) hw.1 rfl (e_X0_rules (cx_of g B hml rfl hw) hph s Q h)
theorem e_X0_law {x : CT} {G : GT} (X : Cx x G cX0_law 6 RX0 (some .int) rm_X0_law) (hph : kP G = 1) (p1 : Nat) (p2 : Int32) (p3 : Int32) (p4 : Int32) (p5 : Int32) (s : PS) (Q : Int32 → PS → Prop) (h : w_X0_law G p1 p2 p3 p4 p5 s Q) : WB x G 6 (QfI x G 0 0 Q) 0 0 s 0 [(0, .ref (kB G + 0)), (1, .ref p1), (2, .int p2), (3, .int p3), (4, .int p4), (5, .int p5)] [] := by
  unfold w_X0_law at h
  refine r_aload_n X 1 dX0_law_0 rfl rfl ?_
  obtain ⟨g1, h⟩ := h
  refine r_getLaw X g1 dX0_law_1 ?_
  obtain ⟨q2, g3, h⟩ := h
  refine r_top (show va_rf (gR s p1 0) = Value.ref q2 by rw [g3]; rfl) ?_
  refine r_iload_n X 2 dX0_law_4 rfl rfl ?_
  obtain ⟨g4, h⟩ := h
  obtain ⟨g5, h⟩ := h
  refine r_aaldM X g4 (by decide) g5 dX0_law_5 ?_
  refine r_ifnonnull X 13 dX0_law_6 (by decide) (fun q6 c7 => ?_) (fun c7 => ?_)
  · replace h := h.2 q6 c7
    refine r_iload X 4 dX0_law_13 rfl ?_
    refine r_i2l X dX0_law_15 ?_
    refine r_iload X 5 dX0_law_16 rfl ?_
    refine r_i2l X dX0_law_18 ?_
    refine r_aload_n X 1 dX0_law_19 rfl rfl ?_
    refine r_getLaw X g1 dX0_law_20 ?_
    obtain ⟨q8, g9, h⟩ := h
    refine r_top (show va_rf (gR s p1 0) = Value.ref q8 by rw [g9]; rfl) ?_
    refine r_iload_n X 2 dX0_law_23 rfl rfl ?_
    obtain ⟨g10, h⟩ := h
    obtain ⟨g11, h⟩ := h
    refine r_aaldM X g10 (by decide) g11 dX0_law_24 ?_
    obtain ⟨q12, g13, h⟩ := h
    refine r_top (show va_rf (gR s q8 (Int32.toNatClampNeg p2)) = Value.ref q12 by rw [g13]; rfl) ?_
    refine r_aload_n X 0 dX0_law_25 rfl rfl ?_
    refine gr_X0_30 X hph 0 0 158 ly_0 rfl rfl dX0_law_26 ?_
    obtain ⟨d16, g17, h⟩ := h
    refine r_csum X q890 (mS (xl x) G X.2.2.2.2.1 d16 q12 (kB G + 158) s _ h) ⟨rfl, rfl⟩ (by simp only [rm_X0_law, rS] <;> omega) (by simp only [rm_X0_law, rS] <;> omega) (Nat.le_of_ble_eq_true rfl) ⟨Nat.le_of_ble_eq_true rfl, Nat.le_of_ble_eq_true rfl⟩ dX0_law_29 (fun r14 s15 h => ?_)
    refine r_mminL X q962 q957 q150 q958 (Nat.le_of_ble_eq_true rfl) (Nat.le_of_ble_eq_true rfl) (Nat.le_of_ble_eq_true rfl) ⟨Nat.le_of_ble_eq_true rfl, Nat.le_of_ble_eq_true rfl⟩ dX0_law_34 ?_
    refine r_mmaxL X q963 q960 q150 q961 (Nat.le_of_ble_eq_true rfl) (Nat.le_of_ble_eq_true rfl) (Nat.le_of_ble_eq_true rfl) ⟨Nat.le_of_ble_eq_true rfl, Nat.le_of_ble_eq_true rfl⟩ dX0_law_37 ?_
    refine r_l2i X dX0_law_40 ?_
    exact r_iret X h (Nat.le_of_ble_eq_true rfl) (Nat.le_of_ble_eq_true rfl) dX0_law_41
  · replace h := h.1 c7
    refine r_iload_n X 3 dX0_law_9 rfl rfl ?_
    refine r_goto X 41 dX0_law_10 (by decide) ?_
    exact r_iret X h (Nat.le_of_ble_eq_true rfl) (Nat.le_of_ble_eq_true rfl) dX0_law_41
theorem m_X0_law (l : Launch) (G : GT) (g : GK G) (hph : kP G = 1) (p1 : Nat) (p2 : Int32) (p3 : Int32) (p4 : Int32) (p5 : Int32) (s : PS) (Q : Int32 → PS → Prop) (h : w_X0_law G p1 p2 p3 p4 p5 s Q) : Met l yX0_law (ws_ yX0_law cX0_law 6 (some .int)) rm_X0_law (va_Pc [.ref (kB G + 0), .ref p1, .int p2, .int p3, .int p4, .int p5] (Wr G s)) (va_Qi Q (fun u t => Wr G u t) (kF G)) 0 0 (kF G) := by
  refine Met.ofW (cc := cX0_law) (maxL := 6) (ret := (some .int)) (by decide) rfl ?_
  intro p e s0 m args below meth c s₁ B hml hv
  obtain ⟨rfl, hw⟩ := hv
  exact wb_of [.ref (kB G + 0), .ref p1, .int p2, .int p3, .int p4, .int p5] (Nat.le_of_ble_eq_true rfl) hw.1 rfl (e_X0_law (cx_of g B hml rfl hw) hph p1 p2 p3 p4 p5 s Q h)
theorem e_X0_sticksOf {x : CT} {G : GT} (X : Cx x G cX0_sticksOf 4 RX0 (some .int) rm_X0_sticksOf) (hph : kP G = 1) (p1 : Int32) (p2 : Int32) (p3 : Int32) (s : PS) (Q : Int32 → PS → Prop) (h : w_X0_sticksOf G p1 p2 p3 s Q) : WB x G 4 (QfI x G 0 0 Q) 0 0 s 0 [(0, .ref (kB G + 0)), (1, .int p1), (2, .int p2), (3, .int p3)] [] := by
  unfold w_X0_sticksOf at h
  refine r_aload_n X 0 dX0_sticksOf_0 rfl rfl ?_
  refine r_iload_n X 1 dX0_sticksOf_1 rfl rfl ?_
  refine r_cv X (r_okVL (As := [.int p1]) (rest := []) X (m_X0_names (xl x) G X.2.2.2.2.1 hph p1 s _ h) (cl_X0_162 X ⟨(Nat.le_of_ble_eq_true rfl), (Nat.le_of_ble_eq_true rfl)⟩) hph 0 ly_0 rfl rfl rfl rfl (Nat.le_of_ble_eq_true rfl) dX0_sticksOf_2 ⟨Nat.le_of_ble_eq_true rfl, Nat.le_of_ble_eq_true rfl⟩) (fun s1 h => ?_)
  refine r_aload_n X 0 dX0_sticksOf_5 rfl rfl ?_
  refine gr_X0_30 X hph 0 0 158 ly_0 rfl rfl dX0_sticksOf_6 ?_
  refine r_bipush (v := 8) X dX0_sticksOf_9 rfl ?_
  refine r_iload_n X 2 dX0_sticksOf_11 rfl rfl ?_
  refine r_iastL X hph 158 15 ly_158 tn_8 il_8_15 dX0_sticksOf_12 (fun s2 e3 => ?_)
  replace h := h s2 e3
  refine r_aload_n X 0 dX0_sticksOf_13 rfl rfl ?_
  refine gr_X0_30 X hph 0 0 158 ly_0 rfl rfl dX0_sticksOf_14 ?_
  refine r_bipush (v := 9) X dX0_sticksOf_17 rfl ?_
  refine r_iload_n X 3 dX0_sticksOf_19 rfl rfl ?_
  refine r_iastL X hph 158 15 ly_158 tn_9 il_9_15 dX0_sticksOf_20 (fun s4 e5 => ?_)
  replace h := h s4 e5
  refine r_aload_n X 0 dX0_sticksOf_21 rfl rfl ?_
  refine r_aload_n X 0 dX0_sticksOf_22 rfl rfl ?_
  refine r_ca X (r_okVL (As := []) (rest := [.ref (kB G + 0)]) X (m_X0_rules (xl x) G X.2.2.2.2.1 hph s4 _ h) (cl_X0_167 X ⟨(Nat.le_of_ble_eq_true rfl), (Nat.le_of_ble_eq_true rfl)⟩) hph 0 ly_0 rfl rfl rfl rfl (Nat.le_of_ble_eq_true rfl) dX0_sticksOf_23 ⟨Nat.le_of_ble_eq_true rfl, Nat.le_of_ble_eq_true rfl⟩) (fun r7 s6 h => ?_)
  refine r_iconst (v := 1) X dX0_sticksOf_26 rfl ?_
  refine r_aload_n X 0 dX0_sticksOf_27 rfl rfl ?_
  refine gr_X0_12 X hph 0 0 1 ly_0 rfl rfl dX0_sticksOf_28 ?_
  refine gr_X0_74 X hph 1 1 2 ly_1 rfl rfl dX0_sticksOf_31 ?_
  refine r_iconst (v := 3) X dX0_sticksOf_34 rfl ?_
  refine r_ialdL X hph 2 9 ly_2 tn_3 il_3_9 dX0_sticksOf_35 ?_
  refine r_iconst (v := 0) X dX0_sticksOf_36 rfl ?_
  refine r_bipush (v := 99) X dX0_sticksOf_37 rfl ?_
  refine r_ci X (r_okVL (As := [.ref r7, .int 1, .int (gI s6 (kB G + 2) 3), .int 0, .int 99]) (rest := []) X (m_X0_law (xl x) G X.2.2.2.2.1 hph r7 1 (gI s6 (kB G + 2) 3) 0 99 s6 _ h) (cl_X0_164 X ⟨(Nat.le_of_ble_eq_true rfl), (Nat.le_of_ble_eq_true rfl)⟩) hph 0 ly_0 rfl rfl rfl rfl (Nat.le_of_ble_eq_true rfl) dX0_sticksOf_39 ⟨Nat.le_of_ble_eq_true rfl, Nat.le_of_ble_eq_true rfl⟩) (fun r9 s8 h => ?_)
  exact r_iret X h (Nat.le_of_ble_eq_true rfl) (Nat.le_of_ble_eq_true rfl) dX0_sticksOf_42
theorem m_X0_sticksOf (l : Launch) (G : GT) (g : GK G) (hph : kP G = 1) (p1 : Int32) (p2 : Int32) (p3 : Int32) (s : PS) (Q : Int32 → PS → Prop) (h : w_X0_sticksOf G p1 p2 p3 s Q) : Met l yX0_sticksOf (ws_ yX0_sticksOf cX0_sticksOf 4 (some .int)) rm_X0_sticksOf (va_Pc [.ref (kB G + 0), .int p1, .int p2, .int p3] (Wr G s)) (va_Qi Q (fun u t => Wr G u t) (kF G)) 0 0 (kF G) := by
  refine Met.ofW (cc := cX0_sticksOf) (maxL := 4) (ret := (some .int)) (by decide) rfl ?_
  intro p e s0 m args below meth c s₁ B hml hv
  obtain ⟨rfl, hw⟩ := hv
  exact wb_of [.ref (kB G + 0), .int p1, .int p2, .int p3] (Nat.le_of_ble_eq_true rfl) hw.1 rfl (e_X0_sticksOf (cx_of g B hml rfl hw) hph p1 p2 p3 s Q h)
theorem e_X12_settles {x : CT} {G : GT} (X : Cx x G cX12_settles 1 RX12 none rm_X12_settles) (hph : kP G = 1) (a0 : Nat) (s : PS) (Q : PS → Prop) (h : w_X12_settles G a0 s Q) : WB x G 1 (QfV x G 0 0 Q) 0 0 s 0 [(0, .ref a0)] [] := by
  unfold w_X12_settles at h
  refine r_aload_n X 0 dX12_settles_0 rfl rfl ?_
  obtain ⟨g1, h⟩ := h
  refine gf_X12_39 X g1 dX12_settles_1 ?_
  refine r_aload_n X 0 dX12_settles_4 rfl rfl ?_
  refine gf_X12_29 X g1 dX12_settles_5 ?_
  refine r_isub X dX12_settles_8 ?_
  refine r_mabs X q862 q863 q150 q864 (Nat.le_of_ble_eq_true rfl) (Nat.le_of_ble_eq_true rfl) (Nat.le_of_ble_eq_true rfl) ⟨Nat.le_of_ble_eq_true rfl, Nat.le_of_ble_eq_true rfl⟩ dX12_settles_9 ?_
  refine r_aload_n X 0 dX12_settles_12 rfl rfl ?_
  obtain ⟨g2, h⟩ := h
  refine gf_X12_3 X g1 dX12_settles_13 ?_
  refine r_top (show va_rf (gR s a0 5) = Value.ref (kB G + 0) by rw [g2]; rfl) ?_
  refine r_aload_n X 0 dX12_settles_16 rfl rfl ?_
  refine gf_X12_15 X g1 dX12_settles_17 ?_
  refine r_aload_n X 0 dX12_settles_20 rfl rfl ?_
  refine gf_X12_39 X g1 dX12_settles_21 ?_
  refine r_aload_n X 0 dX12_settles_24 rfl rfl ?_
  refine gf_X12_45 X g1 dX12_settles_25 ?_
  refine r_ci X (r_okS (As := [.int (gI s a0 4)]) (rest := [.int (gI s a0 2), .int (gI s a0 0), .ref (kB G + 0), .int (jab ((gI s a0 2) - (gI s a0 1)))]) X (m_J12_bitCount (xl x) G X.2.2.2.2.1 (gI s a0 4) s _ h) (cl_X12_53 X ⟨(Nat.le_of_ble_eq_true rfl), (Nat.le_of_ble_eq_true rfl)⟩) rfl rfl (Nat.le_of_ble_eq_true rfl) dX12_settles_28 ⟨Nat.le_of_ble_eq_true rfl, Nat.le_of_ble_eq_true rfl⟩) (fun r4 s3 h => ?_)
  refine r_ci X (r_okVNL (As := [.int (gI s a0 0), .int (gI s a0 2), .int r4]) (rest := [.int (jab ((gI s a0 2) - (gI s a0 1)))]) X (m_X0_sticksOf (xl x) G X.2.2.2.2.1 hph (gI s a0 0) (gI s a0 2) r4 s3 _ h) (cl_X12_58 X ⟨(Nat.le_of_ble_eq_true rfl), (Nat.le_of_ble_eq_true rfl)⟩) hph 0 ly_0 rfl rfl rfl rfl (Nat.le_of_ble_eq_true rfl) dX12_settles_31 ⟨Nat.le_of_ble_eq_true rfl, Nat.le_of_ble_eq_true rfl⟩) (fun r6 s5 h => ?_)
  refine r_ic_le X 45 dX12_settles_34 (by decide) (fun c7 => ?_) (fun c7 => ?_)
  · replace h := h.1 c7
    exact r_vret X h (Nat.le_of_ble_eq_true rfl) (Nat.le_of_ble_eq_true rfl) dX12_settles_45
  · replace h := h.2 c7
    refine r_aload_n X 0 dX12_settles_37 rfl rfl ?_
    refine r_aload_n X 0 dX12_settles_38 rfl rfl ?_
    obtain ⟨g8, h⟩ := h
    refine gf_X12_29 X g8 dX12_settles_39 ?_
    obtain ⟨g9, h⟩ := h
    refine pf_X12_39 X g8 g9 dX12_settles_42 (fun s10 e11 => ?_)
    replace h := h s10 e11
    exact r_vret X h (Nat.le_of_ble_eq_true rfl) (Nat.le_of_ble_eq_true rfl) dX12_settles_45
theorem m_X12_settles (l : Launch) (G : GT) (g : GK G) (hph : kP G = 1) (a0 : Nat) (s : PS) (Q : PS → Prop) (h : w_X12_settles G a0 s Q) : Met l yX12_settles (ws_ yX12_settles cX12_settles 1 none) rm_X12_settles (va_Pc [.ref a0] (Wr G s)) (va_Qv Q (fun u t => Wr G u t) (kF G)) 0 0 (kF G) := by
  refine Met.ofW (cc := cX12_settles) (maxL := 1) (ret := none) (by decide) rfl ?_
  intro p e s0 m args below meth c s₁ B hml hv
  obtain ⟨rfl, hw⟩ := hv
  exact wb_of [.ref a0] (Nat.le_of_ble_eq_true rfl) hw.1 rfl (e_X12_settles (cx_of g B hml rfl hw) hph a0 s Q h)
theorem e_X12_init {x : CT} {G : GT} (X : Cx x G cX12_init 3 RX12 none rm_X12_init) (hph : kP G = 1) (hin : (xM x).name = "<init>") (a0 : Nat) (p1 : Nat) (p2 : Int32) (s : PS) (Q : PS → Prop) (h : w_X12_init G a0 p1 p2 s Q) : WB x G 3 (QfV x G 0 0 Q) 0 0 s 0 [(0, .ref a0), (1, .ref p1), (2, .int p2)] [] := by
  unfold w_X12_init at h
  refine r_aload_n X 0 dX12_init_0 rfl rfl ?_
  refine r_aload_n X 1 dX12_init_1 rfl rfl ?_
  obtain ⟨g1, h⟩ := h
  obtain ⟨g2, h⟩ := h
  refine pf_X12_3 X hin g1 (Or.inl (Nat.le_of_ble_eq_true rfl)) g2 dX12_init_2 (fun s3 e4 => ?_)
  replace h := h s3 e4
  refine r_aload_n X 0 dX12_init_5 rfl rfl ?_
  refine r_objinit X q852 q174 q175 (Nat.le_of_ble_eq_true rfl) (Nat.le_of_ble_eq_true rfl) (Nat.le_of_ble_eq_true rfl) dX12_init_6 ?_
  refine r_aload_n X 0 dX12_init_9 rfl rfl ?_
  refine r_iload_n X 2 dX12_init_10 rfl rfl ?_
  have g5 : gT s3 a0 = 112 := by rw [e4]; exact g1
  refine pf_X12_15 X hin g5 g2 dX12_init_11 (fun s6 e7 => ?_)
  replace h := h s6 e7
  refine r_aload_n X 0 dX12_init_14 rfl rfl ?_
  refine r_aload_n X 1 dX12_init_15 rfl rfl ?_
  obtain ⟨g8, h⟩ := h
  refine gf_X12_19 X g8 dX12_init_16 ?_
  obtain ⟨q9, g10, h⟩ := h
  refine r_top (show va_rf (gR s6 p1 0) = Value.ref q9 by rw [g10]; rfl) ?_
  refine r_iload_n X 2 dX12_init_19 rfl rfl ?_
  obtain ⟨g11, h⟩ := h
  refine r_ci X (r_okV (As := [.int p2]) (rest := [.ref a0]) X (m_X1_lentTo (xl x) G X.2.2.2.2.1 q9 p2 s6 _ h) (cl_X12_23 X ⟨(Nat.le_of_ble_eq_true rfl), (Nat.le_of_ble_eq_true rfl)⟩) 1 g11 rfl rfl rfl rfl (Nat.le_of_ble_eq_true rfl) dX12_init_20 ⟨Nat.le_of_ble_eq_true rfl, Nat.le_of_ble_eq_true rfl⟩) (fun r13 s12 h => ?_)
  obtain ⟨g14, h⟩ := h
  refine pf_X12_29 X g14 g2 dX12_init_23 (fun s15 e16 => ?_)
  replace h := h s15 e16
  refine r_aload_n X 0 dX12_init_26 rfl rfl ?_
  have g17 : gT s15 a0 = 112 := by rw [e16]; exact g14
  refine r_cv X (r_okV (As := []) (rest := []) X (m_X12_settles (xl x) G X.2.2.2.2.1 hph a0 s15 _ h) (cl_X12_32 X ⟨(Nat.le_of_ble_eq_true rfl), (Nat.le_of_ble_eq_true rfl)⟩) 12 g17 rfl rfl rfl rfl (Nat.le_of_ble_eq_true rfl) dX12_init_27 ⟨Nat.le_of_ble_eq_true rfl, Nat.le_of_ble_eq_true rfl⟩) (fun s18 h => ?_)
  exact r_vret X h (Nat.le_of_ble_eq_true rfl) (Nat.le_of_ble_eq_true rfl) dX12_init_30
theorem m_X12_init (l : Launch) (G : GT) (g : GK G) (hph : kP G = 1) (a0 : Nat) (p1 : Nat) (p2 : Int32) (s : PS) (Q : PS → Prop) (h : w_X12_init G a0 p1 p2 s Q) : Met l yX12_init (ws_ yX12_init cX12_init 3 none) rm_X12_init (va_Pc [.ref a0, .ref p1, .int p2] (Wr G s)) (va_Qv Q (fun u t => Wr G u t) (kF G)) 0 0 (kF G) := by
  refine Met.ofW (cc := cX12_init) (maxL := 3) (ret := none) (by decide) rfl ?_
  intro p e s0 m args below meth c s₁ B hml hv
  obtain ⟨rfl, hw⟩ := hv
  exact wb_of [.ref a0, .ref p1, .int p2] (Nat.le_of_ble_eq_true rfl) hw.1 rfl (e_X12_init (cx_of g B hml rfl hw) hph (name_of_methodNamed B.named B.method).1 a0 p1 p2 s Q h)
theorem e_X12_keeps {x : CT} {G : GT} (X : Cx x G cX12_keeps 1 RX12 none rm_X12_keeps) (hph : kP G = 1) (a0 : Nat) (s : PS) (Q : PS → Prop) (h : w_X12_keeps G a0 s Q) : WB x G 1 (QfV x G 0 0 Q) 0 0 s 0 [(0, .ref a0)] [] := by
  unfold w_X12_keeps at h
  refine r_aload_n X 0 dX12_keeps_0 rfl rfl ?_
  obtain ⟨g1, h⟩ := h
  obtain ⟨g2, h⟩ := h
  refine gf_X12_3 X g1 dX12_keeps_1 ?_
  refine r_top (show va_rf (gR s a0 5) = Value.ref (kB G + 0) by rw [g2]; rfl) ?_
  refine gr_X12_19 X hph 0 0 1 ly_0 rfl rfl dX12_keeps_4 ?_
  refine gr_X12_35 X hph 1 1 5 ly_1 rfl rfl dX12_keeps_7 ?_
  refine r_iconst (v := 0) X dX12_keeps_10 rfl ?_
  refine r_aload_n X 0 dX12_keeps_11 rfl rfl ?_
  refine gf_X12_15 X g1 dX12_keeps_12 ?_
  refine r_iastL X hph 5 195 ly_5 tn_0 il_0_195 dX12_keeps_15 (fun s3 e4 => ?_)
  replace h := h s3 e4
  refine r_aload_n X 0 dX12_keeps_16 rfl rfl ?_
  have g5 : gT s3 a0 = 112 := by rw [e4]; exact g1
  obtain ⟨g6, h⟩ := h
  refine gf_X12_3 X g5 dX12_keeps_17 ?_
  refine r_top (show va_rf (gR s3 a0 5) = Value.ref (kB G + 0) by rw [g6]; rfl) ?_
  refine gr_X12_19 X hph 0 0 1 ly_0 rfl rfl dX12_keeps_20 ?_
  refine gr_X12_35 X hph 1 1 5 ly_1 rfl rfl dX12_keeps_23 ?_
  refine r_iconst (v := 1) X dX12_keeps_26 rfl ?_
  refine r_aload_n X 0 dX12_keeps_27 rfl rfl ?_
  refine gf_X12_29 X g5 dX12_keeps_28 ?_
  refine r_iastL X hph 5 195 ly_5 tn_1 il_1_195 dX12_keeps_31 (fun s7 e8 => ?_)
  replace h := h s7 e8
  refine r_aload_n X 0 dX12_keeps_32 rfl rfl ?_
  have g9 : gT s7 a0 = 112 := by rw [e8]; exact g5
  obtain ⟨g10, h⟩ := h
  refine gf_X12_3 X g9 dX12_keeps_33 ?_
  refine r_top (show va_rf (gR s7 a0 5) = Value.ref (kB G + 0) by rw [g10]; rfl) ?_
  refine gr_X12_19 X hph 0 0 1 ly_0 rfl rfl dX12_keeps_36 ?_
  refine gr_X12_35 X hph 1 1 5 ly_1 rfl rfl dX12_keeps_39 ?_
  refine r_iconst (v := 2) X dX12_keeps_42 rfl ?_
  refine r_aload_n X 0 dX12_keeps_43 rfl rfl ?_
  refine gf_X12_39 X g9 dX12_keeps_44 ?_
  refine r_iastL X hph 5 195 ly_5 tn_2 il_2_195 dX12_keeps_47 (fun s11 e12 => ?_)
  replace h := h s11 e12
  refine r_aload_n X 0 dX12_keeps_48 rfl rfl ?_
  have g13 : gT s11 a0 = 112 := by rw [e12]; exact g9
  obtain ⟨g14, h⟩ := h
  refine gf_X12_3 X g13 dX12_keeps_49 ?_
  refine r_top (show va_rf (gR s11 a0 5) = Value.ref (kB G + 0) by rw [g14]; rfl) ?_
  refine gr_X12_19 X hph 0 0 1 ly_0 rfl rfl dX12_keeps_52 ?_
  refine gr_X12_35 X hph 1 1 5 ly_1 rfl rfl dX12_keeps_55 ?_
  refine r_iconst (v := 3) X dX12_keeps_58 rfl ?_
  refine r_aload_n X 0 dX12_keeps_59 rfl rfl ?_
  refine gf_X12_42 X g13 dX12_keeps_60 ?_
  refine r_iastL X hph 5 195 ly_5 tn_3 il_3_195 dX12_keeps_63 (fun s15 e16 => ?_)
  replace h := h s15 e16
  refine r_aload_n X 0 dX12_keeps_64 rfl rfl ?_
  have g17 : gT s15 a0 = 112 := by rw [e16]; exact g13
  obtain ⟨g18, h⟩ := h
  refine gf_X12_3 X g17 dX12_keeps_65 ?_
  refine r_top (show va_rf (gR s15 a0 5) = Value.ref (kB G + 0) by rw [g18]; rfl) ?_
  refine gr_X12_19 X hph 0 0 1 ly_0 rfl rfl dX12_keeps_68 ?_
  refine gr_X12_35 X hph 1 1 5 ly_1 rfl rfl dX12_keeps_71 ?_
  refine r_iconst (v := 4) X dX12_keeps_74 rfl ?_
  refine r_aload_n X 0 dX12_keeps_75 rfl rfl ?_
  refine gf_X12_45 X g17 dX12_keeps_76 ?_
  refine r_iastL X hph 5 195 ly_5 tn_4 il_4_195 dX12_keeps_79 (fun s19 e20 => ?_)
  replace h := h s19 e20
  exact r_vret X h (Nat.le_of_ble_eq_true rfl) (Nat.le_of_ble_eq_true rfl) dX12_keeps_80
theorem m_X12_keeps (l : Launch) (G : GT) (g : GK G) (hph : kP G = 1) (a0 : Nat) (s : PS) (Q : PS → Prop) (h : w_X12_keeps G a0 s Q) : Met l yX12_keeps (ws_ yX12_keeps cX12_keeps 1 none) rm_X12_keeps (va_Pc [.ref a0] (Wr G s)) (va_Qv Q (fun u t => Wr G u t) (kF G)) 0 0 (kF G) := by
  refine Met.ofW (cc := cX12_keeps) (maxL := 1) (ret := none) (by decide) rfl ?_
  intro p e s0 m args below meth c s₁ B hml hv
  obtain ⟨rfl, hw⟩ := hv
  exact wb_of [.ref a0] (Nat.le_of_ble_eq_true rfl) hw.1 rfl (e_X12_keeps (cx_of g B hml rfl hw) hph a0 s Q h)
theorem e_X0_weighs {x : CT} {G : GT} (X : Cx x G cX0_weighs 2 RX0 none rm_X0_weighs) (hph : kP G = 1) (p1 : Int32) (s : PS) (Q : PS → Prop) (h : w_X0_weighs G p1 s Q) : WB x G 2 (QfV x G 1 6 Q) 0 0 s 0 [(0, .ref (kB G + 0)), (1, .int p1)] [] := by
  unfold w_X0_weighs at h
  refine r_new X 12 in_X12 tyX12_ok rfl q847 q848 q166 (df_of df_X12) ⟨Nat.le_of_ble_eq_true rfl, Nat.le_of_ble_eq_true rfl⟩ dX0_weighs_0 (fun z1 e2 w3 u4 s5 e6 => ?_)
  replace h := h z1 e2 w3 u4 s5 e6
  have g7 : gT s5 z1 = 112 := by rw [e6, gT_pNew, if_pos e2]
  refine r_dup X dX0_weighs_3 rfl ?_
  refine r_aload_n X 0 dX0_weighs_4 rfl rfl ?_
  refine r_iload_n X 1 dX0_weighs_5 rfl rfl ?_
  refine r_cv X (r_okI (As := [.ref (kB G + 0), .int p1]) (rest := [.ref z1]) X (m_X12_init (xl x) G X.2.2.2.2.1 hph z1 (kB G + 0) p1 s5 _ h) (cl_X0_208 X ⟨(Nat.le_of_ble_eq_true rfl), (Nat.le_of_ble_eq_true rfl)⟩) rfl rfl (Nat.le_of_ble_eq_true rfl) dX0_weighs_6 ⟨Nat.le_of_ble_eq_true rfl, Nat.le_of_ble_eq_true rfl⟩) (fun s8 h => ?_)
  obtain ⟨g9, h⟩ := h
  refine r_cv X (r_okV (As := []) (rest := []) X (m_X12_keeps (xl x) G X.2.2.2.2.1 hph z1 s8 _ h) (cl_X0_211 X ⟨(Nat.le_of_ble_eq_true rfl), (Nat.le_of_ble_eq_true rfl)⟩) 12 g9 rfl rfl rfl rfl (Nat.le_of_ble_eq_true rfl) dX0_weighs_9 ⟨Nat.le_of_ble_eq_true rfl, Nat.le_of_ble_eq_true rfl⟩) (fun s10 h => ?_)
  refine r_aload_n X 0 dX0_weighs_12 rfl rfl ?_
  refine gr_X0_12 X hph 0 0 1 ly_0 rfl rfl dX0_weighs_13 ?_
  refine gr_X0_203 X hph 1 1 5 ly_1 rfl rfl dX0_weighs_16 ?_
  refine r_iconst (v := 5) X dX0_weighs_19 rfl ?_
  refine r_iconst (v := 0) X dX0_weighs_20 rfl ?_
  refine r_iastL X hph 5 195 ly_5 tn_5 il_5_195 dX0_weighs_21 (fun s11 e12 => ?_)
  replace h := h s11 e12
  exact r_vret X h (Nat.le_of_ble_eq_true rfl) (Nat.le_of_ble_eq_true rfl) dX0_weighs_22
theorem m_X0_weighs (l : Launch) (G : GT) (g : GK G) (hph : kP G = 1) (p1 : Int32) (s : PS) (Q : PS → Prop) (h : w_X0_weighs G p1 s Q) : Met l yX0_weighs (ws_ yX0_weighs cX0_weighs 2 none) rm_X0_weighs (va_Pc [.ref (kB G + 0), .int p1] (Wr G s)) (va_Qv Q (fun u t => Wr G u t) (kF G)) 1 6 (kF G) := by
  refine Met.ofW (cc := cX0_weighs) (maxL := 2) (ret := none) (by decide) rfl ?_
  intro p e s0 m args below meth c s₁ B hml hv
  obtain ⟨rfl, hw⟩ := hv
  exact wb_of [.ref (kB G + 0), .int p1] (Nat.le_of_ble_eq_true rfl) hw.1 rfl (e_X0_weighs (cx_of g B hml rfl hw) hph p1 s Q h)
theorem e_X0_weigh {x : CT} {G : GT} (X : Cx x G cX0_weigh 2 RX0 (some .int) rm_X0_weigh) (hph : kP G = 1) (p1 : Int32) (s : PS) (Q : Int32 → PS → Prop) (h : w_X0_weigh G p1 s Q) : WB x G 2 (QfI x G 1 6 Q) 0 0 s 0 [(0, .ref (kB G + 0)), (1, .int p1)] [] := by
  unfold w_X0_weigh at h
  refine r_aload_n X 0 dX0_weigh_0 rfl rfl ?_
  refine r_iload_n X 1 dX0_weigh_1 rfl rfl ?_
  refine r_ci X (r_okVL (As := [.int p1]) (rest := []) X (m_X0_isHeart (xl x) G X.2.2.2.2.1 hph p1 s _ h) (cl_X0_84 X ⟨(Nat.le_of_ble_eq_true rfl), (Nat.le_of_ble_eq_true rfl)⟩) hph 0 ly_0 rfl rfl rfl rfl (Nat.le_of_ble_eq_true rfl) dX0_weigh_2 ⟨Nat.le_of_ble_eq_true rfl, Nat.le_of_ble_eq_true rfl⟩) (fun r2 s1 h => ?_)
  obtain ⟨z3, h⟩ := h
  refine r_if_ne X 11 dX0_weigh_5 (by decide) (fun c4 => ?_) (fun c4 => ?_)
  · replace h := h.2 c4
    refine r_aload_n X 0 dX0_weigh_11 rfl rfl ?_
    refine gr_X0_12 X hph 0 0 1 ly_0 rfl rfl dX0_weigh_12 ?_
    refine r_cv X (r_okVL (As := []) (rest := []) X (m_X1_keeps (xl x) G X.2.2.2.2.1 (kB G + 1) s1 _ h) (cl_X0_200 X ⟨(Nat.le_of_ble_eq_true rfl), (Nat.le_of_ble_eq_true rfl)⟩) hph 1 ly_1 rfl rfl rfl rfl (Nat.le_of_ble_eq_true rfl) dX0_weigh_15 ⟨Nat.le_of_ble_eq_true rfl, Nat.le_of_ble_eq_true rfl⟩) (fun s5 h => ?_)
    refine r_aload_n X 0 dX0_weigh_18 rfl rfl ?_
    refine r_iload_n X 1 dX0_weigh_19 rfl rfl ?_
    refine r_cv X (r_okVL (As := [.int p1]) (rest := []) X (m_X0_weighs (xl x) G X.2.2.2.2.1 hph p1 s5 _ h) (cl_X0_213 X ⟨(Nat.le_of_ble_eq_true rfl), (Nat.le_of_ble_eq_true rfl)⟩) hph 0 ly_0 rfl rfl rfl rfl (Nat.le_of_ble_eq_true rfl) dX0_weigh_20 ⟨Nat.le_of_ble_eq_true rfl, Nat.le_of_ble_eq_true rfl⟩) (fun s6 h => ?_)
    refine r_aload_n X 0 dX0_weigh_23 rfl rfl ?_
    refine gr_X0_12 X hph 0 0 1 ly_0 rfl rfl dX0_weigh_24 ?_
    refine gr_X0_203 X hph 1 1 5 ly_1 rfl rfl dX0_weigh_27 ?_
    refine r_iconst (v := 2) X dX0_weigh_30 rfl ?_
    refine r_ialdL X hph 5 195 ly_5 tn_2 il_2_195 dX0_weigh_31 ?_
    exact r_iret X h (Nat.le_of_ble_eq_true rfl) (Nat.le_of_ble_eq_true rfl) dX0_weigh_32
  · replace h := h.1 c4
    refine r_ldc X q842 dX0_weigh_8 ?_
    exact r_iret X h (Nat.le_of_ble_eq_true rfl) (Nat.le_of_ble_eq_true rfl) dX0_weigh_10
theorem m_X0_weigh (l : Launch) (G : GT) (g : GK G) (hph : kP G = 1) (p1 : Int32) (s : PS) (Q : Int32 → PS → Prop) (h : w_X0_weigh G p1 s Q) : Met l yX0_weigh (ws_ yX0_weigh cX0_weigh 2 (some .int)) rm_X0_weigh (va_Pc [.ref (kB G + 0), .int p1] (Wr G s)) (va_Qi Q (fun u t => Wr G u t) (kF G)) 1 6 (kF G) := by
  refine Met.ofW (cc := cX0_weigh) (maxL := 2) (ret := (some .int)) (by decide) rfl ?_
  intro p e s0 m args below meth c s₁ B hml hv
  obtain ⟨rfl, hw⟩ := hv
  exact wb_of [.ref (kB G + 0), .int p1] (Nat.le_of_ble_eq_true rfl) hw.1 rfl (e_X0_weigh (cx_of g B hml rfl hw) hph p1 s Q h)
theorem e_X0_isWeighing {x : CT} {G : GT} (X : Cx x G cX0_isWeighing 1 RX0 (some .boolean) rm_X0_isWeighing) (hph : kP G = 1) (s : PS) (Q : Int32 → PS → Prop) (h : w_X0_isWeighing G s Q) : WB x G 1 (QfI x G 0 0 (fun r u => (r = 0 ∨ r = 1) ∧ Q r u)) 0 0 s 0 [(0, .ref (kB G + 0))] [] := by
  unfold w_X0_isWeighing at h
  refine r_aload_n X 0 dX0_isWeighing_0 rfl rfl ?_
  refine gr_X0_12 X hph 0 0 1 ly_0 rfl rfl dX0_isWeighing_1 ?_
  refine gr_X0_203 X hph 1 1 5 ly_1 rfl rfl dX0_isWeighing_4 ?_
  refine r_iconst (v := 0) X dX0_isWeighing_7 rfl ?_
  refine r_ialdL X hph 5 195 ly_5 tn_0 il_0_195 dX0_isWeighing_8 ?_
  refine r_iconst (v := (-1)) X dX0_isWeighing_9 rfl ?_
  have hJ : WB x G 1 (QfI x G 0 0 (fun r u => (r = 0 ∨ r = 1) ∧ Q r u)) 0 0 s 18 [(0, .ref (kB G + 0))] [.int (if (gI s (kB G + 5) 0) = (-1) then 0 else 1 : Int32)] := by
    exact r_zret X (by (repeat' split) <;> first | exact Or.inl rfl | exact Or.inr rfl) h (Nat.le_of_ble_eq_true rfl) (Nat.le_of_ble_eq_true rfl) dX0_isWeighing_18
  refine r_ic_eq X 17 dX0_isWeighing_10 (by decide) (fun c1 => ?_) (fun c1 => ?_)
  · rw [if_pos c1] at hJ
    refine r_iconst (v := 0) X dX0_isWeighing_17 rfl ?_
    exact hJ
  · rw [if_neg c1] at hJ
    refine r_iconst (v := 1) X dX0_isWeighing_13 rfl ?_
    refine r_goto X 18 dX0_isWeighing_14 (by decide) ?_
    exact hJ
theorem m_X0_isWeighing (l : Launch) (G : GT) (g : GK G) (hph : kP G = 1) (s : PS) (Q : Int32 → PS → Prop) (h : w_X0_isWeighing G s Q) : Met l yX0_isWeighing (ws_ yX0_isWeighing cX0_isWeighing 1 (some .boolean)) rm_X0_isWeighing (va_Pc [.ref (kB G + 0)] (Wr G s)) (va_Qi (fun r u => (r = 0 ∨ r = 1) ∧ Q r u) (fun u t => Wr G u t) (kF G)) 0 0 (kF G) := by
  refine Met.ofW (cc := cX0_isWeighing) (maxL := 1) (ret := (some .boolean)) (by decide) rfl ?_
  intro p e s0 m args below meth c s₁ B hml hv
  obtain ⟨rfl, hw⟩ := hv
  exact wb_of [.ref (kB G + 0)] (Nat.le_of_ble_eq_true rfl) hw.1 rfl (e_X0_isWeighing (cx_of g B hml rfl hw) hph s Q h)
theorem e_X0_has {x : CT} {G : GT} (X : Cx x G cX0_has 2 RX0 (some .boolean) rm_X0_has) (p1 : Int32) (p2 : Int32) (s : PS) (Q : Int32 → PS → Prop) (h : w_X0_has G p1 p2 s Q) : WB x G 2 (QfI x G 0 0 (fun r u => (r = 0 ∨ r = 1) ∧ Q r u)) 0 0 s 0 [(0, .int p1), (1, .int p2)] [] := by
  unfold w_X0_has at h
  refine r_iload_n X 0 dX0_has_0 rfl rfl ?_
  refine r_iload_n X 1 dX0_has_1 rfl rfl ?_
  refine r_ishr X dX0_has_2 ?_
  refine r_iconst (v := 1) X dX0_has_3 rfl ?_
  refine r_iand X dX0_has_4 ?_
  refine r_iconst (v := 1) X dX0_has_5 rfl ?_
  have hJ : WB x G 2 (QfI x G 0 0 (fun r u => (r = 0 ∨ r = 1) ∧ Q r u)) 0 0 s 14 [(0, .int p1), (1, .int p2)] [.int (if ((p1 >>> (p2 &&& 31)) &&& 1) = 1 then 1 else 0 : Int32)] := by
    exact r_zret X (by (repeat' split) <;> first | exact Or.inl rfl | exact Or.inr rfl) h (Nat.le_of_ble_eq_true rfl) (Nat.le_of_ble_eq_true rfl) dX0_has_14
  refine r_ic_ne X 13 dX0_has_6 (by decide) (fun c1 => ?_) (fun c1 => ?_)
  · rw [if_neg c1] at hJ
    refine r_iconst (v := 0) X dX0_has_13 rfl ?_
    exact hJ
  · rw [if_pos c1] at hJ
    refine r_iconst (v := 1) X dX0_has_9 rfl ?_
    refine r_goto X 14 dX0_has_10 (by decide) ?_
    exact hJ
theorem m_X0_has (l : Launch) (G : GT) (g : GK G) (p1 : Int32) (p2 : Int32) (s : PS) (Q : Int32 → PS → Prop) (h : w_X0_has G p1 p2 s Q) : Met l yX0_has (ws_ yX0_has cX0_has 2 (some .boolean)) rm_X0_has (va_Pc [.int p1, .int p2] (Wr G s)) (va_Qi (fun r u => (r = 0 ∨ r = 1) ∧ Q r u) (fun u t => Wr G u t) (kF G)) 0 0 (kF G) := by
  refine Met.ofW (cc := cX0_has) (maxL := 2) (ret := (some .boolean)) (by decide) rfl ?_
  intro p e s0 m args below meth c s₁ B hml hv
  obtain ⟨rfl, hw⟩ := hv
  exact wb_of [.int p1, .int p2] (Nat.le_of_ble_eq_true rfl) hw.1 rfl (e_X0_has (cx_of g B hml rfl hw) p1 p2 s Q h)
theorem e_X12_init_2 {x : CT} {G : GT} (X : Cx x G cX12_init_2 2 RX12 none rm_X12_init_2) (hph : kP G = 1) (hin : (xM x).name = "<init>") (a0 : Nat) (p1 : Nat) (s : PS) (Q : PS → Prop) (h : w_X12_init_2 G a0 p1 s Q) : WB x G 2 (QfV x G 0 0 Q) 0 0 s 0 [(0, .ref a0), (1, .ref p1)] [] := by
  unfold w_X12_init_2 at h
  refine r_aload_n X 0 dX12_init_2_0 rfl rfl ?_
  refine r_aload_n X 1 dX12_init_2_1 rfl rfl ?_
  obtain ⟨g1, h⟩ := h
  obtain ⟨g2, h⟩ := h
  refine pf_X12_3 X hin g1 (Or.inl (Nat.le_of_ble_eq_true rfl)) g2 dX12_init_2_2 (fun s3 e4 => ?_)
  replace h := h s3 e4
  refine r_aload_n X 0 dX12_init_2_5 rfl rfl ?_
  refine r_objinit X q852 q174 q175 (Nat.le_of_ble_eq_true rfl) (Nat.le_of_ble_eq_true rfl) (Nat.le_of_ble_eq_true rfl) dX12_init_2_6 ?_
  refine r_aload_n X 0 dX12_init_2_9 rfl rfl ?_
  refine r_aload_n X 1 dX12_init_2_10 rfl rfl ?_
  obtain ⟨g5, h⟩ := h
  refine gf_X12_19 X g5 dX12_init_2_11 ?_
  obtain ⟨q6, g7, h⟩ := h
  refine r_top (show va_rf (gR s3 p1 0) = Value.ref q6 by rw [g7]; rfl) ?_
  obtain ⟨g8, h⟩ := h
  refine gf_X12_35 X g8 dX12_init_2_14 ?_
  obtain ⟨q9, g10, h⟩ := h
  refine r_top (show va_rf (gR s3 q6 3) = Value.ref q9 by rw [g10]; rfl) ?_
  refine r_iconst (v := 0) X dX12_init_2_17 rfl ?_
  obtain ⟨g11, h⟩ := h
  obtain ⟨g12, h⟩ := h
  refine r_iald X g11 g12 dX12_init_2_18 ?_
  have g13 : gT s3 a0 = 112 := by rw [e4]; exact g1
  refine pf_X12_15 X hin g13 g2 dX12_init_2_19 (fun s14 e15 => ?_)
  replace h := h s14 e15
  refine r_aload_n X 0 dX12_init_2_22 rfl rfl ?_
  refine r_aload_n X 1 dX12_init_2_23 rfl rfl ?_
  have g16 : gT s14 p1 = 100 := by rw [e15]; exact g5
  refine gf_X12_19 X g16 dX12_init_2_24 ?_
  obtain ⟨q17, g18, h⟩ := h
  refine r_top (show va_rf (gR s14 p1 0) = Value.ref q17 by rw [g18]; rfl) ?_
  obtain ⟨g19, h⟩ := h
  refine gf_X12_35 X g19 dX12_init_2_27 ?_
  obtain ⟨q20, g21, h⟩ := h
  refine r_top (show va_rf (gR s14 q17 3) = Value.ref q20 by rw [g21]; rfl) ?_
  refine r_iconst (v := 1) X dX12_init_2_30 rfl ?_
  obtain ⟨g22, h⟩ := h
  obtain ⟨g23, h⟩ := h
  refine r_iald X g22 g23 dX12_init_2_31 ?_
  have g24 : gT s14 a0 = 112 := by rw [e15]; exact g13
  refine pf_X12_29 X g24 g2 dX12_init_2_32 (fun s25 e26 => ?_)
  replace h := h s25 e26
  refine r_aload_n X 0 dX12_init_2_35 rfl rfl ?_
  refine r_aload_n X 1 dX12_init_2_36 rfl rfl ?_
  have g27 : gT s25 p1 = 100 := by rw [e26]; exact g16
  refine gf_X12_19 X g27 dX12_init_2_37 ?_
  obtain ⟨q28, g29, h⟩ := h
  refine r_top (show va_rf (gR s25 p1 0) = Value.ref q28 by rw [g29]; rfl) ?_
  obtain ⟨g30, h⟩ := h
  refine gf_X12_35 X g30 dX12_init_2_40 ?_
  obtain ⟨q31, g32, h⟩ := h
  refine r_top (show va_rf (gR s25 q28 3) = Value.ref q31 by rw [g32]; rfl) ?_
  refine r_iconst (v := 2) X dX12_init_2_43 rfl ?_
  obtain ⟨g33, h⟩ := h
  obtain ⟨g34, h⟩ := h
  refine r_iald X g33 g34 dX12_init_2_44 ?_
  have g35 : gT s25 a0 = 112 := by rw [e26]; exact g24
  refine pf_X12_39 X g35 g2 dX12_init_2_45 (fun s36 e37 => ?_)
  replace h := h s36 e37
  refine r_aload_n X 0 dX12_init_2_48 rfl rfl ?_
  refine r_aload_n X 1 dX12_init_2_49 rfl rfl ?_
  have g38 : gT s36 p1 = 100 := by rw [e37]; exact g27
  refine gf_X12_19 X g38 dX12_init_2_50 ?_
  obtain ⟨q39, g40, h⟩ := h
  refine r_top (show va_rf (gR s36 p1 0) = Value.ref q39 by rw [g40]; rfl) ?_
  obtain ⟨g41, h⟩ := h
  refine gf_X12_35 X g41 dX12_init_2_53 ?_
  obtain ⟨q42, g43, h⟩ := h
  refine r_top (show va_rf (gR s36 q39 3) = Value.ref q42 by rw [g43]; rfl) ?_
  refine r_iconst (v := 3) X dX12_init_2_56 rfl ?_
  obtain ⟨g44, h⟩ := h
  obtain ⟨g45, h⟩ := h
  refine r_iald X g44 g45 dX12_init_2_57 ?_
  have g46 : gT s36 a0 = 112 := by rw [e37]; exact g35
  refine pf_X12_42 X g46 g2 dX12_init_2_58 (fun s47 e48 => ?_)
  replace h := h s47 e48
  refine r_aload_n X 0 dX12_init_2_61 rfl rfl ?_
  refine r_aload_n X 1 dX12_init_2_62 rfl rfl ?_
  have g49 : gT s47 p1 = 100 := by rw [e48]; exact g38
  refine gf_X12_19 X g49 dX12_init_2_63 ?_
  obtain ⟨q50, g51, h⟩ := h
  refine r_top (show va_rf (gR s47 p1 0) = Value.ref q50 by rw [g51]; rfl) ?_
  obtain ⟨g52, h⟩ := h
  refine gf_X12_35 X g52 dX12_init_2_66 ?_
  obtain ⟨q53, g54, h⟩ := h
  refine r_top (show va_rf (gR s47 q50 3) = Value.ref q53 by rw [g54]; rfl) ?_
  refine r_iconst (v := 4) X dX12_init_2_69 rfl ?_
  obtain ⟨g55, h⟩ := h
  obtain ⟨g56, h⟩ := h
  refine r_iald X g55 g56 dX12_init_2_70 ?_
  have g57 : gT s47 a0 = 112 := by rw [e48]; exact g46
  refine pf_X12_45 X g57 g2 dX12_init_2_71 (fun s58 e59 => ?_)
  replace h := h s58 e59
  exact r_vret X h (Nat.le_of_ble_eq_true rfl) (Nat.le_of_ble_eq_true rfl) dX12_init_2_74
theorem m_X12_init_2 (l : Launch) (G : GT) (g : GK G) (hph : kP G = 1) (a0 : Nat) (p1 : Nat) (s : PS) (Q : PS → Prop) (h : w_X12_init_2 G a0 p1 s Q) : Met l yX12_init_2 (ws_ yX12_init_2 cX12_init_2 2 none) rm_X12_init_2 (va_Pc [.ref a0, .ref p1] (Wr G s)) (va_Qv Q (fun u t => Wr G u t) (kF G)) 0 0 (kF G) := by
  refine Met.ofW (cc := cX12_init_2) (maxL := 2) (ret := none) (by decide) rfl ?_
  intro p e s0 m args below meth c s₁ B hml hv
  obtain ⟨rfl, hw⟩ := hv
  exact wb_of [.ref a0, .ref p1] (Nat.le_of_ble_eq_true rfl) hw.1 rfl (e_X12_init_2 (cx_of g B hml rfl hw) hph (name_of_methodNamed B.named B.method).1 a0 p1 s Q h)
theorem e_X0_weightBy {x : CT} {G : GT} (X : Cx x G cX0_weightBy 4 RX0 (some .int) rm_X0_weightBy) (hph : kP G = 1) (p1 : Nat) (p2 : Int32) (s : PS) (Q : Int32 → PS → Prop) (h : w_X0_weightBy G p1 p2 s Q) : WB x G 4 (QfI x G 0 0 Q) 0 0 s 0 [(0, .ref (kB G + 0)), (1, .ref p1), (2, .int p2)] [] := by
  unfold w_X0_weightBy at h
  refine r_aload_n X 0 dX0_weightBy_0 rfl rfl ?_
  refine gr_X0_12 X hph 0 0 1 ly_0 rfl rfl dX0_weightBy_1 ?_
  refine gr_X0_88 X hph 1 1 6 ly_1 rfl rfl dX0_weightBy_4 ?_
  refine r_iload_n X 2 dX0_weightBy_7 rfl rfl ?_
  obtain ⟨g1, h⟩ := h
  refine r_aaldG X hph 2 6 24 7 ly_6 rfl lr_2 rfl g1 dX0_weightBy_8 ?_
  refine r_astore_n (lv' := [(3, .ref (kB G + (7 + p2.toNatClampNeg))), (0, .ref (kB G + 0)), (1, .ref p1), (2, .int p2)]) X dX0_weightBy_9 rfl (Nat.le_of_ble_eq_true rfl) rfl ?_
  refine r_aload_n X 1 dX0_weightBy_10 rfl rfl ?_
  refine r_aload_n X 0 dX0_weightBy_11 rfl rfl ?_
  refine r_iconst (v := 0) X dX0_weightBy_12 rfl ?_
  refine r_ialdL X hph (7 + p2.toNatClampNeg) 6 (lg_2 _ (lt_in g1)) tn_0 il_0_6 dX0_weightBy_13 ?_
  refine r_cv X (r_okVL (As := [.int (gI s (kB G + (7 + p2.toNatClampNeg)) 0)]) (rest := []) X (m_X0_names (xl x) G X.2.2.2.2.1 hph (gI s (kB G + (7 + p2.toNatClampNeg)) 0) s _ h) (cl_X0_162 X ⟨(Nat.le_of_ble_eq_true rfl), (Nat.le_of_ble_eq_true rfl)⟩) hph 0 ly_0 rfl rfl rfl rfl (Nat.le_of_ble_eq_true rfl) dX0_weightBy_14 ⟨Nat.le_of_ble_eq_true rfl, Nat.le_of_ble_eq_true rfl⟩) (fun s2 h => ?_)
  refine r_aload_n X 1 dX0_weightBy_17 rfl rfl ?_
  refine gr_X0_30 X hph 0 0 158 ly_0 rfl rfl dX0_weightBy_18 ?_
  refine r_iconst (v := 2) X dX0_weightBy_21 rfl ?_
  refine r_aload_n X 0 dX0_weightBy_22 rfl rfl ?_
  refine r_iconst (v := 1) X dX0_weightBy_23 rfl ?_
  refine r_ialdL X hph (7 + p2.toNatClampNeg) 6 (lg_2 _ (lt_in g1)) tn_1 il_1_6 dX0_weightBy_24 ?_
  refine r_iastL X hph 158 15 ly_158 tn_2 il_2_15 dX0_weightBy_25 (fun s3 e4 => ?_)
  replace h := h s3 e4
  refine r_aload_n X 1 dX0_weightBy_26 rfl rfl ?_
  refine gr_X0_30 X hph 0 0 158 ly_0 rfl rfl dX0_weightBy_27 ?_
  refine r_iconst (v := 3) X dX0_weightBy_30 rfl ?_
  refine r_aload_n X 0 dX0_weightBy_31 rfl rfl ?_
  refine r_iconst (v := 2) X dX0_weightBy_32 rfl ?_
  refine r_ialdL X hph (7 + p2.toNatClampNeg) 6 (lg_2 _ (lt_in g1)) tn_2 il_2_6 dX0_weightBy_33 ?_
  refine r_iastL X hph 158 15 ly_158 tn_3 il_3_15 dX0_weightBy_34 (fun s5 e6 => ?_)
  replace h := h s5 e6
  refine r_aload_n X 1 dX0_weightBy_35 rfl rfl ?_
  refine gr_X0_30 X hph 0 0 158 ly_0 rfl rfl dX0_weightBy_36 ?_
  refine r_iconst (v := 4) X dX0_weightBy_39 rfl ?_
  refine r_aload_n X 0 dX0_weightBy_40 rfl rfl ?_
  refine r_iconst (v := 3) X dX0_weightBy_41 rfl ?_
  refine r_ialdL X hph (7 + p2.toNatClampNeg) 6 (lg_2 _ (lt_in g1)) tn_3 il_3_6 dX0_weightBy_42 ?_
  refine r_iconst (v := 1) X dX0_weightBy_43 rfl ?_
  refine r_iand X dX0_weightBy_44 ?_
  refine r_iastL X hph 158 15 ly_158 tn_4 il_4_15 dX0_weightBy_45 (fun s7 e8 => ?_)
  replace h := h s7 e8
  refine r_aload_n X 1 dX0_weightBy_46 rfl rfl ?_
  refine gr_X0_30 X hph 0 0 158 ly_0 rfl rfl dX0_weightBy_47 ?_
  refine r_iconst (v := 5) X dX0_weightBy_50 rfl ?_
  refine r_aload_n X 0 dX0_weightBy_51 rfl rfl ?_
  refine r_iconst (v := 3) X dX0_weightBy_52 rfl ?_
  refine r_ialdL X hph (7 + p2.toNatClampNeg) 6 (lg_2 _ (lt_in g1)) tn_3 il_3_6 dX0_weightBy_53 ?_
  refine r_iconst (v := 2) X dX0_weightBy_54 rfl ?_
  refine r_iand X dX0_weightBy_55 ?_
  refine r_iconst (v := 2) X dX0_weightBy_56 rfl ?_
  refine r_idiv X dX0_weightBy_57 (by decide) ?_
  refine r_iastL X hph 158 15 ly_158 tn_5 il_5_15 dX0_weightBy_58 (fun s9 e10 => ?_)
  replace h := h s9 e10
  refine r_aload_n X 1 dX0_weightBy_59 rfl rfl ?_
  refine gr_X0_30 X hph 0 0 158 ly_0 rfl rfl dX0_weightBy_60 ?_
  refine r_bipush (v := 6) X dX0_weightBy_63 rfl ?_
  refine r_aload_n X 0 dX0_weightBy_65 rfl rfl ?_
  refine r_iconst (v := 3) X dX0_weightBy_66 rfl ?_
  refine r_ialdL X hph (7 + p2.toNatClampNeg) 6 (lg_2 _ (lt_in g1)) tn_3 il_3_6 dX0_weightBy_67 ?_
  refine r_iconst (v := 4) X dX0_weightBy_68 rfl ?_
  refine r_iand X dX0_weightBy_69 ?_
  refine r_iconst (v := 4) X dX0_weightBy_70 rfl ?_
  refine r_idiv X dX0_weightBy_71 (by decide) ?_
  refine r_iastL X hph 158 15 ly_158 tn_6 il_6_15 dX0_weightBy_72 (fun s11 e12 => ?_)
  replace h := h s11 e12
  refine r_aload_n X 1 dX0_weightBy_73 rfl rfl ?_
  refine gr_X0_30 X hph 0 0 158 ly_0 rfl rfl dX0_weightBy_74 ?_
  refine r_bipush (v := 7) X dX0_weightBy_77 rfl ?_
  refine r_aload_n X 0 dX0_weightBy_79 rfl rfl ?_
  refine r_iconst (v := 4) X dX0_weightBy_80 rfl ?_
  refine r_ialdL X hph (7 + p2.toNatClampNeg) 6 (lg_2 _ (lt_in g1)) tn_4 il_4_6 dX0_weightBy_81 ?_
  refine r_iconst (v := (-1)) X dX0_weightBy_82 rfl ?_
  have hJ : WB x G 4 (QfI x G 0 0 Q) 0 0 s11 91 [(3, .ref (kB G + (7 + p2.toNatClampNeg))), (0, .ref (kB G + 0)), (1, .ref p1), (2, .int p2)] [.int (if (gI s11 (kB G + (7 + p2.toNatClampNeg)) 4) = (-1) then 0 else 1 : Int32), .int 7, .ref (kB G + 158)] := by
    refine r_iastL X hph 158 15 ly_158 tn_7 il_7_15 dX0_weightBy_91 (fun s14 e15 => ?_)
    replace h := h s14 e15
    refine r_aload_n X 1 dX0_weightBy_92 rfl rfl ?_
    refine r_aload_n X 2 dX0_weightBy_93 rfl rfl ?_
    refine r_iconst (v := 0) X dX0_weightBy_94 rfl ?_
    refine r_aload_n X 0 dX0_weightBy_95 rfl rfl ?_
    refine r_iconst (v := 2) X dX0_weightBy_96 rfl ?_
    refine r_ialdL X hph (7 + p2.toNatClampNeg) 6 (lg_2 _ (lt_in g1)) tn_2 il_2_6 dX0_weightBy_97 ?_
    refine r_sipush (v := (-999)) X dX0_weightBy_98 rfl ?_
    refine r_sipush (v := 999) X dX0_weightBy_101 rfl ?_
    refine r_ci X (r_okVL (As := [.ref p1, .int 0, .int (gI s14 (kB G + (7 + p2.toNatClampNeg)) 2), .int (-999), .int 999]) (rest := []) X (m_X0_law (xl x) G X.2.2.2.2.1 hph p1 0 (gI s14 (kB G + (7 + p2.toNatClampNeg)) 2) (-999) 999 s14 _ h) (cl_X0_164 X ⟨(Nat.le_of_ble_eq_true rfl), (Nat.le_of_ble_eq_true rfl)⟩) hph 0 ly_0 rfl rfl rfl rfl (Nat.le_of_ble_eq_true rfl) dX0_weightBy_104 ⟨Nat.le_of_ble_eq_true rfl, Nat.le_of_ble_eq_true rfl⟩) (fun r17 s16 h => ?_)
    exact r_iret X h (Nat.le_of_ble_eq_true rfl) (Nat.le_of_ble_eq_true rfl) dX0_weightBy_107
  refine r_ic_ne X 90 dX0_weightBy_83 (by decide) (fun c13 => ?_) (fun c13 => ?_)
  · rw [if_neg c13] at hJ
    refine r_iconst (v := 1) X dX0_weightBy_90 rfl ?_
    exact hJ
  · rw [if_pos c13] at hJ
    refine r_iconst (v := 0) X dX0_weightBy_86 rfl ?_
    refine r_goto X 91 dX0_weightBy_87 (by decide) ?_
    exact hJ
theorem m_X0_weightBy (l : Launch) (G : GT) (g : GK G) (hph : kP G = 1) (p1 : Nat) (p2 : Int32) (s : PS) (Q : Int32 → PS → Prop) (h : w_X0_weightBy G p1 p2 s Q) : Met l yX0_weightBy (ws_ yX0_weightBy cX0_weightBy 4 (some .int)) rm_X0_weightBy (va_Pc [.ref (kB G + 0), .ref p1, .int p2] (Wr G s)) (va_Qi Q (fun u t => Wr G u t) (kF G)) 0 0 (kF G) := by
  refine Met.ofW (cc := cX0_weightBy) (maxL := 4) (ret := (some .int)) (by decide) rfl ?_
  intro p e s0 m args below meth c s₁ B hml hv
  obtain ⟨rfl, hw⟩ := hv
  exact wb_of [.ref (kB G + 0), .ref p1, .int p2] (Nat.le_of_ble_eq_true rfl) hw.1 rfl (e_X0_weightBy (cx_of g B hml rfl hw) hph p1 p2 s Q h)
theorem e_X0_weightOf {x : CT} {G : GT} (X : Cx x G cX0_weightOf 2 RX0 (some .int) rm_X0_weightOf) (hph : kP G = 1) (p1 : Int32) (s : PS) (Q : Int32 → PS → Prop) (h : w_X0_weightOf G p1 s Q) : WB x G 2 (QfI x G 0 0 Q) 0 0 s 0 [(0, .ref (kB G + 0)), (1, .int p1)] [] := by
  unfold w_X0_weightOf at h
  refine r_aload_n X 0 dX0_weightOf_0 rfl rfl ?_
  refine r_aload_n X 0 dX0_weightOf_1 rfl rfl ?_
  refine r_ca X (r_okVL (As := []) (rest := [.ref (kB G + 0)]) X (m_X0_rules (xl x) G X.2.2.2.2.1 hph s _ h) (cl_X0_167 X ⟨(Nat.le_of_ble_eq_true rfl), (Nat.le_of_ble_eq_true rfl)⟩) hph 0 ly_0 rfl rfl rfl rfl (Nat.le_of_ble_eq_true rfl) dX0_weightOf_2 ⟨Nat.le_of_ble_eq_true rfl, Nat.le_of_ble_eq_true rfl⟩) (fun r2 s1 h => ?_)
  refine r_iload_n X 1 dX0_weightOf_5 rfl rfl ?_
  refine r_ci X (r_okVL (As := [.ref r2, .int p1]) (rest := []) X (m_X0_weightBy (xl x) G X.2.2.2.2.1 hph r2 p1 s1 _ h) (cl_X0_170 X ⟨(Nat.le_of_ble_eq_true rfl), (Nat.le_of_ble_eq_true rfl)⟩) hph 0 ly_0 rfl rfl rfl rfl (Nat.le_of_ble_eq_true rfl) dX0_weightOf_6 ⟨Nat.le_of_ble_eq_true rfl, Nat.le_of_ble_eq_true rfl⟩) (fun r4 s3 h => ?_)
  exact r_iret X h (Nat.le_of_ble_eq_true rfl) (Nat.le_of_ble_eq_true rfl) dX0_weightOf_9
theorem m_X0_weightOf (l : Launch) (G : GT) (g : GK G) (hph : kP G = 1) (p1 : Int32) (s : PS) (Q : Int32 → PS → Prop) (h : w_X0_weightOf G p1 s Q) : Met l yX0_weightOf (ws_ yX0_weightOf cX0_weightOf 2 (some .int)) rm_X0_weightOf (va_Pc [.ref (kB G + 0), .int p1] (Wr G s)) (va_Qi Q (fun u t => Wr G u t) (kF G)) 0 0 (kF G) := by
  refine Met.ofW (cc := cX0_weightOf) (maxL := 2) (ret := (some .int)) (by decide) rfl ?_
  intro p e s0 m args below meth c s₁ B hml hv
  obtain ⟨rfl, hw⟩ := hv
  exact wb_of [.ref (kB G + 0), .int p1] (Nat.le_of_ble_eq_true rfl) hw.1 rfl (e_X0_weightOf (cx_of g B hml rfl hw) hph p1 s Q h)
theorem e_X12_lays {x : CT} {G : GT} (X : Cx x G cX12_lays 2 RX12 none rm_X12_lays) (hph : kP G = 1) (a0 : Nat) (p1 : Int32) (s : PS) (Q : PS → Prop) (h : w_X12_lays G a0 p1 s Q) : WB x G 2 (QfV x G 0 0 Q) 0 0 s 0 [(0, .ref a0), (1, .int p1)] [] := by
  unfold w_X12_lays at h
  refine r_aload_n X 0 dX12_lays_0 rfl rfl ?_
  refine r_dup X dX12_lays_1 rfl ?_
  obtain ⟨g1, h⟩ := h
  refine gf_X12_29 X g1 dX12_lays_2 ?_
  refine r_aload_n X 0 dX12_lays_5 rfl rfl ?_
  obtain ⟨g2, h⟩ := h
  refine gf_X12_3 X g1 dX12_lays_6 ?_
  refine r_top (show va_rf (gR s a0 5) = Value.ref (kB G + 0) by rw [g2]; rfl) ?_
  refine r_iload_n X 1 dX12_lays_9 rfl rfl ?_
  refine r_ci X (r_okVNL (As := [.int p1]) (rest := [.int (gI s a0 1), .ref a0]) X (m_X0_weightOf (xl x) G X.2.2.2.2.1 hph p1 s _ h) (cl_X12_62 X ⟨(Nat.le_of_ble_eq_true rfl), (Nat.le_of_ble_eq_true rfl)⟩) hph 0 ly_0 rfl rfl rfl rfl (Nat.le_of_ble_eq_true rfl) dX12_lays_10 ⟨Nat.le_of_ble_eq_true rfl, Nat.le_of_ble_eq_true rfl⟩) (fun r4 s3 h => ?_)
  refine r_iadd X dX12_lays_13 ?_
  obtain ⟨g5, h⟩ := h
  obtain ⟨g6, h⟩ := h
  refine pf_X12_29 X g5 g6 dX12_lays_14 (fun s7 e8 => ?_)
  replace h := h s7 e8
  refine r_aload_n X 0 dX12_lays_17 rfl rfl ?_
  refine r_dup X dX12_lays_18 rfl ?_
  have g9 : gT s7 a0 = 112 := by rw [e8]; exact g5
  refine gf_X12_45 X g9 dX12_lays_19 ?_
  refine r_iconst (v := 1) X dX12_lays_22 rfl ?_
  refine r_iload_n X 1 dX12_lays_23 rfl rfl ?_
  refine r_ishl X dX12_lays_24 ?_
  refine r_ior X dX12_lays_25 ?_
  refine pf_X12_45 X g9 g6 dX12_lays_26 (fun s10 e11 => ?_)
  replace h := h s10 e11
  refine r_aload_n X 0 dX12_lays_29 rfl rfl ?_
  have g12 : gT s10 a0 = 112 := by rw [e11]; exact g9
  refine r_cv X (r_okV (As := []) (rest := []) X (m_X12_settles (xl x) G X.2.2.2.2.1 hph a0 s10 _ h) (cl_X12_32 X ⟨(Nat.le_of_ble_eq_true rfl), (Nat.le_of_ble_eq_true rfl)⟩) 12 g12 rfl rfl rfl rfl (Nat.le_of_ble_eq_true rfl) dX12_lays_30 ⟨Nat.le_of_ble_eq_true rfl, Nat.le_of_ble_eq_true rfl⟩) (fun s13 h => ?_)
  exact r_vret X h (Nat.le_of_ble_eq_true rfl) (Nat.le_of_ble_eq_true rfl) dX12_lays_33
theorem m_X12_lays (l : Launch) (G : GT) (g : GK G) (hph : kP G = 1) (a0 : Nat) (p1 : Int32) (s : PS) (Q : PS → Prop) (h : w_X12_lays G a0 p1 s Q) : Met l yX12_lays (ws_ yX12_lays cX12_lays 2 none) rm_X12_lays (va_Pc [.ref a0, .int p1] (Wr G s)) (va_Qv Q (fun u t => Wr G u t) (kF G)) 0 0 (kF G) := by
  refine Met.ofW (cc := cX12_lays) (maxL := 2) (ret := none) (by decide) rfl ?_
  intro p e s0 m args below meth c s₁ B hml hv
  obtain ⟨rfl, hw⟩ := hv
  exact wb_of [.ref a0, .int p1] (Nat.le_of_ble_eq_true rfl) hw.1 rfl (e_X12_lays (cx_of g B hml rfl hw) hph a0 p1 s Q h)
theorem e_X0_lays {x : CT} {G : GT} (X : Cx x G cX0_lays 3 RX0 none rm_X0_lays) (hph : kP G = 1) (p1 : Int32) (s : PS) (Q : PS → Prop) (h : w_X0_lays G p1 s Q) : WB x G 3 (QfV x G 1 6 Q) 0 0 s 0 [(0, .ref (kB G + 0)), (1, .int p1)] [] := by
  unfold w_X0_lays at h
  refine r_new X 12 in_X12 tyX12_ok rfl q847 q848 q166 (df_of df_X12) ⟨Nat.le_of_ble_eq_true rfl, Nat.le_of_ble_eq_true rfl⟩ dX0_lays_0 (fun z1 e2 w3 u4 s5 e6 => ?_)
  replace h := h z1 e2 w3 u4 s5 e6
  have g7 : gT s5 z1 = 112 := by rw [e6, gT_pNew, if_pos e2]
  refine r_dup X dX0_lays_3 rfl ?_
  refine r_aload_n X 0 dX0_lays_4 rfl rfl ?_
  refine r_cv X (r_okI (As := [.ref (kB G + 0)]) (rest := [.ref z1]) X (m_X12_init_2 (xl x) G X.2.2.2.2.1 hph z1 (kB G + 0) s5 _ h) (cl_X0_216 X ⟨(Nat.le_of_ble_eq_true rfl), (Nat.le_of_ble_eq_true rfl)⟩) rfl rfl (Nat.le_of_ble_eq_true rfl) dX0_lays_5 ⟨Nat.le_of_ble_eq_true rfl, Nat.le_of_ble_eq_true rfl⟩) (fun s8 h => ?_)
  refine r_astore_n (lv' := [(2, .ref z1), (0, .ref (kB G + 0)), (1, .int p1)]) X dX0_lays_8 rfl (Nat.le_of_ble_eq_true rfl) rfl ?_
  refine r_aload_n X 0 dX0_lays_9 rfl rfl ?_
  refine r_iload_n X 2 dX0_lays_10 rfl rfl ?_
  obtain ⟨g9, h⟩ := h
  refine r_cv X (r_okV (As := [.int p1]) (rest := []) X (m_X12_lays (xl x) G X.2.2.2.2.1 hph z1 p1 s8 _ h) (cl_X0_219 X ⟨(Nat.le_of_ble_eq_true rfl), (Nat.le_of_ble_eq_true rfl)⟩) 12 g9 rfl rfl rfl rfl (Nat.le_of_ble_eq_true rfl) dX0_lays_11 ⟨Nat.le_of_ble_eq_true rfl, Nat.le_of_ble_eq_true rfl⟩) (fun s10 h => ?_)
  refine r_aload_n X 0 dX0_lays_14 rfl rfl ?_
  obtain ⟨g11, h⟩ := h
  refine r_cv X (r_okV (As := []) (rest := []) X (m_X12_keeps (xl x) G X.2.2.2.2.1 hph z1 s10 _ h) (cl_X0_211 X ⟨(Nat.le_of_ble_eq_true rfl), (Nat.le_of_ble_eq_true rfl)⟩) 12 g11 rfl rfl rfl rfl (Nat.le_of_ble_eq_true rfl) dX0_lays_15 ⟨Nat.le_of_ble_eq_true rfl, Nat.le_of_ble_eq_true rfl⟩) (fun s12 h => ?_)
  exact r_vret X h (Nat.le_of_ble_eq_true rfl) (Nat.le_of_ble_eq_true rfl) dX0_lays_18
theorem m_X0_lays (l : Launch) (G : GT) (g : GK G) (hph : kP G = 1) (p1 : Int32) (s : PS) (Q : PS → Prop) (h : w_X0_lays G p1 s Q) : Met l yX0_lays (ws_ yX0_lays cX0_lays 3 none) rm_X0_lays (va_Pc [.ref (kB G + 0), .int p1] (Wr G s)) (va_Qv Q (fun u t => Wr G u t) (kF G)) 1 6 (kF G) := by
  refine Met.ofW (cc := cX0_lays) (maxL := 3) (ret := none) (by decide) rfl ?_
  intro p e s0 m args below meth c s₁ B hml hv
  obtain ⟨rfl, hw⟩ := hv
  exact wb_of [.ref (kB G + 0), .int p1] (Nat.le_of_ble_eq_true rfl) hw.1 rfl (e_X0_lays (cx_of g B hml rfl hw) hph p1 s Q h)
theorem e_X0_lay {x : CT} {G : GT} (X : Cx x G cX0_lay 2 RX0 (some .int) rm_X0_lay) (hph : kP G = 1) (p1 : Int32) (s : PS) (Q : Int32 → PS → Prop) (h : w_X0_lay G p1 s Q) : WB x G 2 (QfI x G 1 6 Q) 0 0 s 0 [(0, .ref (kB G + 0)), (1, .int p1)] [] := by
  unfold w_X0_lay at h
  refine r_aload_n X 0 dX0_lay_0 rfl rfl ?_
  refine r_ci X (r_okVL (As := []) (rest := []) X (m_X0_isWeighing (xl x) G X.2.2.2.2.1 hph s _ h) (cl_X0_222 X ⟨(Nat.le_of_ble_eq_true rfl), (Nat.le_of_ble_eq_true rfl)⟩) hph 0 ly_0 rfl rfl rfl rfl (Nat.le_of_ble_eq_true rfl) dX0_lay_1 ⟨Nat.le_of_ble_eq_true rfl, Nat.le_of_ble_eq_true rfl⟩) (fun r2 s1 h => ?_)
  obtain ⟨z3, h⟩ := h
  refine r_if_eq X 54 dX0_lay_4 (by decide) (fun c4 => ?_) (fun c4 => ?_)
  · replace h := h.1 c4
    refine r_ldc X q842 dX0_lay_54 ?_
    exact r_iret X h (Nat.le_of_ble_eq_true rfl) (Nat.le_of_ble_eq_true rfl) dX0_lay_56
  · replace h := h.2 c4
    refine r_aload_n X 0 dX0_lay_7 rfl rfl ?_
    refine r_iload_n X 1 dX0_lay_8 rfl rfl ?_
    refine r_ci X (r_okVL (As := [.int p1]) (rest := []) X (m_X0_isDeed (xl x) G X.2.2.2.2.1 hph p1 s1 _ h) (cl_X0_95 X ⟨(Nat.le_of_ble_eq_true rfl), (Nat.le_of_ble_eq_true rfl)⟩) hph 0 ly_0 rfl rfl rfl rfl (Nat.le_of_ble_eq_true rfl) dX0_lay_9 ⟨Nat.le_of_ble_eq_true rfl, Nat.le_of_ble_eq_true rfl⟩) (fun r6 s5 h => ?_)
    obtain ⟨z7, h⟩ := h
    refine r_if_eq X 54 dX0_lay_12 (by decide) (fun c8 => ?_) (fun c8 => ?_)
    · replace h := h.1 c8
      refine r_ldc X q842 dX0_lay_54 ?_
      exact r_iret X h (Nat.le_of_ble_eq_true rfl) (Nat.le_of_ble_eq_true rfl) dX0_lay_56
    · replace h := h.2 c8
      refine r_aload_n X 0 dX0_lay_15 rfl rfl ?_
      refine gr_X0_12 X hph 0 0 1 ly_0 rfl rfl dX0_lay_16 ?_
      refine gr_X0_88 X hph 1 1 6 ly_1 rfl rfl dX0_lay_19 ?_
      refine r_iload_n X 1 dX0_lay_22 rfl rfl ?_
      obtain ⟨g9, h⟩ := h
      refine r_aaldG X hph 2 6 24 7 ly_6 rfl lr_2 rfl g9 dX0_lay_23 ?_
      refine r_iconst (v := 0) X dX0_lay_24 rfl ?_
      refine r_ialdL X hph (7 + p1.toNatClampNeg) 6 (lg_2 _ (lt_in g9)) tn_0 il_0_6 dX0_lay_25 ?_
      refine r_aload_n X 0 dX0_lay_26 rfl rfl ?_
      refine gr_X0_12 X hph 0 0 1 ly_0 rfl rfl dX0_lay_27 ?_
      refine gr_X0_203 X hph 1 1 5 ly_1 rfl rfl dX0_lay_30 ?_
      refine r_iconst (v := 0) X dX0_lay_33 rfl ?_
      refine r_ialdL X hph 5 195 ly_5 tn_0 il_0_195 dX0_lay_34 ?_
      refine r_ic_ne X 54 dX0_lay_35 (by decide) (fun c10 => ?_) (fun c10 => ?_)
      · replace h := h.2 c10
        refine r_ldc X q842 dX0_lay_54 ?_
        exact r_iret X h (Nat.le_of_ble_eq_true rfl) (Nat.le_of_ble_eq_true rfl) dX0_lay_56
      · replace h := h.1 c10
        refine r_aload_n X 0 dX0_lay_38 rfl rfl ?_
        refine gr_X0_12 X hph 0 0 1 ly_0 rfl rfl dX0_lay_39 ?_
        refine gr_X0_203 X hph 1 1 5 ly_1 rfl rfl dX0_lay_42 ?_
        refine r_iconst (v := 4) X dX0_lay_45 rfl ?_
        refine r_ialdL X hph 5 195 ly_5 tn_4 il_4_195 dX0_lay_46 ?_
        refine r_iload_n X 1 dX0_lay_47 rfl rfl ?_
        refine r_ci X (r_okS (As := [.int (gI s5 (kB G + 5) 4), .int p1]) (rest := []) X (m_X0_has (xl x) G X.2.2.2.2.1 (gI s5 (kB G + 5) 4) p1 s5 _ h) (cl_X0_174 X ⟨(Nat.le_of_ble_eq_true rfl), (Nat.le_of_ble_eq_true rfl)⟩) rfl rfl (Nat.le_of_ble_eq_true rfl) dX0_lay_48 ⟨Nat.le_of_ble_eq_true rfl, Nat.le_of_ble_eq_true rfl⟩) (fun r12 s11 h => ?_)
        obtain ⟨z13, h⟩ := h
        refine r_if_eq X 57 dX0_lay_51 (by decide) (fun c14 => ?_) (fun c14 => ?_)
        · replace h := h.1 c14
          refine r_aload_n X 0 dX0_lay_57 rfl rfl ?_
          refine gr_X0_12 X hph 0 0 1 ly_0 rfl rfl dX0_lay_58 ?_
          refine r_cv X (r_okVL (As := []) (rest := []) X (m_X1_keeps (xl x) G X.2.2.2.2.1 (kB G + 1) s11 _ h) (cl_X0_200 X ⟨(Nat.le_of_ble_eq_true rfl), (Nat.le_of_ble_eq_true rfl)⟩) hph 1 ly_1 rfl rfl rfl rfl (Nat.le_of_ble_eq_true rfl) dX0_lay_61 ⟨Nat.le_of_ble_eq_true rfl, Nat.le_of_ble_eq_true rfl⟩) (fun s15 h => ?_)
          refine r_aload_n X 0 dX0_lay_64 rfl rfl ?_
          refine r_iload_n X 1 dX0_lay_65 rfl rfl ?_
          refine r_cv X (r_okVL (As := [.int p1]) (rest := []) X (m_X0_lays (xl x) G X.2.2.2.2.1 hph p1 s15 _ h) (cl_X0_226 X ⟨(Nat.le_of_ble_eq_true rfl), (Nat.le_of_ble_eq_true rfl)⟩) hph 0 ly_0 rfl rfl rfl rfl (Nat.le_of_ble_eq_true rfl) dX0_lay_66 ⟨Nat.le_of_ble_eq_true rfl, Nat.le_of_ble_eq_true rfl⟩) (fun s16 h => ?_)
          refine r_aload_n X 0 dX0_lay_69 rfl rfl ?_
          refine gr_X0_12 X hph 0 0 1 ly_0 rfl rfl dX0_lay_70 ?_
          refine gr_X0_203 X hph 1 1 5 ly_1 rfl rfl dX0_lay_73 ?_
          refine r_iconst (v := 2) X dX0_lay_76 rfl ?_
          refine r_ialdL X hph 5 195 ly_5 tn_2 il_2_195 dX0_lay_77 ?_
          exact r_iret X h (Nat.le_of_ble_eq_true rfl) (Nat.le_of_ble_eq_true rfl) dX0_lay_78
        · replace h := h.2 c14
          refine r_ldc X q842 dX0_lay_54 ?_
          exact r_iret X h (Nat.le_of_ble_eq_true rfl) (Nat.le_of_ble_eq_true rfl) dX0_lay_56
theorem m_X0_lay (l : Launch) (G : GT) (g : GK G) (hph : kP G = 1) (p1 : Int32) (s : PS) (Q : Int32 → PS → Prop) (h : w_X0_lay G p1 s Q) : Met l yX0_lay (ws_ yX0_lay cX0_lay 2 (some .int)) rm_X0_lay (va_Pc [.ref (kB G + 0), .int p1] (Wr G s)) (va_Qi Q (fun u t => Wr G u t) (kF G)) 1 6 (kF G) := by
  refine Met.ofW (cc := cX0_lay) (maxL := 2) (ret := (some .int)) (by decide) rfl ?_
  intro p e s0 m args below meth c s₁ B hml hv
  obtain ⟨rfl, hw⟩ := hv
  exact wb_of [.ref (kB G + 0), .int p1] (Nat.le_of_ble_eq_true rfl) hw.1 rfl (e_X0_lay (cx_of g B hml rfl hw) hph p1 s Q h)
theorem e_X0_isJudge {x : CT} {G : GT} (X : Cx x G cX0_isJudge 2 RX0 (some .boolean) rm_X0_isJudge) (hph : kP G = 1) (p1 : Int32) (s : PS) (Q : Int32 → PS → Prop) (h : w_X0_isJudge G p1 s Q) : WB x G 2 (QfI x G 0 0 (fun r u => (r = 0 ∨ r = 1) ∧ Q r u)) 0 0 s 0 [(0, .ref (kB G + 0)), (1, .int p1)] [] := by
  unfold w_X0_isJudge at h
  refine r_iload_n X 1 dX0_isJudge_0 rfl rfl ?_
  refine r_iconst (v := 0) X dX0_isJudge_1 rfl ?_
  refine r_aload_n X 0 dX0_isJudge_2 rfl rfl ?_
  refine gr_X0_12 X hph 0 0 1 ly_0 rfl rfl dX0_isJudge_3 ?_
  refine gr_X0_74 X hph 1 1 2 ly_1 rfl rfl dX0_isJudge_6 ?_
  refine r_iconst (v := 2) X dX0_isJudge_9 rfl ?_
  refine r_ialdL X hph 2 9 ly_2 tn_2 il_2_9 dX0_isJudge_10 ?_
  refine r_iconst (v := 1) X dX0_isJudge_11 rfl ?_
  refine r_isub X dX0_isJudge_12 ?_
  refine r_ci X (r_okS (As := [.int p1, .int 0, .int ((gI s (kB G + 2) 2) - 1)]) (rest := []) X (m_X0_in (xl x) G X.2.2.2.2.1 p1 0 ((gI s (kB G + 2) 2) - 1) s _ h) (cl_X0_77 X ⟨(Nat.le_of_ble_eq_true rfl), (Nat.le_of_ble_eq_true rfl)⟩) rfl rfl (Nat.le_of_ble_eq_true rfl) dX0_isJudge_13 ⟨Nat.le_of_ble_eq_true rfl, Nat.le_of_ble_eq_true rfl⟩) (fun r2 s1 h => ?_)
  obtain ⟨z3, h⟩ := h
  exact r_zret X z3 h (Nat.le_of_ble_eq_true rfl) (Nat.le_of_ble_eq_true rfl) dX0_isJudge_16
theorem m_X0_isJudge (l : Launch) (G : GT) (g : GK G) (hph : kP G = 1) (p1 : Int32) (s : PS) (Q : Int32 → PS → Prop) (h : w_X0_isJudge G p1 s Q) : Met l yX0_isJudge (ws_ yX0_isJudge cX0_isJudge 2 (some .boolean)) rm_X0_isJudge (va_Pc [.ref (kB G + 0), .int p1] (Wr G s)) (va_Qi (fun r u => (r = 0 ∨ r = 1) ∧ Q r u) (fun u t => Wr G u t) (kF G)) 0 0 (kF G) := by
  refine Met.ofW (cc := cX0_isJudge) (maxL := 2) (ret := (some .boolean)) (by decide) rfl ?_
  intro p e s0 m args below meth c s₁ B hml hv
  obtain ⟨rfl, hw⟩ := hv
  exact wb_of [.ref (kB G + 0), .int p1] (Nat.le_of_ble_eq_true rfl) hw.1 rfl (e_X0_isJudge (cx_of g B hml rfl hw) hph p1 s Q h)
theorem e_X0_isAskedOf {x : CT} {G : GT} (X : Cx x G cX0_isAskedOf 3 RX0 (some .boolean) rm_X0_isAskedOf) (hph : kP G = 1) (p1 : Int32) (p2 : Int32) (s : PS) (Q : Int32 → PS → Prop) (h : w_X0_isAskedOf G p1 p2 s Q) : WB x G 3 (QfI x G 0 0 (fun r u => (r = 0 ∨ r = 1) ∧ Q r u)) 0 0 s 0 [(0, .ref (kB G + 0)), (1, .int p1), (2, .int p2)] [] := by
  unfold w_X0_isAskedOf at h
  refine r_aload_n X 0 dX0_isAskedOf_0 rfl rfl ?_
  refine gr_X0_12 X hph 0 0 1 ly_0 rfl rfl dX0_isAskedOf_1 ?_
  refine gr_X0_102 X hph 1 1 4 ly_1 rfl rfl dX0_isAskedOf_4 ?_
  refine r_iload_n X 1 dX0_isAskedOf_7 rfl rfl ?_
  obtain ⟨g1, h⟩ := h
  refine r_ialdL X hph 4 8 ly_4 rfl g1 dX0_isAskedOf_8 ?_
  refine r_aload_n X 0 dX0_isAskedOf_9 rfl rfl ?_
  refine gr_X0_12 X hph 0 0 1 ly_0 rfl rfl dX0_isAskedOf_10 ?_
  refine gr_X0_88 X hph 1 1 6 ly_1 rfl rfl dX0_isAskedOf_13 ?_
  refine r_iload_n X 2 dX0_isAskedOf_16 rfl rfl ?_
  obtain ⟨g2, h⟩ := h
  refine r_aaldG X hph 2 6 24 7 ly_6 rfl lr_2 rfl g2 dX0_isAskedOf_17 ?_
  refine r_iconst (v := 1) X dX0_isAskedOf_18 rfl ?_
  refine r_ialdL X hph (7 + p2.toNatClampNeg) 6 (lg_2 _ (lt_in g2)) tn_1 il_1_6 dX0_isAskedOf_19 ?_
  refine r_ci X (r_okS (As := [.int (gI s (kB G + 4) p1.toNatClampNeg), .int (gI s (kB G + (7 + p2.toNatClampNeg)) 1)]) (rest := []) X (m_X0_has (xl x) G X.2.2.2.2.1 (gI s (kB G + 4) p1.toNatClampNeg) (gI s (kB G + (7 + p2.toNatClampNeg)) 1) s _ h) (cl_X0_174 X ⟨(Nat.le_of_ble_eq_true rfl), (Nat.le_of_ble_eq_true rfl)⟩) rfl rfl (Nat.le_of_ble_eq_true rfl) dX0_isAskedOf_20 ⟨Nat.le_of_ble_eq_true rfl, Nat.le_of_ble_eq_true rfl⟩) (fun r4 s3 h => ?_)
  obtain ⟨z5, h⟩ := h
  exact r_zret X z5 h (Nat.le_of_ble_eq_true rfl) (Nat.le_of_ble_eq_true rfl) dX0_isAskedOf_23
theorem m_X0_isAskedOf (l : Launch) (G : GT) (g : GK G) (hph : kP G = 1) (p1 : Int32) (p2 : Int32) (s : PS) (Q : Int32 → PS → Prop) (h : w_X0_isAskedOf G p1 p2 s Q) : Met l yX0_isAskedOf (ws_ yX0_isAskedOf cX0_isAskedOf 3 (some .boolean)) rm_X0_isAskedOf (va_Pc [.ref (kB G + 0), .int p1, .int p2] (Wr G s)) (va_Qi (fun r u => (r = 0 ∨ r = 1) ∧ Q r u) (fun u t => Wr G u t) (kF G)) 0 0 (kF G) := by
  refine Met.ofW (cc := cX0_isAskedOf) (maxL := 3) (ret := (some .boolean)) (by decide) rfl ?_
  intro p e s0 m args below meth c s₁ B hml hv
  obtain ⟨rfl, hw⟩ := hv
  exact wb_of [.ref (kB G + 0), .int p1, .int p2] (Nat.le_of_ble_eq_true rfl) hw.1 rfl (e_X0_isAskedOf (cx_of g B hml rfl hw) hph p1 p2 s Q h)
theorem tl_X0_isSoOf_2 {x : CT} {G : GT} (X : Cx x G cX0_isSoOf 4 RX0 (some .boolean) rm_X0_isSoOf) (hph : kP G = 1) (Q : Int32 → PS → Prop) (v1 : Int32) (v2 : Int32) : ∀ (n : Nat) (v3 : Int32) (s : PS) (h : l_X0_isSoOf_2 G Q v1 v2 n v3 s), WB x G 4 (QfI x G 0 0 (fun r u => (r = 0 ∨ r = 1) ∧ Q r u)) 0 0 s 2 [(0, .ref (kB G + 0)), (1, .int v1), (2, .int v2), (3, .int v3)] [] := by
  intro n
  induction n with
  | zero =>
    intro v3 s h
    exact False.elim h
  | succ n ih =>
    intro v3 s h
    unfold l_X0_isSoOf_2 at h
    refine r_iload_n X 3 dX0_isSoOf_2 rfl rfl ?_
    refine r_aload_n X 0 dX0_isSoOf_3 rfl rfl ?_
    refine gr_X0_12 X hph 0 0 1 ly_0 rfl rfl dX0_isSoOf_4 ?_
    refine gr_X0_74 X hph 1 1 2 ly_1 rfl rfl dX0_isSoOf_7 ?_
    refine r_iconst (v := 1) X dX0_isSoOf_10 rfl ?_
    refine r_ialdL X hph 2 9 ly_2 tn_1 il_1_9 dX0_isSoOf_11 ?_
    refine r_ic_ge X 55 dX0_isSoOf_12 (by decide) (fun c1 => ?_) (fun c1 => ?_)
    · replace h := h.1 c1
      refine r_iconst (v := 0) X dX0_isSoOf_55 rfl ?_
      exact r_zret X (Or.inl rfl) h (Nat.le_of_ble_eq_true rfl) (Nat.le_of_ble_eq_true rfl) dX0_isSoOf_56
    · replace h := h.2 c1
      refine r_aload_n X 0 dX0_isSoOf_15 rfl rfl ?_
      refine gr_X0_12 X hph 0 0 1 ly_0 rfl rfl dX0_isSoOf_16 ?_
      refine gr_X0_88 X hph 1 1 6 ly_1 rfl rfl dX0_isSoOf_19 ?_
      refine r_iload_n X 3 dX0_isSoOf_22 rfl rfl ?_
      obtain ⟨g2, h⟩ := h
      refine r_aaldG X hph 2 6 24 7 ly_6 rfl lr_2 rfl g2 dX0_isSoOf_23 ?_
      refine r_iconst (v := 0) X dX0_isSoOf_24 rfl ?_
      refine r_ialdL X hph (7 + v3.toNatClampNeg) 6 (lg_2 _ (lt_in g2)) tn_0 il_0_6 dX0_isSoOf_25 ?_
      refine r_iload_n X 2 dX0_isSoOf_26 rfl rfl ?_
      refine r_ic_ne X 49 dX0_isSoOf_27 (by decide) (fun c3 => ?_) (fun c3 => ?_)
      · replace h := h.2 c3
        refine r_iinc (lv' := [(3, .int (v3 + 1)), (0, .ref (kB G + 0)), (1, .int v1), (2, .int v2)]) X 3 dX0_isSoOf_49 rfl rfl (Nat.le_of_ble_eq_true rfl) rfl ?_
        refine r_goto X 2 dX0_isSoOf_52 (by decide) ?_
        refine r_sub [1, 2, 3, 0] rfl ?_
        exact ih (v3 + 1) s h
      · replace h := h.1 c3
        refine r_aload_n X 0 dX0_isSoOf_30 rfl rfl ?_
        refine r_iload_n X 1 dX0_isSoOf_31 rfl rfl ?_
        refine r_iload_n X 3 dX0_isSoOf_32 rfl rfl ?_
        refine r_ci X (r_okVL (As := [.int v1, .int v3]) (rest := []) X (m_X0_isAskedOf (xl x) G X.2.2.2.2.1 hph v1 v3 s _ h) (cl_X0_178 X ⟨(Nat.le_of_ble_eq_true rfl), (Nat.le_of_ble_eq_true rfl)⟩) hph 0 ly_0 rfl rfl rfl rfl (Nat.le_of_ble_eq_true rfl) dX0_isSoOf_33 ⟨Nat.le_of_ble_eq_true rfl, Nat.le_of_ble_eq_true rfl⟩) (fun r5 s4 h => ?_)
        obtain ⟨z6, h⟩ := h
        refine r_if_eq X 49 dX0_isSoOf_36 (by decide) (fun c7 => ?_) (fun c7 => ?_)
        · replace h := h.1 c7
          refine r_iinc (lv' := [(3, .int (v3 + 1)), (0, .ref (kB G + 0)), (1, .int v1), (2, .int v2)]) X 3 dX0_isSoOf_49 rfl rfl (Nat.le_of_ble_eq_true rfl) rfl ?_
          refine r_goto X 2 dX0_isSoOf_52 (by decide) ?_
          refine r_sub [1, 2, 3, 0] rfl ?_
          exact ih (v3 + 1) s4 h
        · replace h := h.2 c7
          refine r_aload_n X 0 dX0_isSoOf_39 rfl rfl ?_
          refine r_iload_n X 3 dX0_isSoOf_40 rfl rfl ?_
          refine r_ci X (r_okVL (As := [.int v3]) (rest := []) X (m_X0_weightOf (xl x) G X.2.2.2.2.1 hph v3 s4 _ h) (cl_X0_181 X ⟨(Nat.le_of_ble_eq_true rfl), (Nat.le_of_ble_eq_true rfl)⟩) hph 0 ly_0 rfl rfl rfl rfl (Nat.le_of_ble_eq_true rfl) dX0_isSoOf_41 ⟨Nat.le_of_ble_eq_true rfl, Nat.le_of_ble_eq_true rfl⟩) (fun r9 s8 h => ?_)
          refine r_if_le X 49 dX0_isSoOf_44 (by decide) (fun c10 => ?_) (fun c10 => ?_)
          · replace h := h.1 c10
            refine r_iinc (lv' := [(3, .int (v3 + 1)), (0, .ref (kB G + 0)), (1, .int v1), (2, .int v2)]) X 3 dX0_isSoOf_49 rfl rfl (Nat.le_of_ble_eq_true rfl) rfl ?_
            refine r_goto X 2 dX0_isSoOf_52 (by decide) ?_
            refine r_sub [1, 2, 3, 0] rfl ?_
            exact ih (v3 + 1) s8 h
          · replace h := h.2 c10
            refine r_iconst (v := 1) X dX0_isSoOf_47 rfl ?_
            exact r_zret X (Or.inr rfl) h (Nat.le_of_ble_eq_true rfl) (Nat.le_of_ble_eq_true rfl) dX0_isSoOf_48
theorem e_X0_isSoOf {x : CT} {G : GT} (X : Cx x G cX0_isSoOf 4 RX0 (some .boolean) rm_X0_isSoOf) (hph : kP G = 1) (p1 : Int32) (p2 : Int32) (s : PS) (Q : Int32 → PS → Prop) (h : w_X0_isSoOf G p1 p2 s Q) : WB x G 4 (QfI x G 0 0 (fun r u => (r = 0 ∨ r = 1) ∧ Q r u)) 0 0 s 0 [(0, .ref (kB G + 0)), (1, .int p1), (2, .int p2)] [] := by
  unfold w_X0_isSoOf at h
  refine r_iconst (v := 0) X dX0_isSoOf_0 rfl ?_
  refine r_istore_n (lv' := [(3, .int 0), (0, .ref (kB G + 0)), (1, .int p1), (2, .int p2)]) X dX0_isSoOf_1 rfl (Nat.le_of_ble_eq_true rfl) rfl ?_
  refine r_sub [1, 2, 3, 0] rfl ?_
  obtain ⟨n1, h⟩ := h
  exact tl_X0_isSoOf_2 X hph Q p1 p2 n1 0 s h
theorem m_X0_isSoOf (l : Launch) (G : GT) (g : GK G) (hph : kP G = 1) (p1 : Int32) (p2 : Int32) (s : PS) (Q : Int32 → PS → Prop) (h : w_X0_isSoOf G p1 p2 s Q) : Met l yX0_isSoOf (ws_ yX0_isSoOf cX0_isSoOf 4 (some .boolean)) rm_X0_isSoOf (va_Pc [.ref (kB G + 0), .int p1, .int p2] (Wr G s)) (va_Qi (fun r u => (r = 0 ∨ r = 1) ∧ Q r u) (fun u t => Wr G u t) (kF G)) 0 0 (kF G) := by
  refine Met.ofW (cc := cX0_isSoOf) (maxL := 4) (ret := (some .boolean)) (by decide) rfl ?_
  intro p e s0 m args below meth c s₁ B hml hv
  obtain ⟨rfl, hw⟩ := hv
  exact wb_of [.ref (kB G + 0), .int p1, .int p2] (Nat.le_of_ble_eq_true rfl) hw.1 rfl (e_X0_isSoOf (cx_of g B hml rfl hw) hph p1 p2 s Q h)
theorem tl_X0_lieOf_6 {x : CT} {G : GT} (X : Cx x G cX0_lieOf 6 RX0 (some .int) rm_X0_lieOf) (hph : kP G = 1) (Q : Int32 → PS → Prop) (v1 : Int32) (v2 : Int32) (v3 : Int32) : ∀ (n : Nat) (v4 : Int32) (v5 : Int32) (s : PS) (h : l_X0_lieOf_6 G Q v1 v2 v3 n v4 v5 s), WB x G 6 (QfI x G 0 0 Q) 0 0 s 6 [(0, .ref (kB G + 0)), (1, .int v1), (2, .int v2), (3, .int v3), (4, .int v4), (5, .int v5)] [] := by
  intro n
  induction n with
  | zero =>
    intro v4 v5 s h
    exact False.elim h
  | succ n ih =>
    intro v4 v5 s h
    unfold l_X0_lieOf_6 at h
    refine r_iload X 5 dX0_lieOf_6 rfl ?_
    refine r_aload_n X 0 dX0_lieOf_8 rfl rfl ?_
    refine gr_X0_12 X hph 0 0 1 ly_0 rfl rfl dX0_lieOf_9 ?_
    refine gr_X0_74 X hph 1 1 2 ly_1 rfl rfl dX0_lieOf_12 ?_
    refine r_iconst (v := 1) X dX0_lieOf_15 rfl ?_
    refine r_ialdL X hph 2 9 ly_2 tn_1 il_1_9 dX0_lieOf_16 ?_
    refine r_ic_ge X 79 dX0_lieOf_17 (by decide) (fun c1 => ?_) (fun c1 => ?_)
    · replace h := h.1 c1
      refine r_aload_n X 0 dX0_lieOf_79 rfl rfl ?_
      refine r_iload_n X 1 dX0_lieOf_80 rfl rfl ?_
      refine r_cv X (r_okVL (As := [.int v1]) (rest := []) X (m_X0_names (xl x) G X.2.2.2.2.1 hph v1 s _ h) (cl_X0_162 X ⟨(Nat.le_of_ble_eq_true rfl), (Nat.le_of_ble_eq_true rfl)⟩) hph 0 ly_0 rfl rfl rfl rfl (Nat.le_of_ble_eq_true rfl) dX0_lieOf_81 ⟨Nat.le_of_ble_eq_true rfl, Nat.le_of_ble_eq_true rfl⟩) (fun s2 h => ?_)
      refine r_aload_n X 0 dX0_lieOf_84 rfl rfl ?_
      refine gr_X0_30 X hph 0 0 158 ly_0 rfl rfl dX0_lieOf_85 ?_
      refine r_bipush (v := 10) X dX0_lieOf_88 rfl ?_
      refine r_iload_n X 3 dX0_lieOf_90 rfl rfl ?_
      refine r_iastL X hph 158 15 ly_158 tn_10 il_10_15 dX0_lieOf_91 (fun s3 e4 => ?_)
      replace h := h s3 e4
      refine r_aload_n X 0 dX0_lieOf_92 rfl rfl ?_
      refine gr_X0_30 X hph 0 0 158 ly_0 rfl rfl dX0_lieOf_93 ?_
      refine r_bipush (v := 11) X dX0_lieOf_96 rfl ?_
      refine r_iload_n X 2 dX0_lieOf_98 rfl rfl ?_
      refine r_iastL X hph 158 15 ly_158 tn_11 il_11_15 dX0_lieOf_99 (fun s5 e6 => ?_)
      replace h := h s5 e6
      refine r_aload_n X 0 dX0_lieOf_100 rfl rfl ?_
      refine gr_X0_30 X hph 0 0 158 ly_0 rfl rfl dX0_lieOf_101 ?_
      refine r_bipush (v := 12) X dX0_lieOf_104 rfl ?_
      refine r_aload_n X 0 dX0_lieOf_106 rfl rfl ?_
      refine gr_X0_12 X hph 0 0 1 ly_0 rfl rfl dX0_lieOf_107 ?_
      refine gr_X0_102 X hph 1 1 4 ly_1 rfl rfl dX0_lieOf_110 ?_
      refine r_iload_n X 2 dX0_lieOf_113 rfl rfl ?_
      obtain ⟨g7, h⟩ := h
      refine r_ialdL X hph 4 8 ly_4 rfl g7 dX0_lieOf_114 ?_
      refine r_ci X (r_okS (As := [.int (gI s5 (kB G + 4) v2.toNatClampNeg)]) (rest := [.int 12, .ref (kB G + 158)]) X (m_J12_bitCount (xl x) G X.2.2.2.2.1 (gI s5 (kB G + 4) v2.toNatClampNeg) s5 _ h) (cl_X0_185 X ⟨(Nat.le_of_ble_eq_true rfl), (Nat.le_of_ble_eq_true rfl)⟩) rfl rfl (Nat.le_of_ble_eq_true rfl) dX0_lieOf_115 ⟨Nat.le_of_ble_eq_true rfl, Nat.le_of_ble_eq_true rfl⟩) (fun r9 s8 h => ?_)
      refine r_iastL X hph 158 15 ly_158 tn_12 il_12_15 dX0_lieOf_118 (fun s10 e11 => ?_)
      replace h := h s10 e11
      refine r_aload_n X 0 dX0_lieOf_119 rfl rfl ?_
      refine gr_X0_30 X hph 0 0 158 ly_0 rfl rfl dX0_lieOf_120 ?_
      refine r_bipush (v := 13) X dX0_lieOf_123 rfl ?_
      refine r_iload X 4 dX0_lieOf_125 rfl ?_
      refine r_iastL X hph 158 15 ly_158 tn_13 il_13_15 dX0_lieOf_127 (fun s12 e13 => ?_)
      replace h := h s12 e13
      refine r_aload_n X 0 dX0_lieOf_128 rfl rfl ?_
      refine r_aload_n X 0 dX0_lieOf_129 rfl rfl ?_
      refine r_ca X (r_okVL (As := []) (rest := [.ref (kB G + 0)]) X (m_X0_rules (xl x) G X.2.2.2.2.1 hph s12 _ h) (cl_X0_167 X ⟨(Nat.le_of_ble_eq_true rfl), (Nat.le_of_ble_eq_true rfl)⟩) hph 0 ly_0 rfl rfl rfl rfl (Nat.le_of_ble_eq_true rfl) dX0_lieOf_130 ⟨Nat.le_of_ble_eq_true rfl, Nat.le_of_ble_eq_true rfl⟩) (fun r15 s14 h => ?_)
      refine r_iconst (v := 2) X dX0_lieOf_133 rfl ?_
      refine r_iconst (v := 3) X dX0_lieOf_134 rfl ?_
      refine r_iconst (v := 0) X dX0_lieOf_135 rfl ?_
      refine r_sipush (v := 999) X dX0_lieOf_136 rfl ?_
      refine r_ci X (r_okVL (As := [.ref r15, .int 2, .int 3, .int 0, .int 999]) (rest := []) X (m_X0_law (xl x) G X.2.2.2.2.1 hph r15 2 3 0 999 s14 _ h) (cl_X0_164 X ⟨(Nat.le_of_ble_eq_true rfl), (Nat.le_of_ble_eq_true rfl)⟩) hph 0 ly_0 rfl rfl rfl rfl (Nat.le_of_ble_eq_true rfl) dX0_lieOf_139 ⟨Nat.le_of_ble_eq_true rfl, Nat.le_of_ble_eq_true rfl⟩) (fun r17 s16 h => ?_)
      exact r_iret X h (Nat.le_of_ble_eq_true rfl) (Nat.le_of_ble_eq_true rfl) dX0_lieOf_142
    · replace h := h.2 c1
      refine r_iload X 4 dX0_lieOf_20 rfl ?_
      refine r_aload_n X 0 dX0_lieOf_22 rfl rfl ?_
      refine gr_X0_12 X hph 0 0 1 ly_0 rfl rfl dX0_lieOf_23 ?_
      refine gr_X0_88 X hph 1 1 6 ly_1 rfl rfl dX0_lieOf_26 ?_
      refine r_iload X 5 dX0_lieOf_29 rfl ?_
      obtain ⟨g18, h⟩ := h
      refine r_aaldG X hph 2 6 24 7 ly_6 rfl lr_2 rfl g18 dX0_lieOf_31 ?_
      refine r_iconst (v := 0) X dX0_lieOf_32 rfl ?_
      refine r_ialdL X hph (7 + v5.toNatClampNeg) 6 (lg_2 _ (lt_in g18)) tn_0 il_0_6 dX0_lieOf_33 ?_
      refine r_iload_n X 1 dX0_lieOf_34 rfl rfl ?_
      refine r_ic_ne X 69 dX0_lieOf_35 (by decide) (fun c19 => ?_) (fun c19 => ?_)
      · replace h := h.2 c19
        refine r_iconst (v := 0) X dX0_lieOf_69 rfl ?_
        refine r_iadd X dX0_lieOf_70 ?_
        refine r_nmI (fun y29 e30 => ?_)
        replace h := h y29 e30
        refine r_istore (lv' := [(4, .int y29), (0, .ref (kB G + 0)), (1, .int v1), (2, .int v2), (3, .int v3), (5, .int v5)]) X dX0_lieOf_71 (Nat.le_of_ble_eq_true rfl) rfl ?_
        refine r_iinc (lv' := [(5, .int (v5 + 1)), (4, .int y29), (0, .ref (kB G + 0)), (1, .int v1), (2, .int v2), (3, .int v3)]) X 5 dX0_lieOf_73 rfl rfl (Nat.le_of_ble_eq_true rfl) rfl ?_
        refine r_goto X 6 dX0_lieOf_76 (by decide) ?_
        refine r_sub [2, 3, 4, 5, 1, 0] rfl ?_
        exact ih y29 (v5 + 1) s h
      · replace h := h.1 c19
        refine r_aload_n X 0 dX0_lieOf_38 rfl rfl ?_
        refine r_iload_n X 2 dX0_lieOf_39 rfl rfl ?_
        refine r_iload X 5 dX0_lieOf_40 rfl ?_
        refine r_ci X (r_okVL (As := [.int v2, .int v5]) (rest := [.int v4]) X (m_X0_isAskedOf (xl x) G X.2.2.2.2.1 hph v2 v5 s _ h) (cl_X0_178 X ⟨(Nat.le_of_ble_eq_true rfl), (Nat.le_of_ble_eq_true rfl)⟩) hph 0 ly_0 rfl rfl rfl rfl (Nat.le_of_ble_eq_true rfl) dX0_lieOf_42 ⟨Nat.le_of_ble_eq_true rfl, Nat.le_of_ble_eq_true rfl⟩) (fun r21 s20 h => ?_)
        obtain ⟨z22, h⟩ := h
        refine r_if_eq X 69 dX0_lieOf_45 (by decide) (fun c23 => ?_) (fun c23 => ?_)
        · replace h := h.1 c23
          refine r_iconst (v := 0) X dX0_lieOf_69 rfl ?_
          refine r_iadd X dX0_lieOf_70 ?_
          refine r_nmI (fun y24 e25 => ?_)
          replace h := h y24 e25
          refine r_istore (lv' := [(4, .int y24), (0, .ref (kB G + 0)), (1, .int v1), (2, .int v2), (3, .int v3), (5, .int v5)]) X dX0_lieOf_71 (Nat.le_of_ble_eq_true rfl) rfl ?_
          refine r_iinc (lv' := [(5, .int (v5 + 1)), (4, .int y24), (0, .ref (kB G + 0)), (1, .int v1), (2, .int v2), (3, .int v3)]) X 5 dX0_lieOf_73 rfl rfl (Nat.le_of_ble_eq_true rfl) rfl ?_
          refine r_goto X 6 dX0_lieOf_76 (by decide) ?_
          refine r_sub [2, 3, 4, 5, 1, 0] rfl ?_
          exact ih y24 (v5 + 1) s20 h
        · replace h := h.2 c23
          refine r_aload_n X 0 dX0_lieOf_48 rfl rfl ?_
          refine gr_X0_12 X hph 0 0 1 ly_0 rfl rfl dX0_lieOf_49 ?_
          refine gr_X0_88 X hph 1 1 6 ly_1 rfl rfl dX0_lieOf_52 ?_
          refine r_iload X 5 dX0_lieOf_55 rfl ?_
          refine r_aaldG X hph 2 6 24 7 ly_6 rfl lr_2 rfl g18 dX0_lieOf_57 ?_
          refine r_iconst (v := 3) X dX0_lieOf_58 rfl ?_
          refine r_ialdL X hph (7 + v5.toNatClampNeg) 6 (lg_2 _ (lt_in g18)) tn_3 il_3_6 dX0_lieOf_59 ?_
          refine r_iconst (v := 1) X dX0_lieOf_60 rfl ?_
          refine r_iand X dX0_lieOf_61 ?_
          have hJ : WB x G 6 (QfI x G 0 0 Q) 0 0 s20 70 [(0, .ref (kB G + 0)), (1, .int v1), (2, .int v2), (3, .int v3), (4, .int v4), (5, .int v5)] [.int (if ((gI s20 (kB G + (7 + v5.toNatClampNeg)) 3) &&& 1) = 0 then 1 else 0 : Int32), .int v4] := by
            refine r_iadd X dX0_lieOf_70 ?_
            refine r_nmI (fun y27 e28 => ?_)
            replace h := h y27 e28
            refine r_istore (lv' := [(4, .int y27), (0, .ref (kB G + 0)), (1, .int v1), (2, .int v2), (3, .int v3), (5, .int v5)]) X dX0_lieOf_71 (Nat.le_of_ble_eq_true rfl) rfl ?_
            refine r_iinc (lv' := [(5, .int (v5 + 1)), (4, .int y27), (0, .ref (kB G + 0)), (1, .int v1), (2, .int v2), (3, .int v3)]) X 5 dX0_lieOf_73 rfl rfl (Nat.le_of_ble_eq_true rfl) rfl ?_
            refine r_goto X 6 dX0_lieOf_76 (by decide) ?_
            refine r_sub [2, 3, 4, 5, 1, 0] rfl ?_
            exact ih y27 (v5 + 1) s20 h
          refine r_if_ne X 69 dX0_lieOf_62 (by decide) (fun c26 => ?_) (fun c26 => ?_)
          · rw [if_neg c26] at hJ
            refine r_iconst (v := 0) X dX0_lieOf_69 rfl ?_
            exact hJ
          · rw [if_pos c26] at hJ
            refine r_iconst (v := 1) X dX0_lieOf_65 rfl ?_
            refine r_goto X 70 dX0_lieOf_66 (by decide) ?_
            exact hJ
theorem e_X0_lieOf {x : CT} {G : GT} (X : Cx x G cX0_lieOf 6 RX0 (some .int) rm_X0_lieOf) (hph : kP G = 1) (p1 : Int32) (p2 : Int32) (p3 : Int32) (s : PS) (Q : Int32 → PS → Prop) (h : w_X0_lieOf G p1 p2 p3 s Q) : WB x G 6 (QfI x G 0 0 Q) 0 0 s 0 [(0, .ref (kB G + 0)), (1, .int p1), (2, .int p2), (3, .int p3)] [] := by
  unfold w_X0_lieOf at h
  refine r_iconst (v := 0) X dX0_lieOf_0 rfl ?_
  refine r_istore (lv' := [(4, .int 0), (0, .ref (kB G + 0)), (1, .int p1), (2, .int p2), (3, .int p3)]) X dX0_lieOf_1 (Nat.le_of_ble_eq_true rfl) rfl ?_
  refine r_iconst (v := 0) X dX0_lieOf_3 rfl ?_
  refine r_istore (lv' := [(5, .int 0), (4, .int 0), (0, .ref (kB G + 0)), (1, .int p1), (2, .int p2), (3, .int p3)]) X dX0_lieOf_4 (Nat.le_of_ble_eq_true rfl) rfl ?_
  refine r_sub [2, 3, 4, 5, 1, 0] rfl ?_
  obtain ⟨n1, h⟩ := h
  exact tl_X0_lieOf_6 X hph Q p1 p2 p3 n1 0 0 s h
theorem m_X0_lieOf (l : Launch) (G : GT) (g : GK G) (hph : kP G = 1) (p1 : Int32) (p2 : Int32) (p3 : Int32) (s : PS) (Q : Int32 → PS → Prop) (h : w_X0_lieOf G p1 p2 p3 s Q) : Met l yX0_lieOf (ws_ yX0_lieOf cX0_lieOf 6 (some .int)) rm_X0_lieOf (va_Pc [.ref (kB G + 0), .int p1, .int p2, .int p3] (Wr G s)) (va_Qi Q (fun u t => Wr G u t) (kF G)) 0 0 (kF G) := by
  refine Met.ofW (cc := cX0_lieOf) (maxL := 6) (ret := (some .int)) (by decide) rfl ?_
  intro p e s0 m args below meth c s₁ B hml hv
  obtain ⟨rfl, hw⟩ := hv
  exact wb_of [.ref (kB G + 0), .int p1, .int p2, .int p3] (Nat.le_of_ble_eq_true rfl) hw.1 rfl (e_X0_lieOf (cx_of g B hml rfl hw) hph p1 p2 p3 s Q h)
theorem e_X12_hears {x : CT} {G : GT} (X : Cx x G cX12_hears 3 RX12 (some .boolean) rm_X12_hears) (hph : kP G = 1) (a0 : Nat) (p1 : Int32) (p2 : Int32) (s : PS) (Q : Int32 → PS → Prop) (h : w_X12_hears G a0 p1 p2 s Q) : WB x G 3 (QfI x G 0 0 (fun r u => (r = 0 ∨ r = 1) ∧ Q r u)) 0 0 s 0 [(0, .ref a0), (1, .int p1), (2, .int p2)] [] := by
  unfold w_X12_hears at h
  refine r_aload_n X 0 dX12_hears_0 rfl rfl ?_
  obtain ⟨g1, h⟩ := h
  obtain ⟨g2, h⟩ := h
  refine gf_X12_3 X g1 dX12_hears_1 ?_
  refine r_top (show va_rf (gR s a0 5) = Value.ref (kB G + 0) by rw [g2]; rfl) ?_
  refine r_iload_n X 1 dX12_hears_4 rfl rfl ?_
  refine r_aload_n X 0 dX12_hears_5 rfl rfl ?_
  refine gf_X12_15 X g1 dX12_hears_6 ?_
  refine r_ci X (r_okVNL (As := [.int p1, .int (gI s a0 0)]) (rest := []) X (m_X0_isSoOf (xl x) G X.2.2.2.2.1 hph p1 (gI s a0 0) s _ h) (cl_X12_65 X ⟨(Nat.le_of_ble_eq_true rfl), (Nat.le_of_ble_eq_true rfl)⟩) hph 0 ly_0 rfl rfl rfl rfl (Nat.le_of_ble_eq_true rfl) dX12_hears_9 ⟨Nat.le_of_ble_eq_true rfl, Nat.le_of_ble_eq_true rfl⟩) (fun r4 s3 h => ?_)
  obtain ⟨z5, h⟩ := h
  refine r_iload_n X 2 dX12_hears_12 rfl rfl ?_
  refine r_ic_ne X 18 dX12_hears_13 (by decide) (fun c6 => ?_) (fun c6 => ?_)
  · replace h := h.2 c6
    refine r_aload_n X 0 dX12_hears_18 rfl rfl ?_
    refine r_dup X dX12_hears_19 rfl ?_
    obtain ⟨g7, h⟩ := h
    refine gf_X12_29 X g7 dX12_hears_20 ?_
    refine r_aload_n X 0 dX12_hears_23 rfl rfl ?_
    obtain ⟨g8, h⟩ := h
    refine gf_X12_3 X g7 dX12_hears_24 ?_
    refine r_top (show va_rf (gR s3 a0 5) = Value.ref (kB G + 0) by rw [g8]; rfl) ?_
    refine r_aload_n X 0 dX12_hears_27 rfl rfl ?_
    refine gf_X12_15 X g7 dX12_hears_28 ?_
    refine r_iload_n X 1 dX12_hears_31 rfl rfl ?_
    refine r_aload_n X 0 dX12_hears_32 rfl rfl ?_
    refine gf_X12_42 X g7 dX12_hears_33 ?_
    refine r_ci X (r_okVNL (As := [.int (gI s3 a0 0), .int p1, .int (gI s3 a0 3)]) (rest := [.int (gI s3 a0 1), .ref a0]) X (m_X0_lieOf (xl x) G X.2.2.2.2.1 hph (gI s3 a0 0) p1 (gI s3 a0 3) s3 _ h) (cl_X12_69 X ⟨(Nat.le_of_ble_eq_true rfl), (Nat.le_of_ble_eq_true rfl)⟩) hph 0 ly_0 rfl rfl rfl rfl (Nat.le_of_ble_eq_true rfl) dX12_hears_36 ⟨Nat.le_of_ble_eq_true rfl, Nat.le_of_ble_eq_true rfl⟩) (fun r10 s9 h => ?_)
    refine r_iadd X dX12_hears_39 ?_
    obtain ⟨g11, h⟩ := h
    obtain ⟨g12, h⟩ := h
    refine pf_X12_29 X g11 g12 dX12_hears_40 (fun s13 e14 => ?_)
    replace h := h s13 e14
    refine r_aload_n X 0 dX12_hears_43 rfl rfl ?_
    refine r_dup X dX12_hears_44 rfl ?_
    have g15 : gT s13 a0 = 112 := by rw [e14]; exact g11
    refine gf_X12_42 X g15 dX12_hears_45 ?_
    refine r_iconst (v := 1) X dX12_hears_48 rfl ?_
    refine r_iadd X dX12_hears_49 ?_
    refine pf_X12_42 X g15 g12 dX12_hears_50 (fun s16 e17 => ?_)
    replace h := h s16 e17
    refine r_aload_n X 0 dX12_hears_53 rfl rfl ?_
    have g18 : gT s16 a0 = 112 := by rw [e17]; exact g15
    refine r_cv X (r_okV (As := []) (rest := []) X (m_X12_settles (xl x) G X.2.2.2.2.1 hph a0 s16 _ h) (cl_X12_32 X ⟨(Nat.le_of_ble_eq_true rfl), (Nat.le_of_ble_eq_true rfl)⟩) 12 g18 rfl rfl rfl rfl (Nat.le_of_ble_eq_true rfl) dX12_hears_54 ⟨Nat.le_of_ble_eq_true rfl, Nat.le_of_ble_eq_true rfl⟩) (fun s19 h => ?_)
    refine r_iconst (v := 1) X dX12_hears_57 rfl ?_
    exact r_zret X (Or.inr rfl) h (Nat.le_of_ble_eq_true rfl) (Nat.le_of_ble_eq_true rfl) dX12_hears_58
  · replace h := h.1 c6
    refine r_iconst (v := 0) X dX12_hears_16 rfl ?_
    exact r_zret X (Or.inl rfl) h (Nat.le_of_ble_eq_true rfl) (Nat.le_of_ble_eq_true rfl) dX12_hears_17
theorem m_X12_hears (l : Launch) (G : GT) (g : GK G) (hph : kP G = 1) (a0 : Nat) (p1 : Int32) (p2 : Int32) (s : PS) (Q : Int32 → PS → Prop) (h : w_X12_hears G a0 p1 p2 s Q) : Met l yX12_hears (ws_ yX12_hears cX12_hears 3 (some .boolean)) rm_X12_hears (va_Pc [.ref a0, .int p1, .int p2] (Wr G s)) (va_Qi (fun r u => (r = 0 ∨ r = 1) ∧ Q r u) (fun u t => Wr G u t) (kF G)) 0 0 (kF G) := by
  refine Met.ofW (cc := cX12_hears) (maxL := 3) (ret := (some .boolean)) (by decide) rfl ?_
  intro p e s0 m args below meth c s₁ B hml hv
  obtain ⟨rfl, hw⟩ := hv
  exact wb_of [.ref a0, .int p1, .int p2] (Nat.le_of_ble_eq_true rfl) hw.1 rfl (e_X12_hears (cx_of g B hml rfl hw) hph a0 p1 p2 s Q h)
theorem e_X0_hears {x : CT} {G : GT} (X : Cx x G cX0_hears 5 RX0 (some .boolean) rm_X0_hears) (hph : kP G = 1) (p1 : Int32) (p2 : Int32) (s : PS) (Q : Int32 → PS → Prop) (h : w_X0_hears G p1 p2 s Q) : WB x G 5 (QfI x G 1 6 (fun r u => (r = 0 ∨ r = 1) ∧ Q r u)) 0 0 s 0 [(0, .ref (kB G + 0)), (1, .int p1), (2, .int p2)] [] := by
  unfold w_X0_hears at h
  refine r_new X 12 in_X12 tyX12_ok rfl q847 q848 q166 (df_of df_X12) ⟨Nat.le_of_ble_eq_true rfl, Nat.le_of_ble_eq_true rfl⟩ dX0_hears_0 (fun z1 e2 w3 u4 s5 e6 => ?_)
  replace h := h z1 e2 w3 u4 s5 e6
  have g7 : gT s5 z1 = 112 := by rw [e6, gT_pNew, if_pos e2]
  refine r_dup X dX0_hears_3 rfl ?_
  refine r_aload_n X 0 dX0_hears_4 rfl rfl ?_
  refine r_cv X (r_okI (As := [.ref (kB G + 0)]) (rest := [.ref z1]) X (m_X12_init_2 (xl x) G X.2.2.2.2.1 hph z1 (kB G + 0) s5 _ h) (cl_X0_216 X ⟨(Nat.le_of_ble_eq_true rfl), (Nat.le_of_ble_eq_true rfl)⟩) rfl rfl (Nat.le_of_ble_eq_true rfl) dX0_hears_5 ⟨Nat.le_of_ble_eq_true rfl, Nat.le_of_ble_eq_true rfl⟩) (fun s8 h => ?_)
  refine r_astore_n (lv' := [(3, .ref z1), (0, .ref (kB G + 0)), (1, .int p1), (2, .int p2)]) X dX0_hears_8 rfl (Nat.le_of_ble_eq_true rfl) rfl ?_
  refine r_aload_n X 0 dX0_hears_9 rfl rfl ?_
  refine r_iload_n X 2 dX0_hears_10 rfl rfl ?_
  refine r_iload_n X 3 dX0_hears_11 rfl rfl ?_
  obtain ⟨g9, h⟩ := h
  refine r_ci X (r_okV (As := [.int p1, .int p2]) (rest := []) X (m_X12_hears (xl x) G X.2.2.2.2.1 hph z1 p1 p2 s8 _ h) (cl_X0_227 X ⟨(Nat.le_of_ble_eq_true rfl), (Nat.le_of_ble_eq_true rfl)⟩) 12 g9 rfl rfl rfl rfl (Nat.le_of_ble_eq_true rfl) dX0_hears_12 ⟨Nat.le_of_ble_eq_true rfl, Nat.le_of_ble_eq_true rfl⟩) (fun r11 s10 h => ?_)
  obtain ⟨z12, h⟩ := h
  refine r_istore (lv' := [(4, .int r11), (3, .ref z1), (0, .ref (kB G + 0)), (1, .int p1), (2, .int p2)]) X dX0_hears_15 (Nat.le_of_ble_eq_true rfl) rfl ?_
  refine r_aload_n X 1 dX0_hears_17 rfl rfl ?_
  obtain ⟨g13, h⟩ := h
  refine r_cv X (r_okV (As := []) (rest := []) X (m_X12_keeps (xl x) G X.2.2.2.2.1 hph z1 s10 _ h) (cl_X0_211 X ⟨(Nat.le_of_ble_eq_true rfl), (Nat.le_of_ble_eq_true rfl)⟩) 12 g13 rfl rfl rfl rfl (Nat.le_of_ble_eq_true rfl) dX0_hears_18 ⟨Nat.le_of_ble_eq_true rfl, Nat.le_of_ble_eq_true rfl⟩) (fun s14 h => ?_)
  refine r_aload_n X 2 dX0_hears_21 rfl rfl ?_
  refine gr_X0_12 X hph 0 0 1 ly_0 rfl rfl dX0_hears_22 ?_
  refine gr_X0_203 X hph 1 1 5 ly_1 rfl rfl dX0_hears_25 ?_
  refine r_iconst (v := 5) X dX0_hears_28 rfl ?_
  refine r_dup2 X dX0_hears_29 rfl rfl ?_
  refine r_ialdL X hph 5 195 ly_5 tn_5 il_5_195 dX0_hears_30 ?_
  refine r_iconst (v := 1) X dX0_hears_31 rfl ?_
  refine r_iload_n X 3 dX0_hears_32 rfl rfl ?_
  refine r_ishl X dX0_hears_33 ?_
  refine r_ior X dX0_hears_34 ?_
  refine r_iastL X hph 5 195 ly_5 tn_5 il_5_195 dX0_hears_35 (fun s15 e16 => ?_)
  replace h := h s15 e16
  refine r_iload X 0 dX0_hears_36 rfl ?_
  exact r_zret X z12 h (Nat.le_of_ble_eq_true rfl) (Nat.le_of_ble_eq_true rfl) dX0_hears_38
theorem m_X0_hears (l : Launch) (G : GT) (g : GK G) (hph : kP G = 1) (p1 : Int32) (p2 : Int32) (s : PS) (Q : Int32 → PS → Prop) (h : w_X0_hears G p1 p2 s Q) : Met l yX0_hears (ws_ yX0_hears cX0_hears 5 (some .boolean)) rm_X0_hears (va_Pc [.ref (kB G + 0), .int p1, .int p2] (Wr G s)) (va_Qi (fun r u => (r = 0 ∨ r = 1) ∧ Q r u) (fun u t => Wr G u t) (kF G)) 1 6 (kF G) := by
  refine Met.ofW (cc := cX0_hears) (maxL := 5) (ret := (some .boolean)) (by decide) rfl ?_
  intro p e s0 m args below meth c s₁ B hml hv
  obtain ⟨rfl, hw⟩ := hv
  exact wb_of [.ref (kB G + 0), .int p1, .int p2] (Nat.le_of_ble_eq_true rfl) hw.1 rfl (e_X0_hears (cx_of g B hml rfl hw) hph p1 p2 s Q h)
theorem e_X0_answer {x : CT} {G : GT} (X : Cx x G cX0_answer 3 RX0 (some .int) rm_X0_answer) (hph : kP G = 1) (p1 : Int32) (p2 : Int32) (s : PS) (Q : Int32 → PS → Prop) (h : w_X0_answer G p1 p2 s Q) : WB x G 3 (QfI x G 1 6 Q) 0 0 s 0 [(0, .ref (kB G + 0)), (1, .int p1), (2, .int p2)] [] := by
  unfold w_X0_answer at h
  refine r_aload_n X 0 dX0_answer_0 rfl rfl ?_
  refine r_ci X (r_okVL (As := []) (rest := []) X (m_X0_isWeighing (xl x) G X.2.2.2.2.1 hph s _ h) (cl_X0_222 X ⟨(Nat.le_of_ble_eq_true rfl), (Nat.le_of_ble_eq_true rfl)⟩) hph 0 ly_0 rfl rfl rfl rfl (Nat.le_of_ble_eq_true rfl) dX0_answer_1 ⟨Nat.le_of_ble_eq_true rfl, Nat.le_of_ble_eq_true rfl⟩) (fun r2 s1 h => ?_)
  obtain ⟨z3, h⟩ := h
  refine r_if_eq X 31 dX0_answer_4 (by decide) (fun c4 => ?_) (fun c4 => ?_)
  · replace h := h.1 c4
    refine r_iconst (v := (-1)) X dX0_answer_31 rfl ?_
    exact r_iret X h (Nat.le_of_ble_eq_true rfl) (Nat.le_of_ble_eq_true rfl) dX0_answer_32
  · replace h := h.2 c4
    refine r_aload_n X 0 dX0_answer_7 rfl rfl ?_
    refine r_iload_n X 1 dX0_answer_8 rfl rfl ?_
    refine r_ci X (r_okVL (As := [.int p1]) (rest := []) X (m_X0_isJudge (xl x) G X.2.2.2.2.1 hph p1 s1 _ h) (cl_X0_231 X ⟨(Nat.le_of_ble_eq_true rfl), (Nat.le_of_ble_eq_true rfl)⟩) hph 0 ly_0 rfl rfl rfl rfl (Nat.le_of_ble_eq_true rfl) dX0_answer_9 ⟨Nat.le_of_ble_eq_true rfl, Nat.le_of_ble_eq_true rfl⟩) (fun r6 s5 h => ?_)
    obtain ⟨z7, h⟩ := h
    refine r_if_eq X 31 dX0_answer_12 (by decide) (fun c8 => ?_) (fun c8 => ?_)
    · replace h := h.1 c8
      refine r_iconst (v := (-1)) X dX0_answer_31 rfl ?_
      exact r_iret X h (Nat.le_of_ble_eq_true rfl) (Nat.le_of_ble_eq_true rfl) dX0_answer_32
    · replace h := h.2 c8
      refine r_aload_n X 0 dX0_answer_15 rfl rfl ?_
      refine gr_X0_12 X hph 0 0 1 ly_0 rfl rfl dX0_answer_16 ?_
      refine gr_X0_203 X hph 1 1 5 ly_1 rfl rfl dX0_answer_19 ?_
      refine r_iconst (v := 5) X dX0_answer_22 rfl ?_
      refine r_ialdL X hph 5 195 ly_5 tn_5 il_5_195 dX0_answer_23 ?_
      refine r_iload_n X 1 dX0_answer_24 rfl rfl ?_
      refine r_ci X (r_okS (As := [.int (gI s5 (kB G + 5) 5), .int p1]) (rest := []) X (m_X0_has (xl x) G X.2.2.2.2.1 (gI s5 (kB G + 5) 5) p1 s5 _ h) (cl_X0_174 X ⟨(Nat.le_of_ble_eq_true rfl), (Nat.le_of_ble_eq_true rfl)⟩) rfl rfl (Nat.le_of_ble_eq_true rfl) dX0_answer_25 ⟨Nat.le_of_ble_eq_true rfl, Nat.le_of_ble_eq_true rfl⟩) (fun r10 s9 h => ?_)
      obtain ⟨z11, h⟩ := h
      refine r_if_eq X 33 dX0_answer_28 (by decide) (fun c12 => ?_) (fun c12 => ?_)
      · replace h := h.1 c12
        refine r_aload_n X 0 dX0_answer_33 rfl rfl ?_
        refine gr_X0_12 X hph 0 0 1 ly_0 rfl rfl dX0_answer_34 ?_
        refine r_cv X (r_okVL (As := []) (rest := []) X (m_X1_keeps (xl x) G X.2.2.2.2.1 (kB G + 1) s9 _ h) (cl_X0_200 X ⟨(Nat.le_of_ble_eq_true rfl), (Nat.le_of_ble_eq_true rfl)⟩) hph 1 ly_1 rfl rfl rfl rfl (Nat.le_of_ble_eq_true rfl) dX0_answer_37 ⟨Nat.le_of_ble_eq_true rfl, Nat.le_of_ble_eq_true rfl⟩) (fun s13 h => ?_)
        refine r_aload_n X 0 dX0_answer_40 rfl rfl ?_
        refine r_iload_n X 1 dX0_answer_41 rfl rfl ?_
        refine r_iload_n X 2 dX0_answer_42 rfl rfl ?_
        refine r_ci X (r_okVL (As := [.int p1, .int p2]) (rest := []) X (m_X0_hears (xl x) G X.2.2.2.2.1 hph p1 p2 s13 _ h) (cl_X0_234 X ⟨(Nat.le_of_ble_eq_true rfl), (Nat.le_of_ble_eq_true rfl)⟩) hph 0 ly_0 rfl rfl rfl rfl (Nat.le_of_ble_eq_true rfl) dX0_answer_43 ⟨Nat.le_of_ble_eq_true rfl, Nat.le_of_ble_eq_true rfl⟩) (fun r15 s14 h => ?_)
        obtain ⟨z16, h⟩ := h
        have hJ : WB x G 3 (QfI x G 1 6 Q) 1 6 s14 54 [(0, .ref (kB G + 0)), (1, .int p1), (2, .int p2)] [.int (if r15 = 0 then 0 else 1 : Int32)] := by
          exact r_iret X h (Nat.le_of_ble_eq_true rfl) (Nat.le_of_ble_eq_true rfl) dX0_answer_54
        refine r_if_eq X 53 dX0_answer_46 (by decide) (fun c17 => ?_) (fun c17 => ?_)
        · rw [if_pos c17] at hJ
          refine r_iconst (v := 0) X dX0_answer_53 rfl ?_
          exact hJ
        · rw [if_neg c17] at hJ
          refine r_iconst (v := 1) X dX0_answer_49 rfl ?_
          refine r_goto X 54 dX0_answer_50 (by decide) ?_
          exact hJ
      · replace h := h.2 c12
        refine r_iconst (v := (-1)) X dX0_answer_31 rfl ?_
        exact r_iret X h (Nat.le_of_ble_eq_true rfl) (Nat.le_of_ble_eq_true rfl) dX0_answer_32
theorem m_X0_answer (l : Launch) (G : GT) (g : GK G) (hph : kP G = 1) (p1 : Int32) (p2 : Int32) (s : PS) (Q : Int32 → PS → Prop) (h : w_X0_answer G p1 p2 s Q) : Met l yX0_answer (ws_ yX0_answer cX0_answer 3 (some .int)) rm_X0_answer (va_Pc [.ref (kB G + 0), .int p1, .int p2] (Wr G s)) (va_Qi Q (fun u t => Wr G u t) (kF G)) 1 6 (kF G) := by
  refine Met.ofW (cc := cX0_answer) (maxL := 3) (ret := (some .int)) (by decide) rfl ?_
  intro p e s0 m args below meth c s₁ B hml hv
  obtain ⟨rfl, hw⟩ := hv
  exact wb_of [.ref (kB G + 0), .int p1, .int p2] (Nat.le_of_ble_eq_true rfl) hw.1 rfl (e_X0_answer (cx_of g B hml rfl hw) hph p1 p2 s Q h)
theorem tl_X1_deedsOf_4 {x : CT} {G : GT} (X : Cx x G cX1_deedsOf 4 RX1 (some .int) rm_X1_deedsOf) (Q : Int32 → PS → Prop) (v0 : Nat) (v1 : Int32) : ∀ (n : Nat) (v2 : Int32) (v3 : Int32) (s : PS) (h : l_X1_deedsOf_4 G Q v0 v1 n v2 v3 s), WB x G 4 (QfI x G 0 0 Q) 0 0 s 4 [(0, .ref v0), (1, .int v1), (2, .int v2), (3, .int v3)] [] := by
  intro n
  induction n with
  | zero =>
    intro v2 v3 s h
    exact False.elim h
  | succ n ih =>
    intro v2 v3 s h
    unfold l_X1_deedsOf_4 at h
    refine r_iload_n X 3 dX1_deedsOf_4 rfl rfl ?_
    refine r_aload_n X 0 dX1_deedsOf_5 rfl rfl ?_
    obtain ⟨g1, h⟩ := h
    refine gf_X1_9 X g1 dX1_deedsOf_6 ?_
    obtain ⟨q2, g3, h⟩ := h
    refine r_top (show va_rf (gR s v0 0) = Value.ref q2 by rw [g3]; rfl) ?_
    refine r_iconst (v := 1) X dX1_deedsOf_9 rfl ?_
    obtain ⟨g4, h⟩ := h
    obtain ⟨g5, h⟩ := h
    refine r_iald X g4 g5 dX1_deedsOf_10 ?_
    refine r_ic_ge X 42 dX1_deedsOf_11 (by decide) (fun c6 => ?_) (fun c6 => ?_)
    · replace h := h.1 c6
      refine r_iload_n X 2 dX1_deedsOf_42 rfl rfl ?_
      exact r_iret X h (Nat.le_of_ble_eq_true rfl) (Nat.le_of_ble_eq_true rfl) dX1_deedsOf_43
    · replace h := h.2 c6
      refine r_iload_n X 2 dX1_deedsOf_14 rfl rfl ?_
      refine r_aload_n X 0 dX1_deedsOf_15 rfl rfl ?_
      refine gf_X1_26 X g1 dX1_deedsOf_16 ?_
      obtain ⟨q7, g8, h⟩ := h
      refine r_top (show va_rf (gR s v0 4) = Value.ref q7 by rw [g8]; rfl) ?_
      refine r_iload_n X 3 dX1_deedsOf_19 rfl rfl ?_
      obtain ⟨g9, h⟩ := h
      obtain ⟨g10, h⟩ := h
      refine r_aald X (by rw [g9]; decide) (by rw [g9]; decide) g10 dX1_deedsOf_20 ?_
      obtain ⟨q11, g12, h⟩ := h
      refine r_top (show va_rf (gR s q7 (Int32.toNatClampNeg v3)) = Value.ref q11 by rw [g12]; rfl) ?_
      refine r_iconst (v := 0) X dX1_deedsOf_21 rfl ?_
      obtain ⟨g13, h⟩ := h
      obtain ⟨g14, h⟩ := h
      refine r_iald X g13 g14 dX1_deedsOf_22 ?_
      refine r_iload_n X 1 dX1_deedsOf_23 rfl rfl ?_
      have hJ : WB x G 4 (QfI x G 0 0 Q) 0 0 s 34 [(0, .ref v0), (1, .int v1), (2, .int v2), (3, .int v3)] [.int (if (gI s q11 (Int32.toNatClampNeg 0)) = v1 then ((1 : Int32) <<< (v3 &&& 31)) else 0 : Int32), .int v2] := by
        refine r_ior X dX1_deedsOf_34 ?_
        refine r_nmI (fun y16 e17 => ?_)
        replace h := h y16 e17
        refine r_istore_n (lv' := [(2, .int y16), (0, .ref v0), (1, .int v1), (3, .int v3)]) X dX1_deedsOf_35 rfl (Nat.le_of_ble_eq_true rfl) rfl ?_
        refine r_iinc (lv' := [(3, .int (v3 + 1)), (2, .int y16), (0, .ref v0), (1, .int v1)]) X 3 dX1_deedsOf_36 rfl rfl (Nat.le_of_ble_eq_true rfl) rfl ?_
        refine r_goto X 4 dX1_deedsOf_39 (by decide) ?_
        refine r_sub [2, 3, 1, 0] rfl ?_
        exact ih y16 (v3 + 1) s h
      refine r_ic_ne X 33 dX1_deedsOf_24 (by decide) (fun c15 => ?_) (fun c15 => ?_)
      · rw [if_neg c15] at hJ
        refine r_iconst (v := 0) X dX1_deedsOf_33 rfl ?_
        exact hJ
      · rw [if_pos c15] at hJ
        refine r_iconst (v := 1) X dX1_deedsOf_27 rfl ?_
        refine r_iload_n X 3 dX1_deedsOf_28 rfl rfl ?_
        refine r_ishl X dX1_deedsOf_29 ?_
        refine r_goto X 34 dX1_deedsOf_30 (by decide) ?_
        exact hJ
theorem e_X1_deedsOf {x : CT} {G : GT} (X : Cx x G cX1_deedsOf 4 RX1 (some .int) rm_X1_deedsOf) (a0 : Nat) (p1 : Int32) (s : PS) (Q : Int32 → PS → Prop) (h : w_X1_deedsOf G a0 p1 s Q) : WB x G 4 (QfI x G 0 0 Q) 0 0 s 0 [(0, .ref a0), (1, .int p1)] [] := by
  unfold w_X1_deedsOf at h
  refine r_iconst (v := 0) X dX1_deedsOf_0 rfl ?_
  refine r_istore_n (lv' := [(2, .int 0), (0, .ref a0), (1, .int p1)]) X dX1_deedsOf_1 rfl (Nat.le_of_ble_eq_true rfl) rfl ?_
  refine r_iconst (v := 0) X dX1_deedsOf_2 rfl ?_
  refine r_istore_n (lv' := [(3, .int 0), (2, .int 0), (0, .ref a0), (1, .int p1)]) X dX1_deedsOf_3 rfl (Nat.le_of_ble_eq_true rfl) rfl ?_
  refine r_sub [2, 3, 1, 0] rfl ?_
  obtain ⟨n1, h⟩ := h
  exact tl_X1_deedsOf_4 X Q a0 p1 n1 0 0 s h
theorem m_X1_deedsOf (l : Launch) (G : GT) (g : GK G) (a0 : Nat) (p1 : Int32) (s : PS) (Q : Int32 → PS → Prop) (h : w_X1_deedsOf G a0 p1 s Q) : Met l yX1_deedsOf (ws_ yX1_deedsOf cX1_deedsOf 4 (some .int)) rm_X1_deedsOf (va_Pc [.ref a0, .int p1] (Wr G s)) (va_Qi Q (fun u t => Wr G u t) (kF G)) 0 0 (kF G) := by
  refine Met.ofW (cc := cX1_deedsOf) (maxL := 4) (ret := (some .int)) (by decide) rfl ?_
  intro p e s0 m args below meth c s₁ B hml hv
  obtain ⟨rfl, hw⟩ := hv
  exact wb_of [.ref a0, .int p1] (Nat.le_of_ble_eq_true rfl) hw.1 rfl (e_X1_deedsOf (cx_of g B hml rfl hw) a0 p1 s Q h)
theorem e_X0_upOf {x : CT} {G : GT} (X : Cx x G cX0_upOf 2 RX0 (some .int) rm_X0_upOf) (hph : kP G = 1) (p1 : Int32) (s : PS) (Q : Int32 → PS → Prop) (h : w_X0_upOf G p1 s Q) : WB x G 2 (QfI x G 0 0 Q) 0 0 s 0 [(0, .ref (kB G + 0)), (1, .int p1)] [] := by
  unfold w_X0_upOf at h
  refine r_aload_n X 0 dX0_upOf_0 rfl rfl ?_
  refine r_iload_n X 1 dX0_upOf_1 rfl rfl ?_
  refine r_cv X (r_okVL (As := [.int p1]) (rest := []) X (m_X0_names (xl x) G X.2.2.2.2.1 hph p1 s _ h) (cl_X0_162 X ⟨(Nat.le_of_ble_eq_true rfl), (Nat.le_of_ble_eq_true rfl)⟩) hph 0 ly_0 rfl rfl rfl rfl (Nat.le_of_ble_eq_true rfl) dX0_upOf_2 ⟨Nat.le_of_ble_eq_true rfl, Nat.le_of_ble_eq_true rfl⟩) (fun s1 h => ?_)
  refine r_aload_n X 0 dX0_upOf_5 rfl rfl ?_
  refine gr_X0_30 X hph 0 0 158 ly_0 rfl rfl dX0_upOf_6 ?_
  refine r_bipush (v := 14) X dX0_upOf_9 rfl ?_
  refine r_aload_n X 0 dX0_upOf_11 rfl rfl ?_
  refine gr_X0_12 X hph 0 0 1 ly_0 rfl rfl dX0_upOf_12 ?_
  refine r_iload_n X 1 dX0_upOf_15 rfl rfl ?_
  refine r_ci X (r_okVL (As := [.int p1]) (rest := [.int 14, .ref (kB G + 158)]) X (m_X1_deedsOf (xl x) G X.2.2.2.2.1 (kB G + 1) p1 s1 _ h) (cl_X0_190 X ⟨(Nat.le_of_ble_eq_true rfl), (Nat.le_of_ble_eq_true rfl)⟩) hph 1 ly_1 rfl rfl rfl rfl (Nat.le_of_ble_eq_true rfl) dX0_upOf_16 ⟨Nat.le_of_ble_eq_true rfl, Nat.le_of_ble_eq_true rfl⟩) (fun r3 s2 h => ?_)
  refine r_ci X (r_okS (As := [.int r3]) (rest := [.int 14, .ref (kB G + 158)]) X (m_J12_bitCount (xl x) G X.2.2.2.2.1 r3 s2 _ h) (cl_X0_185 X ⟨(Nat.le_of_ble_eq_true rfl), (Nat.le_of_ble_eq_true rfl)⟩) rfl rfl (Nat.le_of_ble_eq_true rfl) dX0_upOf_19 ⟨Nat.le_of_ble_eq_true rfl, Nat.le_of_ble_eq_true rfl⟩) (fun r5 s4 h => ?_)
  refine r_iastL X hph 158 15 ly_158 tn_14 il_14_15 dX0_upOf_22 (fun s6 e7 => ?_)
  replace h := h s6 e7
  refine r_aload_n X 0 dX0_upOf_23 rfl rfl ?_
  refine r_aload_n X 0 dX0_upOf_24 rfl rfl ?_
  refine r_ca X (r_okVL (As := []) (rest := [.ref (kB G + 0)]) X (m_X0_rules (xl x) G X.2.2.2.2.1 hph s6 _ h) (cl_X0_167 X ⟨(Nat.le_of_ble_eq_true rfl), (Nat.le_of_ble_eq_true rfl)⟩) hph 0 ly_0 rfl rfl rfl rfl (Nat.le_of_ble_eq_true rfl) dX0_upOf_25 ⟨Nat.le_of_ble_eq_true rfl, Nat.le_of_ble_eq_true rfl⟩) (fun r9 s8 h => ?_)
  refine r_iconst (v := 3) X dX0_upOf_28 rfl ?_
  refine r_bipush (v := 50) X dX0_upOf_29 rfl ?_
  refine r_iconst (v := 0) X dX0_upOf_31 rfl ?_
  refine r_sipush (v := 999) X dX0_upOf_32 rfl ?_
  refine r_ci X (r_okVL (As := [.ref r9, .int 3, .int 50, .int 0, .int 999]) (rest := []) X (m_X0_law (xl x) G X.2.2.2.2.1 hph r9 3 50 0 999 s8 _ h) (cl_X0_164 X ⟨(Nat.le_of_ble_eq_true rfl), (Nat.le_of_ble_eq_true rfl)⟩) hph 0 ly_0 rfl rfl rfl rfl (Nat.le_of_ble_eq_true rfl) dX0_upOf_35 ⟨Nat.le_of_ble_eq_true rfl, Nat.le_of_ble_eq_true rfl⟩) (fun r11 s10 h => ?_)
  exact r_iret X h (Nat.le_of_ble_eq_true rfl) (Nat.le_of_ble_eq_true rfl) dX0_upOf_38
theorem m_X0_upOf (l : Launch) (G : GT) (g : GK G) (hph : kP G = 1) (p1 : Int32) (s : PS) (Q : Int32 → PS → Prop) (h : w_X0_upOf G p1 s Q) : Met l yX0_upOf (ws_ yX0_upOf cX0_upOf 2 (some .int)) rm_X0_upOf (va_Pc [.ref (kB G + 0), .int p1] (Wr G s)) (va_Qi Q (fun u t => Wr G u t) (kF G)) 0 0 (kF G) := by
  refine Met.ofW (cc := cX0_upOf) (maxL := 2) (ret := (some .int)) (by decide) rfl ?_
  intro p e s0 m args below meth c s₁ B hml hv
  obtain ⟨rfl, hw⟩ := hv
  exact wb_of [.ref (kB G + 0), .int p1] (Nat.le_of_ble_eq_true rfl) hw.1 rfl (e_X0_upOf (cx_of g B hml rfl hw) hph p1 s Q h)
theorem e_X0_judgedAt {x : CT} {G : GT} (X : Cx x G cX0_judgedAt 3 RX0 (some .int) rm_X0_judgedAt) (hph : kP G = 1) (p1 : Int32) (p2 : Int32) (s : PS) (Q : Int32 → PS → Prop) (h : w_X0_judgedAt G p1 p2 s Q) : WB x G 3 (QfI x G 0 0 Q) 0 0 s 0 [(0, .ref (kB G + 0)), (1, .int p1), (2, .int p2)] [] := by
  unfold w_X0_judgedAt at h
  refine r_iload_n X 2 dX0_judgedAt_0 rfl rfl ?_
  refine r_aload_n X 0 dX0_judgedAt_1 rfl rfl ?_
  refine gr_X0_12 X hph 0 0 1 ly_0 rfl rfl dX0_judgedAt_2 ?_
  refine gr_X0_81 X hph 1 1 3 ly_1 rfl rfl dX0_judgedAt_5 ?_
  refine r_iload_n X 1 dX0_judgedAt_8 rfl rfl ?_
  obtain ⟨g1, h⟩ := h
  refine r_ialdL X hph 3 6 ly_3 rfl g1 dX0_judgedAt_9 ?_
  refine r_ic_le X 17 dX0_judgedAt_10 (by decide) (fun c2 => ?_) (fun c2 => ?_)
  · replace h := h.1 c2
    refine r_iload_n X 2 dX0_judgedAt_17 rfl rfl ?_
    refine r_aload_n X 0 dX0_judgedAt_18 rfl rfl ?_
    refine r_iload_n X 1 dX0_judgedAt_19 rfl rfl ?_
    refine r_ci X (r_okVL (As := [.int p1]) (rest := [.int p2]) X (m_X0_upOf (xl x) G X.2.2.2.2.1 hph p1 s _ h) (cl_X0_193 X ⟨(Nat.le_of_ble_eq_true rfl), (Nat.le_of_ble_eq_true rfl)⟩) hph 0 ly_0 rfl rfl rfl rfl (Nat.le_of_ble_eq_true rfl) dX0_judgedAt_20 ⟨Nat.le_of_ble_eq_true rfl, Nat.le_of_ble_eq_true rfl⟩) (fun r4 s3 h => ?_)
    refine r_iadd X dX0_judgedAt_23 ?_
    refine r_aload_n X 0 dX0_judgedAt_24 rfl rfl ?_
    refine gr_X0_12 X hph 0 0 1 ly_0 rfl rfl dX0_judgedAt_25 ?_
    refine gr_X0_81 X hph 1 1 3 ly_1 rfl rfl dX0_judgedAt_28 ?_
    refine r_iload_n X 1 dX0_judgedAt_31 rfl rfl ?_
    refine r_ialdL X hph 3 6 ly_3 rfl g1 dX0_judgedAt_32 ?_
    have hJ : WB x G 3 (QfI x G 0 0 Q) 0 0 s3 41 [(0, .ref (kB G + 0)), (1, .int p1), (2, .int p2)] [.int (if (gI s3 (kB G + 3) p1.toNatClampNeg) ≤ (p2 + r4) then 1 else 2 : Int32)] := by
      exact r_iret X h (Nat.le_of_ble_eq_true rfl) (Nat.le_of_ble_eq_true rfl) dX0_judgedAt_41
    refine r_ic_ge X 40 dX0_judgedAt_33 (by decide) (fun c5 => ?_) (fun c5 => ?_)
    · rw [if_pos c5] at hJ
      refine r_iconst (v := 1) X dX0_judgedAt_40 rfl ?_
      exact hJ
    · rw [if_neg c5] at hJ
      refine r_iconst (v := 2) X dX0_judgedAt_36 rfl ?_
      refine r_goto X 41 dX0_judgedAt_37 (by decide) ?_
      exact hJ
  · replace h := h.2 c2
    refine r_iconst (v := 0) X dX0_judgedAt_13 rfl ?_
    refine r_goto X 41 dX0_judgedAt_14 (by decide) ?_
    exact r_iret X h (Nat.le_of_ble_eq_true rfl) (Nat.le_of_ble_eq_true rfl) dX0_judgedAt_41
theorem m_X0_judgedAt (l : Launch) (G : GT) (g : GK G) (hph : kP G = 1) (p1 : Int32) (p2 : Int32) (s : PS) (Q : Int32 → PS → Prop) (h : w_X0_judgedAt G p1 p2 s Q) : Met l yX0_judgedAt (ws_ yX0_judgedAt cX0_judgedAt 3 (some .int)) rm_X0_judgedAt (va_Pc [.ref (kB G + 0), .int p1, .int p2] (Wr G s)) (va_Qi Q (fun u t => Wr G u t) (kF G)) 0 0 (kF G) := by
  refine Met.ofW (cc := cX0_judgedAt) (maxL := 3) (ret := (some .int)) (by decide) rfl ?_
  intro p e s0 m args below meth c s₁ B hml hv
  obtain ⟨rfl, hw⟩ := hv
  exact wb_of [.ref (kB G + 0), .int p1, .int p2] (Nat.le_of_ble_eq_true rfl) hw.1 rfl (e_X0_judgedAt (cx_of g B hml rfl hw) hph p1 p2 s Q h)
theorem tb_X1_writes_41 {x : CT} {G : GT} (X : Cx x G cX1_writes 3 RX1 none rm_X1_writes) (Q : PS → Prop) (v0 : Nat) (v1 : Int32) (s : PS) (h : b_X1_writes_41 G Q v0 v1 s) : WB x G 3 (QfV x G 1 5 Q) 0 0 s 41 [(0, .ref v0), (1, .int v1)] [] := by
  unfold b_X1_writes_41 at h
  refine r_iconst (v := 5) X dX1_writes_41 rfl ?_
  refine r_newa X 1 .int (by decide) rfl q224 tn_5 (by decide +kernel) (Nat.le_of_ble_eq_true rfl) ⟨Nat.le_of_ble_eq_true rfl, Nat.le_of_ble_eq_true rfl⟩ dX1_writes_42 (fun z1 e2 w3 u4 s5 e6 => ?_)
  replace h := h z1 e2 w3 u4 s5 e6
  have g7 : gT s5 z1 = 1 := by rw [e6, gT_pNew, if_pos e2]
  refine r_dup X dX1_writes_44 rfl ?_
  refine r_iconst (v := 0) X dX1_writes_45 rfl ?_
  refine r_aload_n X 0 dX1_writes_46 rfl rfl ?_
  obtain ⟨g8, h⟩ := h
  refine gf_X1_21 X g8 dX1_writes_47 ?_
  obtain ⟨q9, g10, h⟩ := h
  refine r_top (show va_rf (gR s5 v0 3) = Value.ref q9 by rw [g10]; rfl) ?_
  refine r_iconst (v := 0) X dX1_writes_50 rfl ?_
  obtain ⟨g11, h⟩ := h
  obtain ⟨g12, h⟩ := h
  refine r_iald X g11 g12 dX1_writes_51 ?_
  obtain ⟨g13, h⟩ := h
  refine r_iast X g7 g13 w3 dX1_writes_52 (fun s14 e15 => ?_)
  replace h := h s14 e15
  refine r_dup X dX1_writes_53 rfl ?_
  refine r_iconst (v := 1) X dX1_writes_54 rfl ?_
  refine r_aload_n X 0 dX1_writes_55 rfl rfl ?_
  have g16 : gT s14 v0 = 101 := by rw [e15]; exact g8
  refine gf_X1_21 X g16 dX1_writes_56 ?_
  obtain ⟨q17, g18, h⟩ := h
  refine r_top (show va_rf (gR s14 v0 3) = Value.ref q17 by rw [g18]; rfl) ?_
  refine r_iconst (v := 2) X dX1_writes_59 rfl ?_
  obtain ⟨g19, h⟩ := h
  obtain ⟨g20, h⟩ := h
  refine r_iald X g19 g20 dX1_writes_60 ?_
  have g21 : gT s14 z1 = 1 := by rw [e15]; exact g7
  obtain ⟨g22, h⟩ := h
  refine r_iast X g21 g22 w3 dX1_writes_61 (fun s23 e24 => ?_)
  replace h := h s23 e24
  refine r_dup X dX1_writes_62 rfl ?_
  refine r_iconst (v := 2) X dX1_writes_63 rfl ?_
  refine r_aload_n X 0 dX1_writes_64 rfl rfl ?_
  have g25 : gT s23 v0 = 101 := by rw [e24]; exact g16
  refine gf_X1_21 X g25 dX1_writes_65 ?_
  obtain ⟨q26, g27, h⟩ := h
  refine r_top (show va_rf (gR s23 v0 3) = Value.ref q26 by rw [g27]; rfl) ?_
  refine r_iconst (v := 1) X dX1_writes_68 rfl ?_
  obtain ⟨g28, h⟩ := h
  obtain ⟨g29, h⟩ := h
  refine r_iald X g28 g29 dX1_writes_69 ?_
  have g30 : gT s23 z1 = 1 := by rw [e24]; exact g21
  obtain ⟨g31, h⟩ := h
  refine r_iast X g30 g31 w3 dX1_writes_70 (fun s32 e33 => ?_)
  replace h := h s32 e33
  refine r_dup X dX1_writes_71 rfl ?_
  refine r_iconst (v := 3) X dX1_writes_72 rfl ?_
  refine r_aload_n X 0 dX1_writes_73 rfl rfl ?_
  have g34 : gT s32 v0 = 101 := by rw [e33]; exact g25
  refine gf_X1_21 X g34 dX1_writes_74 ?_
  obtain ⟨q35, g36, h⟩ := h
  refine r_top (show va_rf (gR s32 v0 3) = Value.ref q35 by rw [g36]; rfl) ?_
  refine r_iconst (v := 3) X dX1_writes_77 rfl ?_
  obtain ⟨g37, h⟩ := h
  obtain ⟨g38, h⟩ := h
  refine r_iald X g37 g38 dX1_writes_78 ?_
  have g39 : gT s32 z1 = 1 := by rw [e33]; exact g30
  obtain ⟨g40, h⟩ := h
  refine r_iast X g39 g40 w3 dX1_writes_79 (fun s41 e42 => ?_)
  replace h := h s41 e42
  refine r_dup X dX1_writes_80 rfl ?_
  refine r_iconst (v := 4) X dX1_writes_81 rfl ?_
  refine r_iload_n X 1 dX1_writes_82 rfl rfl ?_
  have g43 : gT s41 z1 = 1 := by rw [e42]; exact g39
  obtain ⟨g44, h⟩ := h
  refine r_iast X g43 g44 w3 dX1_writes_83 (fun s45 e46 => ?_)
  replace h := h s45 e46
  refine r_astore_n (lv' := [(2, .ref z1), (0, .ref v0), (1, .int v1)]) X dX1_writes_84 rfl (Nat.le_of_ble_eq_true rfl) rfl ?_
  refine r_aload_n X 0 dX1_writes_85 rfl rfl ?_
  refine r_iconst (v := 0) X dX1_writes_86 rfl ?_
  refine r_aload_n X 1 dX1_writes_87 rfl rfl ?_
  have g47 : gT s45 v0 = 101 := by rw [e46]; rw [e42]; exact g34
  refine gf_X1_21 X g47 dX1_writes_88 ?_
  obtain ⟨q48, g49, h⟩ := h
  refine r_top (show va_rf (gR s45 v0 3) = Value.ref q48 by rw [g49]; rfl) ?_
  refine r_bipush (v := 45) X dX1_writes_91 rfl ?_
  refine r_iconst (v := 5) X dX1_writes_93 rfl ?_
  refine r_aload_n X 1 dX1_writes_94 rfl rfl ?_
  refine gf_X1_21 X g47 dX1_writes_95 ?_
  obtain ⟨q50, g51, h⟩ := h
  refine r_top (show va_rf (gR s45 v0 3) = Value.ref q50 by rw [g51]; rfl) ?_
  refine r_bipush (v := 44) X dX1_writes_98 rfl ?_
  obtain ⟨g52, h⟩ := h
  obtain ⟨g53, h⟩ := h
  refine r_iald X g52 g53 dX1_writes_100 ?_
  refine r_imul X dX1_writes_101 ?_
  refine r_iadd X dX1_writes_102 ?_
  refine r_iconst (v := 5) X dX1_writes_103 rfl ?_
  have g54 : gT s45 z1 = 1 := by rw [e46]; exact g43
  obtain ⟨g55, h⟩ := h
  obtain ⟨g56, h⟩ := h
  obtain ⟨g57, h⟩ := h
  obtain ⟨g58, h⟩ := h
  obtain ⟨g59, h⟩ := h
  refine r_cpyI X q233 q235 q234 q139 g54 g55 (by decide) g56 (by decide) g57 g58 g59 (Nat.le_of_ble_eq_true rfl) (Nat.le_of_ble_eq_true rfl) (Nat.le_of_ble_eq_true rfl) dX1_writes_104 (fun s60 e61 => ?_)
  replace h := h s60 e61
  refine r_aload_n X 1 dX1_writes_107 rfl rfl ?_
  have g62 : gT s60 v0 = 101 := by rw [e61]; exact g47
  refine gf_X1_21 X g62 dX1_writes_108 ?_
  obtain ⟨q63, g64, h⟩ := h
  refine r_top (show va_rf (gR s60 v0 3) = Value.ref q63 by rw [g64]; rfl) ?_
  refine r_bipush (v := 44) X dX1_writes_111 rfl ?_
  refine r_dup2 X dX1_writes_113 rfl rfl ?_
  obtain ⟨g65, h⟩ := h
  obtain ⟨g66, h⟩ := h
  refine r_iald X g65 g66 dX1_writes_114 ?_
  refine r_iconst (v := 1) X dX1_writes_115 rfl ?_
  refine r_iadd X dX1_writes_116 ?_
  obtain ⟨g67, h⟩ := h
  refine r_iast X g65 g66 g67 dX1_writes_117 (fun s68 e69 => ?_)
  replace h := h s68 e69
  exact r_vret X h (Nat.le_of_ble_eq_true rfl) (Nat.le_of_ble_eq_true rfl) dX1_writes_118
theorem e_X1_writes {x : CT} {G : GT} (X : Cx x G cX1_writes 3 RX1 none rm_X1_writes) (a0 : Nat) (p1 : Int32) (s : PS) (Q : PS → Prop) (h : w_X1_writes G a0 p1 s Q) : WB x G 3 (QfV x G 1 5 Q) 0 0 s 0 [(0, .ref a0), (1, .int p1)] [] := by
  unfold w_X1_writes at h
  refine r_aload_n X 0 dX1_writes_0 rfl rfl ?_
  obtain ⟨g1, h⟩ := h
  refine gf_X1_21 X g1 dX1_writes_1 ?_
  obtain ⟨q2, g3, h⟩ := h
  refine r_top (show va_rf (gR s a0 3) = Value.ref q2 by rw [g3]; rfl) ?_
  refine r_bipush (v := 44) X dX1_writes_4 rfl ?_
  obtain ⟨g4, h⟩ := h
  obtain ⟨g5, h⟩ := h
  refine r_iald X g4 g5 dX1_writes_6 ?_
  refine r_bipush (v := 30) X dX1_writes_7 rfl ?_
  refine r_ic_ne X 41 dX1_writes_9 (by decide) (fun c6 => ?_) (fun c6 => ?_)
  · replace h := h.2 c6
    exact tb_X1_writes_41 X Q a0 p1 s h
  · replace h := h.1 c6
    refine r_aload_n X 0 dX1_writes_12 rfl rfl ?_
    refine gf_X1_21 X g1 dX1_writes_13 ?_
    obtain ⟨q7, g8, h⟩ := h
    refine r_top (show va_rf (gR s a0 3) = Value.ref q7 by rw [g8]; rfl) ?_
    refine r_bipush (v := 50) X dX1_writes_16 rfl ?_
    refine r_aload_n X 0 dX1_writes_18 rfl rfl ?_
    refine gf_X1_21 X g1 dX1_writes_19 ?_
    obtain ⟨q9, g10, h⟩ := h
    refine r_top (show va_rf (gR s a0 3) = Value.ref q9 by rw [g10]; rfl) ?_
    refine r_bipush (v := 45) X dX1_writes_22 rfl ?_
    refine r_sipush (v := 145) X dX1_writes_24 rfl ?_
    obtain ⟨g11, h⟩ := h
    obtain ⟨g12, h⟩ := h
    obtain ⟨g13, h⟩ := h
    obtain ⟨g14, h⟩ := h
    obtain ⟨g15, h⟩ := h
    refine r_cpyI X q233 q235 q234 q139 g11 g12 (by decide) (by decide) (by decide) g13 g14 g15 (Nat.le_of_ble_eq_true rfl) (Nat.le_of_ble_eq_true rfl) (Nat.le_of_ble_eq_true rfl) dX1_writes_27 (fun s16 e17 => ?_)
    replace h := h s16 e17
    refine r_aload_n X 0 dX1_writes_30 rfl rfl ?_
    have g18 : gT s16 a0 = 101 := by rw [e17]; exact g1
    refine gf_X1_21 X g18 dX1_writes_31 ?_
    obtain ⟨q19, g20, h⟩ := h
    refine r_top (show va_rf (gR s16 a0 3) = Value.ref q19 by rw [g20]; rfl) ?_
    refine r_bipush (v := 44) X dX1_writes_34 rfl ?_
    refine r_dup2 X dX1_writes_36 rfl rfl ?_
    obtain ⟨g21, h⟩ := h
    obtain ⟨g22, h⟩ := h
    refine r_iald X g21 g22 dX1_writes_37 ?_
    refine r_iconst (v := 1) X dX1_writes_38 rfl ?_
    refine r_isub X dX1_writes_39 ?_
    obtain ⟨g23, h⟩ := h
    refine r_iast X g21 g22 g23 dX1_writes_40 (fun s24 e25 => ?_)
    replace h := h s24 e25
    exact tb_X1_writes_41 X Q a0 p1 s24 h
theorem m_X1_writes (l : Launch) (G : GT) (g : GK G) (a0 : Nat) (p1 : Int32) (s : PS) (Q : PS → Prop) (h : w_X1_writes G a0 p1 s Q) : Met l yX1_writes (ws_ yX1_writes cX1_writes 3 none) rm_X1_writes (va_Pc [.ref a0, .int p1] (Wr G s)) (va_Qv Q (fun u t => Wr G u t) (kF G)) 1 5 (kF G) := by
  refine Met.ofW (cc := cX1_writes) (maxL := 3) (ret := none) (by decide) rfl ?_
  intro p e s0 m args below meth c s₁ B hml hv
  obtain ⟨rfl, hw⟩ := hv
  exact wb_of [.ref a0, .int p1] (Nat.le_of_ble_eq_true rfl) hw.1 rfl (e_X1_writes (cx_of g B hml rfl hw) a0 p1 s Q h)
theorem tb_X0_judges_75 {x : CT} {G : GT} (X : Cx x G cX0_judges 3 RX0 (some .int) rm_X0_judges) (hph : kP G = 1) (Q : Int32 → PS → Prop) (v2 : Int32) (s : PS) (h : b_X0_judges_75 G Q v2 s) : WB x G 3 (QfI x G 1 5 Q) 0 0 s 75 [(0, .ref (kB G + 0)), (2, .int v2)] [] := by
  unfold b_X0_judges_75 at h
  refine r_aload_n X 0 dX0_judges_75 rfl rfl ?_
  refine gr_X0_12 X hph 0 0 1 ly_0 rfl rfl dX0_judges_76 ?_
  refine r_iload_n X 1 dX0_judges_79 rfl rfl ?_
  refine r_cv X (r_okVL (As := [.int v2]) (rest := []) X (m_X1_writes (xl x) G X.2.2.2.2.1 (kB G + 1) v2 s _ h) (cl_X0_240 X ⟨(Nat.le_of_ble_eq_true rfl), (Nat.le_of_ble_eq_true rfl)⟩) hph 1 ly_1 rfl rfl rfl rfl (Nat.le_of_ble_eq_true rfl) dX0_judges_80 ⟨Nat.le_of_ble_eq_true rfl, Nat.le_of_ble_eq_true rfl⟩) (fun s1 h => ?_)
  refine r_aload_n X 0 dX0_judges_83 rfl rfl ?_
  refine gr_X0_12 X hph 0 0 1 ly_0 rfl rfl dX0_judges_84 ?_
  refine gr_X0_203 X hph 1 1 5 ly_1 rfl rfl dX0_judges_87 ?_
  refine r_iconst (v := 0) X dX0_judges_90 rfl ?_
  refine r_iconst (v := (-1)) X dX0_judges_91 rfl ?_
  refine r_iastL X hph 5 195 ly_5 tn_0 il_0_195 dX0_judges_92 (fun s2 e3 => ?_)
  replace h := h s2 e3
  refine r_iload_n X 1 dX0_judges_93 rfl rfl ?_
  exact r_iret X h (Nat.le_of_ble_eq_true rfl) (Nat.le_of_ble_eq_true rfl) dX0_judges_94
theorem e_X0_judges {x : CT} {G : GT} (X : Cx x G cX0_judges 3 RX0 (some .int) rm_X0_judges) (hph : kP G = 1) (s : PS) (Q : Int32 → PS → Prop) (h : w_X0_judges G s Q) : WB x G 3 (QfI x G 1 5 Q) 0 0 s 0 [(0, .ref (kB G + 0))] [] := by
  unfold w_X0_judges at h
  refine r_aload_n X 0 dX0_judges_0 rfl rfl ?_
  refine gr_X0_12 X hph 0 0 1 ly_0 rfl rfl dX0_judges_1 ?_
  refine gr_X0_203 X hph 1 1 5 ly_1 rfl rfl dX0_judges_4 ?_
  refine r_iconst (v := 0) X dX0_judges_7 rfl ?_
  refine r_ialdL X hph 5 195 ly_5 tn_0 il_0_195 dX0_judges_8 ?_
  refine r_nmI (fun y1 e2 => ?_)
  replace h := h y1 e2
  refine r_istore_n (lv' := [(1, .int y1), (0, .ref (kB G + 0))]) X dX0_judges_9 rfl (Nat.le_of_ble_eq_true rfl) rfl ?_
  refine r_aload_n X 1 dX0_judges_10 rfl rfl ?_
  refine r_iload_n X 0 dX0_judges_11 rfl rfl ?_
  refine r_aload_n X 1 dX0_judges_12 rfl rfl ?_
  refine gr_X0_12 X hph 0 0 1 ly_0 rfl rfl dX0_judges_13 ?_
  refine gr_X0_203 X hph 1 1 5 ly_1 rfl rfl dX0_judges_16 ?_
  refine r_iconst (v := 2) X dX0_judges_19 rfl ?_
  refine r_ialdL X hph 5 195 ly_5 tn_2 il_2_195 dX0_judges_20 ?_
  refine r_ci X (r_okVL (As := [.int y1, .int (gI s (kB G + 5) 2)]) (rest := []) X (m_X0_judgedAt (xl x) G X.2.2.2.2.1 hph y1 (gI s (kB G + 5) 2) s _ h) (cl_X0_235 X ⟨(Nat.le_of_ble_eq_true rfl), (Nat.le_of_ble_eq_true rfl)⟩) hph 0 ly_0 rfl rfl rfl rfl (Nat.le_of_ble_eq_true rfl) dX0_judges_21 ⟨Nat.le_of_ble_eq_true rfl, Nat.le_of_ble_eq_true rfl⟩) (fun r4 s3 h => ?_)
  refine r_istore_n (lv' := [(2, .int r4), (1, .int y1), (0, .ref (kB G + 0))]) X dX0_judges_24 rfl (Nat.le_of_ble_eq_true rfl) rfl ?_
  refine r_iload_n X 0 dX0_judges_25 rfl rfl ?_
  refine r_if_ne X 75 dX0_judges_26 (by decide) (fun c5 => ?_) (fun c5 => ?_)
  · replace h := h.2 c5
    refine r_sub [2, 0] rfl ?_
    exact tb_X0_judges_75 X hph Q r4 s3 h
  · replace h := h.1 c5
    refine r_aload_n X 2 dX0_judges_29 rfl rfl ?_
    refine gr_X0_12 X hph 0 0 1 ly_0 rfl rfl dX0_judges_30 ?_
    refine gr_X0_203 X hph 1 1 5 ly_1 rfl rfl dX0_judges_33 ?_
    refine r_bipush (v := 6) X dX0_judges_36 rfl ?_
    refine r_sipush (v := 9999) X dX0_judges_38 rfl ?_
    refine r_aload_n X 2 dX0_judges_41 rfl rfl ?_
    refine gr_X0_12 X hph 0 0 1 ly_0 rfl rfl dX0_judges_42 ?_
    refine gr_X0_203 X hph 1 1 5 ly_1 rfl rfl dX0_judges_45 ?_
    refine r_bipush (v := 6) X dX0_judges_48 rfl ?_
    refine r_ialdL X hph 5 195 ly_5 tn_6 il_6_195 dX0_judges_50 ?_
    refine r_aload_n X 2 dX0_judges_51 rfl rfl ?_
    refine gr_X0_12 X hph 0 0 1 ly_0 rfl rfl dX0_judges_52 ?_
    refine gr_X0_203 X hph 1 1 5 ly_1 rfl rfl dX0_judges_55 ?_
    refine r_iconst (v := 2) X dX0_judges_58 rfl ?_
    refine r_ialdL X hph 5 195 ly_5 tn_2 il_2_195 dX0_judges_59 ?_
    refine r_iadd X dX0_judges_60 ?_
    refine r_aload_n X 2 dX0_judges_61 rfl rfl ?_
    refine gr_X0_12 X hph 0 0 1 ly_0 rfl rfl dX0_judges_62 ?_
    refine gr_X0_81 X hph 1 1 3 ly_1 rfl rfl dX0_judges_65 ?_
    refine r_iload_n X 1 dX0_judges_68 rfl rfl ?_
    obtain ⟨g6, h⟩ := h
    refine r_ialdL X hph 3 6 ly_3 rfl g6 dX0_judges_69 ?_
    refine r_isub X dX0_judges_70 ?_
    refine r_mmin X q1068 q518 q150 q519 (Nat.le_of_ble_eq_true rfl) (Nat.le_of_ble_eq_true rfl) (Nat.le_of_ble_eq_true rfl) ⟨Nat.le_of_ble_eq_true rfl, Nat.le_of_ble_eq_true rfl⟩ dX0_judges_71 ?_
    refine r_iastL X hph 5 195 ly_5 tn_6 il_6_195 dX0_judges_74 (fun s7 e8 => ?_)
    replace h := h s7 e8
    refine r_sub [2, 0] rfl ?_
    exact tb_X0_judges_75 X hph Q r4 s7 h
theorem m_X0_judges (l : Launch) (G : GT) (g : GK G) (hph : kP G = 1) (s : PS) (Q : Int32 → PS → Prop) (h : w_X0_judges G s Q) : Met l yX0_judges (ws_ yX0_judges cX0_judges 3 (some .int)) rm_X0_judges (va_Pc [.ref (kB G + 0)] (Wr G s)) (va_Qi Q (fun u t => Wr G u t) (kF G)) 1 5 (kF G) := by
  refine Met.ofW (cc := cX0_judges) (maxL := 3) (ret := (some .int)) (by decide) rfl ?_
  intro p e s0 m args below meth c s₁ B hml hv
  obtain ⟨rfl, hw⟩ := hv
  exact wb_of [.ref (kB G + 0)] (Nat.le_of_ble_eq_true rfl) hw.1 rfl (e_X0_judges (cx_of g B hml rfl hw) hph s Q h)
theorem e_X0_judged {x : CT} {G : GT} (X : Cx x G cX0_judged 1 RX0 (some .int) rm_X0_judged) (hph : kP G = 1) (s : PS) (Q : Int32 → PS → Prop) (h : w_X0_judged G s Q) : WB x G 1 (QfI x G 1 5 Q) 0 0 s 0 [(0, .ref (kB G + 0))] [] := by
  unfold w_X0_judged at h
  refine r_aload_n X 0 dX0_judged_0 rfl rfl ?_
  refine r_ci X (r_okVL (As := []) (rest := []) X (m_X0_isWeighing (xl x) G X.2.2.2.2.1 hph s _ h) (cl_X0_222 X ⟨(Nat.le_of_ble_eq_true rfl), (Nat.le_of_ble_eq_true rfl)⟩) hph 0 ly_0 rfl rfl rfl rfl (Nat.le_of_ble_eq_true rfl) dX0_judged_1 ⟨Nat.le_of_ble_eq_true rfl, Nat.le_of_ble_eq_true rfl⟩) (fun r2 s1 h => ?_)
  obtain ⟨z3, h⟩ := h
  refine r_if_ne X 9 dX0_judged_4 (by decide) (fun c4 => ?_) (fun c4 => ?_)
  · replace h := h.2 c4
    refine r_aload_n X 0 dX0_judged_9 rfl rfl ?_
    refine gr_X0_12 X hph 0 0 1 ly_0 rfl rfl dX0_judged_10 ?_
    refine r_cv X (r_okVL (As := []) (rest := []) X (m_X1_keeps (xl x) G X.2.2.2.2.1 (kB G + 1) s1 _ h) (cl_X0_200 X ⟨(Nat.le_of_ble_eq_true rfl), (Nat.le_of_ble_eq_true rfl)⟩) hph 1 ly_1 rfl rfl rfl rfl (Nat.le_of_ble_eq_true rfl) dX0_judged_13 ⟨Nat.le_of_ble_eq_true rfl, Nat.le_of_ble_eq_true rfl⟩) (fun s5 h => ?_)
    refine r_aload_n X 0 dX0_judged_16 rfl rfl ?_
    refine r_ci X (r_okVL (As := []) (rest := []) X (m_X0_judges (xl x) G X.2.2.2.2.1 hph s5 _ h) (cl_X0_243 X ⟨(Nat.le_of_ble_eq_true rfl), (Nat.le_of_ble_eq_true rfl)⟩) hph 0 ly_0 rfl rfl rfl rfl (Nat.le_of_ble_eq_true rfl) dX0_judged_17 ⟨Nat.le_of_ble_eq_true rfl, Nat.le_of_ble_eq_true rfl⟩) (fun r7 s6 h => ?_)
    exact r_iret X h (Nat.le_of_ble_eq_true rfl) (Nat.le_of_ble_eq_true rfl) dX0_judged_20
  · replace h := h.1 c4
    refine r_iconst (v := (-1)) X dX0_judged_7 rfl ?_
    exact r_iret X h (Nat.le_of_ble_eq_true rfl) (Nat.le_of_ble_eq_true rfl) dX0_judged_8
theorem m_X0_judged (l : Launch) (G : GT) (g : GK G) (hph : kP G = 1) (s : PS) (Q : Int32 → PS → Prop) (h : w_X0_judged G s Q) : Met l yX0_judged (ws_ yX0_judged cX0_judged 1 (some .int)) rm_X0_judged (va_Pc [.ref (kB G + 0)] (Wr G s)) (va_Qi Q (fun u t => Wr G u t) (kF G)) 1 5 (kF G) := by
  refine Met.ofW (cc := cX0_judged) (maxL := 1) (ret := (some .int)) (by decide) rfl ?_
  intro p e s0 m args below meth c s₁ B hml hv
  obtain ⟨rfl, hw⟩ := hv
  exact wb_of [.ref (kB G + 0)] (Nat.le_of_ble_eq_true rfl) hw.1 rfl (e_X0_judged (cx_of g B hml rfl hw) hph s Q h)
theorem e_X11_sort {x : CT} {G : GT} (X : Cx x G cX11_sort 1 RX11 (some .int) rm_X11_sort) (a0 : Nat) (s : PS) (Q : Int32 → PS → Prop) (h : w_X11_sort G a0 s Q) : WB x G 1 (QfI x G 0 0 Q) 0 0 s 0 [(0, .ref a0)] [] := by
  unfold w_X11_sort at h
  refine r_aload_n X 0 dX11_sort_0 rfl rfl ?_
  obtain ⟨g1, h⟩ := h
  refine gf_X11_7 X g1 dX11_sort_1 ?_
  exact r_iret X h (Nat.le_of_ble_eq_true rfl) (Nat.le_of_ble_eq_true rfl) dX11_sort_4
theorem m_X11_sort (l : Launch) (G : GT) (g : GK G) (a0 : Nat) (s : PS) (Q : Int32 → PS → Prop) (h : w_X11_sort G a0 s Q) : Met l yX11_sort (ws_ yX11_sort cX11_sort 1 (some .int)) rm_X11_sort (va_Pc [.ref a0] (Wr G s)) (va_Qi Q (fun u t => Wr G u t) (kF G)) 0 0 (kF G) := by
  refine Met.ofW (cc := cX11_sort) (maxL := 1) (ret := (some .int)) (by decide) rfl ?_
  intro p e s0 m args below meth c s₁ B hml hv
  obtain ⟨rfl, hw⟩ := hv
  exact wb_of [.ref a0] (Nat.le_of_ble_eq_true rfl) hw.1 rfl (e_X11_sort (cx_of g B hml rfl hw) a0 s Q h)
theorem e_X11_a {x : CT} {G : GT} (X : Cx x G cX11_a 1 RX11 (some .int) rm_X11_a) (a0 : Nat) (s : PS) (Q : Int32 → PS → Prop) (h : w_X11_a G a0 s Q) : WB x G 1 (QfI x G 0 0 Q) 0 0 s 0 [(0, .ref a0)] [] := by
  unfold w_X11_a at h
  refine r_aload_n X 0 dX11_a_0 rfl rfl ?_
  obtain ⟨g1, h⟩ := h
  refine gf_X11_13 X g1 dX11_a_1 ?_
  exact r_iret X h (Nat.le_of_ble_eq_true rfl) (Nat.le_of_ble_eq_true rfl) dX11_a_4
theorem m_X11_a (l : Launch) (G : GT) (g : GK G) (a0 : Nat) (s : PS) (Q : Int32 → PS → Prop) (h : w_X11_a G a0 s Q) : Met l yX11_a (ws_ yX11_a cX11_a 1 (some .int)) rm_X11_a (va_Pc [.ref a0] (Wr G s)) (va_Qi Q (fun u t => Wr G u t) (kF G)) 0 0 (kF G) := by
  refine Met.ofW (cc := cX11_a) (maxL := 1) (ret := (some .int)) (by decide) rfl ?_
  intro p e s0 m args below meth c s₁ B hml hv
  obtain ⟨rfl, hw⟩ := hv
  exact wb_of [.ref a0] (Nat.le_of_ble_eq_true rfl) hw.1 rfl (e_X11_a (cx_of g B hml rfl hw) a0 s Q h)
theorem e_X11_b {x : CT} {G : GT} (X : Cx x G cX11_b 1 RX11 (some .int) rm_X11_b) (a0 : Nat) (s : PS) (Q : Int32 → PS → Prop) (h : w_X11_b G a0 s Q) : WB x G 1 (QfI x G 0 0 Q) 0 0 s 0 [(0, .ref a0)] [] := by
  unfold w_X11_b at h
  refine r_aload_n X 0 dX11_b_0 rfl rfl ?_
  obtain ⟨g1, h⟩ := h
  refine gf_X11_16 X g1 dX11_b_1 ?_
  exact r_iret X h (Nat.le_of_ble_eq_true rfl) (Nat.le_of_ble_eq_true rfl) dX11_b_4
theorem m_X11_b (l : Launch) (G : GT) (g : GK G) (a0 : Nat) (s : PS) (Q : Int32 → PS → Prop) (h : w_X11_b G a0 s Q) : Met l yX11_b (ws_ yX11_b cX11_b 1 (some .int)) rm_X11_b (va_Pc [.ref a0] (Wr G s)) (va_Qi Q (fun u t => Wr G u t) (kF G)) 0 0 (kF G) := by
  refine Met.ofW (cc := cX11_b) (maxL := 1) (ret := (some .int)) (by decide) rfl ?_
  intro p e s0 m args below meth c s₁ B hml hv
  obtain ⟨rfl, hw⟩ := hv
  exact wb_of [.ref a0] (Nat.le_of_ble_eq_true rfl) hw.1 rfl (e_X11_b (cx_of g B hml rfl hw) a0 s Q h)
theorem e_X11_c {x : CT} {G : GT} (X : Cx x G cX11_c 1 RX11 (some .int) rm_X11_c) (a0 : Nat) (s : PS) (Q : Int32 → PS → Prop) (h : w_X11_c G a0 s Q) : WB x G 1 (QfI x G 0 0 Q) 0 0 s 0 [(0, .ref a0)] [] := by
  unfold w_X11_c at h
  refine r_aload_n X 0 dX11_c_0 rfl rfl ?_
  obtain ⟨g1, h⟩ := h
  refine gf_X11_19 X g1 dX11_c_1 ?_
  exact r_iret X h (Nat.le_of_ble_eq_true rfl) (Nat.le_of_ble_eq_true rfl) dX11_c_4
theorem m_X11_c (l : Launch) (G : GT) (g : GK G) (a0 : Nat) (s : PS) (Q : Int32 → PS → Prop) (h : w_X11_c G a0 s Q) : Met l yX11_c (ws_ yX11_c cX11_c 1 (some .int)) rm_X11_c (va_Pc [.ref a0] (Wr G s)) (va_Qi Q (fun u t => Wr G u t) (kF G)) 0 0 (kF G) := by
  refine Met.ofW (cc := cX11_c) (maxL := 1) (ret := (some .int)) (by decide) rfl ?_
  intro p e s0 m args below meth c s₁ B hml hv
  obtain ⟨rfl, hw⟩ := hv
  exact wb_of [.ref a0] (Nat.le_of_ble_eq_true rfl) hw.1 rfl (e_X11_c (cx_of g B hml rfl hw) a0 s Q h)
theorem e_X11_marks {x : CT} {G : GT} (X : Cx x G cX11_marks 1 RX11 (some .int) rm_X11_marks) (a0 : Nat) (s : PS) (Q : Int32 → PS → Prop) (h : w_X11_marks G a0 s Q) : WB x G 1 (QfI x G 0 0 Q) 0 0 s 0 [(0, .ref a0)] [] := by
  unfold w_X11_marks at h
  refine r_aload_n X 0 dX11_marks_0 rfl rfl ?_
  obtain ⟨g1, h⟩ := h
  refine gf_X11_22 X g1 dX11_marks_1 ?_
  exact r_iret X h (Nat.le_of_ble_eq_true rfl) (Nat.le_of_ble_eq_true rfl) dX11_marks_4
theorem m_X11_marks (l : Launch) (G : GT) (g : GK G) (a0 : Nat) (s : PS) (Q : Int32 → PS → Prop) (h : w_X11_marks G a0 s Q) : Met l yX11_marks (ws_ yX11_marks cX11_marks 1 (some .int)) rm_X11_marks (va_Pc [.ref a0] (Wr G s)) (va_Qi Q (fun u t => Wr G u t) (kF G)) 0 0 (kF G) := by
  refine Met.ofW (cc := cX11_marks) (maxL := 1) (ret := (some .int)) (by decide) rfl ?_
  intro p e s0 m args below meth c s₁ B hml hv
  obtain ⟨rfl, hw⟩ := hv
  exact wb_of [.ref a0] (Nat.le_of_ble_eq_true rfl) hw.1 rfl (e_X11_marks (cx_of g B hml rfl hw) a0 s Q h)
theorem e_X0_does {x : CT} {G : GT} (X : Cx x G cX0_does 2 RX0 (some .boolean) rm_X0_does) (hph : kP G = 1) (p1 : Nat) (s : PS) (Q : Int32 → PS → Prop) (h : w_X0_does G p1 s Q) : WB x G 2 (QfI x G 1 6 (fun r u => (r = 0 ∨ r = 1) ∧ Q r u)) 0 0 s 0 [(0, .ref (kB G + 0)), (1, .ref p1)] [] := by
  unfold w_X0_does at h
  refine r_aload_n X 1 dX0_does_0 rfl rfl ?_
  obtain ⟨g1, h⟩ := h
  refine r_ci X (r_okV (As := []) (rest := []) X (m_X11_sort (xl x) G X.2.2.2.2.1 p1 s _ h) (cl_X0_246 X ⟨(Nat.le_of_ble_eq_true rfl), (Nat.le_of_ble_eq_true rfl)⟩) 11 g1 rfl rfl rfl rfl (Nat.le_of_ble_eq_true rfl) dX0_does_1 ⟨Nat.le_of_ble_eq_true rfl, Nat.le_of_ble_eq_true rfl⟩) (fun r3 s2 h => ?_)
  by_cases c4 : r3 = 204
  · replace h := h.1 c4
    refine r_tin X 52 dX0_does_4 204 c4 (by decide) (by decide) rfl (by decide) ?_
    refine r_aload_n X 0 dX0_does_52 rfl rfl ?_
    refine r_aload_n X 1 dX0_does_53 rfl rfl ?_
    obtain ⟨g5, h⟩ := h
    refine r_ci X (r_okV (As := []) (rest := [.ref (kB G + 0)]) X (m_X11_a (xl x) G X.2.2.2.2.1 p1 s2 _ h) (cl_X0_251 X ⟨(Nat.le_of_ble_eq_true rfl), (Nat.le_of_ble_eq_true rfl)⟩) 11 g5 rfl rfl rfl rfl (Nat.le_of_ble_eq_true rfl) dX0_does_54 ⟨Nat.le_of_ble_eq_true rfl, Nat.le_of_ble_eq_true rfl⟩) (fun r7 s6 h => ?_)
    refine r_ci X (r_okVL (As := [.int r7]) (rest := []) X (m_X0_heart (xl x) G X.2.2.2.2.1 hph r7 s6 _ h) (cl_X0_254 X ⟨(Nat.le_of_ble_eq_true rfl), (Nat.le_of_ble_eq_true rfl)⟩) hph 0 ly_0 rfl rfl rfl rfl (Nat.le_of_ble_eq_true rfl) dX0_does_57 ⟨Nat.le_of_ble_eq_true rfl, Nat.le_of_ble_eq_true rfl⟩) (fun r9 s8 h => ?_)
    refine r_iconst (v := (-1)) X dX0_does_60 rfl ?_
    have hJ : WB x G 2 (QfI x G 1 6 (fun r u => (r = 0 ∨ r = 1) ∧ Q r u)) 0 0 s8 69 [(0, .ref (kB G + 0)), (1, .ref p1)] [.int (if r9 = (-1) then 0 else 1 : Int32)] := by
      exact r_zret X (by (repeat' split) <;> first | exact Or.inl rfl | exact Or.inr rfl) h (Nat.le_of_ble_eq_true rfl) (Nat.le_of_ble_eq_true rfl) dX0_does_69
    refine r_ic_eq X 68 dX0_does_61 (by decide) (fun c10 => ?_) (fun c10 => ?_)
    · rw [if_pos c10] at hJ
      refine r_iconst (v := 0) X dX0_does_68 rfl ?_
      exact hJ
    · rw [if_neg c10] at hJ
      refine r_iconst (v := 1) X dX0_does_64 rfl ?_
      refine r_goto X 69 dX0_does_65 (by decide) ?_
      exact hJ
  · replace h := h.2 c4
    by_cases c11 : r3 = 205
    · replace h := h.1 c11
      refine r_tin X 70 dX0_does_4 205 c11 (by decide) (by decide) rfl (by decide) ?_
      refine r_aload_n X 0 dX0_does_70 rfl rfl ?_
      refine r_aload_n X 1 dX0_does_71 rfl rfl ?_
      obtain ⟨g12, h⟩ := h
      refine r_ci X (r_okV (As := []) (rest := [.ref (kB G + 0)]) X (m_X11_a (xl x) G X.2.2.2.2.1 p1 s2 _ h) (cl_X0_251 X ⟨(Nat.le_of_ble_eq_true rfl), (Nat.le_of_ble_eq_true rfl)⟩) 11 g12 rfl rfl rfl rfl (Nat.le_of_ble_eq_true rfl) dX0_does_72 ⟨Nat.le_of_ble_eq_true rfl, Nat.le_of_ble_eq_true rfl⟩) (fun r14 s13 h => ?_)
      refine r_aload_n X 1 dX0_does_75 rfl rfl ?_
      obtain ⟨g15, h⟩ := h
      refine r_ci X (r_okV (As := []) (rest := [.int r14, .ref (kB G + 0)]) X (m_X11_b (xl x) G X.2.2.2.2.1 p1 s13 _ h) (cl_X0_257 X ⟨(Nat.le_of_ble_eq_true rfl), (Nat.le_of_ble_eq_true rfl)⟩) 11 g15 rfl rfl rfl rfl (Nat.le_of_ble_eq_true rfl) dX0_does_76 ⟨Nat.le_of_ble_eq_true rfl, Nat.le_of_ble_eq_true rfl⟩) (fun r17 s16 h => ?_)
      refine r_aload_n X 1 dX0_does_79 rfl rfl ?_
      obtain ⟨g18, h⟩ := h
      refine r_ci X (r_okV (As := []) (rest := [.int r17, .int r14, .ref (kB G + 0)]) X (m_X11_c (xl x) G X.2.2.2.2.1 p1 s16 _ h) (cl_X0_260 X ⟨(Nat.le_of_ble_eq_true rfl), (Nat.le_of_ble_eq_true rfl)⟩) 11 g18 rfl rfl rfl rfl (Nat.le_of_ble_eq_true rfl) dX0_does_80 ⟨Nat.le_of_ble_eq_true rfl, Nat.le_of_ble_eq_true rfl⟩) (fun r20 s19 h => ?_)
      refine r_aload_n X 1 dX0_does_83 rfl rfl ?_
      obtain ⟨g21, h⟩ := h
      refine r_ci X (r_okV (As := []) (rest := [.int r20, .int r17, .int r14, .ref (kB G + 0)]) X (m_X11_marks (xl x) G X.2.2.2.2.1 p1 s19 _ h) (cl_X0_263 X ⟨(Nat.le_of_ble_eq_true rfl), (Nat.le_of_ble_eq_true rfl)⟩) 11 g21 rfl rfl rfl rfl (Nat.le_of_ble_eq_true rfl) dX0_does_84 ⟨Nat.le_of_ble_eq_true rfl, Nat.le_of_ble_eq_true rfl⟩) (fun r23 s22 h => ?_)
      refine r_iconst (v := (-1)) X dX0_does_87 rfl ?_
      refine r_ci X (r_okVL (As := [.int r14, .int r17, .int r20, .int r23, .int (-1)]) (rest := []) X (m_X0_deed (xl x) G X.2.2.2.2.1 hph r14 r17 r20 r23 (-1) s22 _ h) (cl_X0_266 X ⟨(Nat.le_of_ble_eq_true rfl), (Nat.le_of_ble_eq_true rfl)⟩) hph 0 ly_0 rfl rfl rfl rfl (Nat.le_of_ble_eq_true rfl) dX0_does_88 ⟨Nat.le_of_ble_eq_true rfl, Nat.le_of_ble_eq_true rfl⟩) (fun r25 s24 h => ?_)
      refine r_iconst (v := (-1)) X dX0_does_91 rfl ?_
      have hJ : WB x G 2 (QfI x G 1 6 (fun r u => (r = 0 ∨ r = 1) ∧ Q r u)) 1 6 s24 100 [(0, .ref (kB G + 0)), (1, .ref p1)] [.int (if r25 = (-1) then 0 else 1 : Int32)] := by
        exact r_zret X (by (repeat' split) <;> first | exact Or.inl rfl | exact Or.inr rfl) h (Nat.le_of_ble_eq_true rfl) (Nat.le_of_ble_eq_true rfl) dX0_does_100
      refine r_ic_eq X 99 dX0_does_92 (by decide) (fun c26 => ?_) (fun c26 => ?_)
      · rw [if_pos c26] at hJ
        refine r_iconst (v := 0) X dX0_does_99 rfl ?_
        exact hJ
      · rw [if_neg c26] at hJ
        refine r_iconst (v := 1) X dX0_does_95 rfl ?_
        refine r_goto X 100 dX0_does_96 (by decide) ?_
        exact hJ
    · replace h := h.2 c11
      by_cases c27 : r3 = 206
      · replace h := h.1 c27
        refine r_tin X 101 dX0_does_4 206 c27 (by decide) (by decide) rfl (by decide) ?_
        refine r_aload_n X 0 dX0_does_101 rfl rfl ?_
        refine r_aload_n X 1 dX0_does_102 rfl rfl ?_
        obtain ⟨g28, h⟩ := h
        refine r_ci X (r_okV (As := []) (rest := [.ref (kB G + 0)]) X (m_X11_a (xl x) G X.2.2.2.2.1 p1 s2 _ h) (cl_X0_251 X ⟨(Nat.le_of_ble_eq_true rfl), (Nat.le_of_ble_eq_true rfl)⟩) 11 g28 rfl rfl rfl rfl (Nat.le_of_ble_eq_true rfl) dX0_does_103 ⟨Nat.le_of_ble_eq_true rfl, Nat.le_of_ble_eq_true rfl⟩) (fun r30 s29 h => ?_)
        refine r_ci X (r_okVL (As := [.int r30]) (rest := []) X (m_X0_judge (xl x) G X.2.2.2.2.1 hph r30 s29 _ h) (cl_X0_269 X ⟨(Nat.le_of_ble_eq_true rfl), (Nat.le_of_ble_eq_true rfl)⟩) hph 0 ly_0 rfl rfl rfl rfl (Nat.le_of_ble_eq_true rfl) dX0_does_106 ⟨Nat.le_of_ble_eq_true rfl, Nat.le_of_ble_eq_true rfl⟩) (fun r32 s31 h => ?_)
        refine r_iconst (v := (-1)) X dX0_does_109 rfl ?_
        have hJ : WB x G 2 (QfI x G 1 6 (fun r u => (r = 0 ∨ r = 1) ∧ Q r u)) 0 0 s31 118 [(0, .ref (kB G + 0)), (1, .ref p1)] [.int (if r32 = (-1) then 0 else 1 : Int32)] := by
          exact r_zret X (by (repeat' split) <;> first | exact Or.inl rfl | exact Or.inr rfl) h (Nat.le_of_ble_eq_true rfl) (Nat.le_of_ble_eq_true rfl) dX0_does_118
        refine r_ic_eq X 117 dX0_does_110 (by decide) (fun c33 => ?_) (fun c33 => ?_)
        · rw [if_pos c33] at hJ
          refine r_iconst (v := 0) X dX0_does_117 rfl ?_
          exact hJ
        · rw [if_neg c33] at hJ
          refine r_iconst (v := 1) X dX0_does_113 rfl ?_
          refine r_goto X 118 dX0_does_114 (by decide) ?_
          exact hJ
      · replace h := h.2 c27
        by_cases c34 : r3 = 207
        · replace h := h.1 c34
          refine r_tin X 119 dX0_does_4 207 c34 (by decide) (by decide) rfl (by decide) ?_
          refine r_aload_n X 0 dX0_does_119 rfl rfl ?_
          refine r_aload_n X 1 dX0_does_120 rfl rfl ?_
          obtain ⟨g35, h⟩ := h
          refine r_ci X (r_okV (As := []) (rest := [.ref (kB G + 0)]) X (m_X11_a (xl x) G X.2.2.2.2.1 p1 s2 _ h) (cl_X0_251 X ⟨(Nat.le_of_ble_eq_true rfl), (Nat.le_of_ble_eq_true rfl)⟩) 11 g35 rfl rfl rfl rfl (Nat.le_of_ble_eq_true rfl) dX0_does_121 ⟨Nat.le_of_ble_eq_true rfl, Nat.le_of_ble_eq_true rfl⟩) (fun r37 s36 h => ?_)
          refine r_aload_n X 1 dX0_does_124 rfl rfl ?_
          obtain ⟨g38, h⟩ := h
          refine r_ci X (r_okV (As := []) (rest := [.int r37, .ref (kB G + 0)]) X (m_X11_b (xl x) G X.2.2.2.2.1 p1 s36 _ h) (cl_X0_257 X ⟨(Nat.le_of_ble_eq_true rfl), (Nat.le_of_ble_eq_true rfl)⟩) 11 g38 rfl rfl rfl rfl (Nat.le_of_ble_eq_true rfl) dX0_does_125 ⟨Nat.le_of_ble_eq_true rfl, Nat.le_of_ble_eq_true rfl⟩) (fun r40 s39 h => ?_)
          refine r_aload_n X 1 dX0_does_128 rfl rfl ?_
          obtain ⟨g41, h⟩ := h
          refine r_ci X (r_okV (As := []) (rest := [.int r40, .int r37, .ref (kB G + 0)]) X (m_X11_c (xl x) G X.2.2.2.2.1 p1 s39 _ h) (cl_X0_260 X ⟨(Nat.le_of_ble_eq_true rfl), (Nat.le_of_ble_eq_true rfl)⟩) 11 g41 rfl rfl rfl rfl (Nat.le_of_ble_eq_true rfl) dX0_does_129 ⟨Nat.le_of_ble_eq_true rfl, Nat.le_of_ble_eq_true rfl⟩) (fun r43 s42 h => ?_)
          refine r_ci X (r_okVL (As := [.int r37, .int r40, .int r43]) (rest := []) X (m_X0_lend (xl x) G X.2.2.2.2.1 hph r37 r40 r43 s42 _ h) (cl_X0_271 X ⟨(Nat.le_of_ble_eq_true rfl), (Nat.le_of_ble_eq_true rfl)⟩) hph 0 ly_0 rfl rfl rfl rfl (Nat.le_of_ble_eq_true rfl) dX0_does_132 ⟨Nat.le_of_ble_eq_true rfl, Nat.le_of_ble_eq_true rfl⟩) (fun r45 s44 h => ?_)
          obtain ⟨z46, h⟩ := h
          exact r_zret X z46 h (Nat.le_of_ble_eq_true rfl) (Nat.le_of_ble_eq_true rfl) dX0_does_135
        · replace h := h.2 c34
          by_cases c47 : r3 = 208
          · replace h := h.1 c47
            refine r_tin X 136 dX0_does_4 208 c47 (by decide) (by decide) rfl (by decide) ?_
            refine r_aload_n X 0 dX0_does_136 rfl rfl ?_
            refine r_aload_n X 1 dX0_does_137 rfl rfl ?_
            obtain ⟨g48, h⟩ := h
            refine r_ci X (r_okV (As := []) (rest := [.ref (kB G + 0)]) X (m_X11_a (xl x) G X.2.2.2.2.1 p1 s2 _ h) (cl_X0_251 X ⟨(Nat.le_of_ble_eq_true rfl), (Nat.le_of_ble_eq_true rfl)⟩) 11 g48 rfl rfl rfl rfl (Nat.le_of_ble_eq_true rfl) dX0_does_138 ⟨Nat.le_of_ble_eq_true rfl, Nat.le_of_ble_eq_true rfl⟩) (fun r50 s49 h => ?_)
            refine r_ci X (r_okVL (As := [.int r50]) (rest := []) X (m_X0_weigh (xl x) G X.2.2.2.2.1 hph r50 s49 _ h) (cl_X0_274 X ⟨(Nat.le_of_ble_eq_true rfl), (Nat.le_of_ble_eq_true rfl)⟩) hph 0 ly_0 rfl rfl rfl rfl (Nat.le_of_ble_eq_true rfl) dX0_does_141 ⟨Nat.le_of_ble_eq_true rfl, Nat.le_of_ble_eq_true rfl⟩) (fun r52 s51 h => ?_)
            refine r_ldc X q842 dX0_does_144 ?_
            have hJ : WB x G 2 (QfI x G 1 6 (fun r u => (r = 0 ∨ r = 1) ∧ Q r u)) 1 6 s51 154 [(0, .ref (kB G + 0)), (1, .ref p1)] [.int (if r52 = (-100000) then 0 else 1 : Int32)] := by
              exact r_zret X (by (repeat' split) <;> first | exact Or.inl rfl | exact Or.inr rfl) h (Nat.le_of_ble_eq_true rfl) (Nat.le_of_ble_eq_true rfl) dX0_does_154
            refine r_ic_eq X 153 dX0_does_146 (by decide) (fun c53 => ?_) (fun c53 => ?_)
            · rw [if_pos c53] at hJ
              refine r_iconst (v := 0) X dX0_does_153 rfl ?_
              exact hJ
            · rw [if_neg c53] at hJ
              refine r_iconst (v := 1) X dX0_does_149 rfl ?_
              refine r_goto X 154 dX0_does_150 (by decide) ?_
              exact hJ
          · replace h := h.2 c47
            by_cases c54 : r3 = 209
            · replace h := h.1 c54
              refine r_tin X 155 dX0_does_4 209 c54 (by decide) (by decide) rfl (by decide) ?_
              refine r_aload_n X 0 dX0_does_155 rfl rfl ?_
              refine r_aload_n X 1 dX0_does_156 rfl rfl ?_
              obtain ⟨g55, h⟩ := h
              refine r_ci X (r_okV (As := []) (rest := [.ref (kB G + 0)]) X (m_X11_a (xl x) G X.2.2.2.2.1 p1 s2 _ h) (cl_X0_251 X ⟨(Nat.le_of_ble_eq_true rfl), (Nat.le_of_ble_eq_true rfl)⟩) 11 g55 rfl rfl rfl rfl (Nat.le_of_ble_eq_true rfl) dX0_does_157 ⟨Nat.le_of_ble_eq_true rfl, Nat.le_of_ble_eq_true rfl⟩) (fun r57 s56 h => ?_)
              refine r_ci X (r_okVL (As := [.int r57]) (rest := []) X (m_X0_lay (xl x) G X.2.2.2.2.1 hph r57 s56 _ h) (cl_X0_277 X ⟨(Nat.le_of_ble_eq_true rfl), (Nat.le_of_ble_eq_true rfl)⟩) hph 0 ly_0 rfl rfl rfl rfl (Nat.le_of_ble_eq_true rfl) dX0_does_160 ⟨Nat.le_of_ble_eq_true rfl, Nat.le_of_ble_eq_true rfl⟩) (fun r59 s58 h => ?_)
              refine r_ldc X q842 dX0_does_163 ?_
              have hJ : WB x G 2 (QfI x G 1 6 (fun r u => (r = 0 ∨ r = 1) ∧ Q r u)) 1 6 s58 173 [(0, .ref (kB G + 0)), (1, .ref p1)] [.int (if r59 = (-100000) then 0 else 1 : Int32)] := by
                exact r_zret X (by (repeat' split) <;> first | exact Or.inl rfl | exact Or.inr rfl) h (Nat.le_of_ble_eq_true rfl) (Nat.le_of_ble_eq_true rfl) dX0_does_173
              refine r_ic_eq X 172 dX0_does_165 (by decide) (fun c60 => ?_) (fun c60 => ?_)
              · rw [if_pos c60] at hJ
                refine r_iconst (v := 0) X dX0_does_172 rfl ?_
                exact hJ
              · rw [if_neg c60] at hJ
                refine r_iconst (v := 1) X dX0_does_168 rfl ?_
                refine r_goto X 173 dX0_does_169 (by decide) ?_
                exact hJ
            · replace h := h.2 c54
              by_cases c61 : r3 = 210
              · replace h := h.1 c61
                refine r_tin X 174 dX0_does_4 210 c61 (by decide) (by decide) rfl (by decide) ?_
                refine r_aload_n X 0 dX0_does_174 rfl rfl ?_
                refine r_aload_n X 1 dX0_does_175 rfl rfl ?_
                obtain ⟨g62, h⟩ := h
                refine r_ci X (r_okV (As := []) (rest := [.ref (kB G + 0)]) X (m_X11_a (xl x) G X.2.2.2.2.1 p1 s2 _ h) (cl_X0_251 X ⟨(Nat.le_of_ble_eq_true rfl), (Nat.le_of_ble_eq_true rfl)⟩) 11 g62 rfl rfl rfl rfl (Nat.le_of_ble_eq_true rfl) dX0_does_176 ⟨Nat.le_of_ble_eq_true rfl, Nat.le_of_ble_eq_true rfl⟩) (fun r64 s63 h => ?_)
                refine r_aload_n X 1 dX0_does_179 rfl rfl ?_
                obtain ⟨g65, h⟩ := h
                refine r_ci X (r_okV (As := []) (rest := [.int r64, .ref (kB G + 0)]) X (m_X11_sort (xl x) G X.2.2.2.2.1 p1 s63 _ h) (cl_X0_246 X ⟨(Nat.le_of_ble_eq_true rfl), (Nat.le_of_ble_eq_true rfl)⟩) 11 g65 rfl rfl rfl rfl (Nat.le_of_ble_eq_true rfl) dX0_does_180 ⟨Nat.le_of_ble_eq_true rfl, Nat.le_of_ble_eq_true rfl⟩) (fun r67 s66 h => ?_)
                refine r_sipush (v := 210) X dX0_does_183 rfl ?_
                have hJ : WB x G 2 (QfI x G 1 6 (fun r u => (r = 0 ∨ r = 1) ∧ Q r u)) 0 0 s66 194 [(0, .ref (kB G + 0)), (1, .ref p1)] [.int (if r67 = 210 then 1 else 0 : Int32), .int r64, .ref (kB G + 0)] := by
                  refine r_ci X (r_okVL (As := [.int r64, .int (if r67 = 210 then 1 else 0 : Int32)]) (rest := []) X (m_X0_answer (xl x) G X.2.2.2.2.1 hph r64 (if r67 = 210 then 1 else 0 : Int32) s66 _ h) (cl_X0_280 X ⟨(Nat.le_of_ble_eq_true rfl), (Nat.le_of_ble_eq_true rfl)⟩) hph 0 ly_0 rfl rfl rfl rfl (Nat.le_of_ble_eq_true rfl) dX0_does_194 ⟨Nat.le_of_ble_eq_true rfl, Nat.le_of_ble_eq_true rfl⟩) (fun r70 s69 h => ?_)
                  refine r_iconst (v := (-1)) X dX0_does_197 rfl ?_
                  have hJ : WB x G 2 (QfI x G 1 6 (fun r u => (r = 0 ∨ r = 1) ∧ Q r u)) 1 6 s69 206 [(0, .ref (kB G + 0)), (1, .ref p1)] [.int (if r70 = (-1) then 0 else 1 : Int32)] := by
                    exact r_zret X (by (repeat' split) <;> first | exact Or.inl rfl | exact Or.inr rfl) h (Nat.le_of_ble_eq_true rfl) (Nat.le_of_ble_eq_true rfl) dX0_does_206
                  refine r_ic_eq X 205 dX0_does_198 (by decide) (fun c71 => ?_) (fun c71 => ?_)
                  · rw [if_pos c71] at hJ
                    refine r_iconst (v := 0) X dX0_does_205 rfl ?_
                    exact hJ
                  · rw [if_neg c71] at hJ
                    refine r_iconst (v := 1) X dX0_does_201 rfl ?_
                    refine r_goto X 206 dX0_does_202 (by decide) ?_
                    exact hJ
                refine r_ic_ne X 193 dX0_does_186 (by decide) (fun c68 => ?_) (fun c68 => ?_)
                · rw [if_neg c68] at hJ
                  refine r_iconst (v := 0) X dX0_does_193 rfl ?_
                  exact hJ
                · rw [if_pos c68] at hJ
                  refine r_iconst (v := 1) X dX0_does_189 rfl ?_
                  refine r_goto X 194 dX0_does_190 (by decide) ?_
                  exact hJ
              · replace h := h.2 c61
                by_cases c72 : r3 = 211
                · replace h := h.1 c72
                  refine r_tin X 174 dX0_does_4 211 c72 (by decide) (by decide) rfl (by decide) ?_
                  refine r_aload_n X 0 dX0_does_174 rfl rfl ?_
                  refine r_aload_n X 1 dX0_does_175 rfl rfl ?_
                  obtain ⟨g73, h⟩ := h
                  refine r_ci X (r_okV (As := []) (rest := [.ref (kB G + 0)]) X (m_X11_a (xl x) G X.2.2.2.2.1 p1 s2 _ h) (cl_X0_251 X ⟨(Nat.le_of_ble_eq_true rfl), (Nat.le_of_ble_eq_true rfl)⟩) 11 g73 rfl rfl rfl rfl (Nat.le_of_ble_eq_true rfl) dX0_does_176 ⟨Nat.le_of_ble_eq_true rfl, Nat.le_of_ble_eq_true rfl⟩) (fun r75 s74 h => ?_)
                  refine r_aload_n X 1 dX0_does_179 rfl rfl ?_
                  obtain ⟨g76, h⟩ := h
                  refine r_ci X (r_okV (As := []) (rest := [.int r75, .ref (kB G + 0)]) X (m_X11_sort (xl x) G X.2.2.2.2.1 p1 s74 _ h) (cl_X0_246 X ⟨(Nat.le_of_ble_eq_true rfl), (Nat.le_of_ble_eq_true rfl)⟩) 11 g76 rfl rfl rfl rfl (Nat.le_of_ble_eq_true rfl) dX0_does_180 ⟨Nat.le_of_ble_eq_true rfl, Nat.le_of_ble_eq_true rfl⟩) (fun r78 s77 h => ?_)
                  refine r_sipush (v := 210) X dX0_does_183 rfl ?_
                  have hJ : WB x G 2 (QfI x G 1 6 (fun r u => (r = 0 ∨ r = 1) ∧ Q r u)) 0 0 s77 194 [(0, .ref (kB G + 0)), (1, .ref p1)] [.int (if r78 = 210 then 1 else 0 : Int32), .int r75, .ref (kB G + 0)] := by
                    refine r_ci X (r_okVL (As := [.int r75, .int (if r78 = 210 then 1 else 0 : Int32)]) (rest := []) X (m_X0_answer (xl x) G X.2.2.2.2.1 hph r75 (if r78 = 210 then 1 else 0 : Int32) s77 _ h) (cl_X0_280 X ⟨(Nat.le_of_ble_eq_true rfl), (Nat.le_of_ble_eq_true rfl)⟩) hph 0 ly_0 rfl rfl rfl rfl (Nat.le_of_ble_eq_true rfl) dX0_does_194 ⟨Nat.le_of_ble_eq_true rfl, Nat.le_of_ble_eq_true rfl⟩) (fun r81 s80 h => ?_)
                    refine r_iconst (v := (-1)) X dX0_does_197 rfl ?_
                    have hJ : WB x G 2 (QfI x G 1 6 (fun r u => (r = 0 ∨ r = 1) ∧ Q r u)) 1 6 s80 206 [(0, .ref (kB G + 0)), (1, .ref p1)] [.int (if r81 = (-1) then 0 else 1 : Int32)] := by
                      exact r_zret X (by (repeat' split) <;> first | exact Or.inl rfl | exact Or.inr rfl) h (Nat.le_of_ble_eq_true rfl) (Nat.le_of_ble_eq_true rfl) dX0_does_206
                    refine r_ic_eq X 205 dX0_does_198 (by decide) (fun c82 => ?_) (fun c82 => ?_)
                    · rw [if_pos c82] at hJ
                      refine r_iconst (v := 0) X dX0_does_205 rfl ?_
                      exact hJ
                    · rw [if_neg c82] at hJ
                      refine r_iconst (v := 1) X dX0_does_201 rfl ?_
                      refine r_goto X 206 dX0_does_202 (by decide) ?_
                      exact hJ
                  refine r_ic_ne X 193 dX0_does_186 (by decide) (fun c79 => ?_) (fun c79 => ?_)
                  · rw [if_neg c79] at hJ
                    refine r_iconst (v := 0) X dX0_does_193 rfl ?_
                    exact hJ
                  · rw [if_pos c79] at hJ
                    refine r_iconst (v := 1) X dX0_does_189 rfl ?_
                    refine r_goto X 194 dX0_does_190 (by decide) ?_
                    exact hJ
                · replace h := h.2 c72
                  have o0 := lv_neT c4 (show Int32.toInt 204 = 204 from rfl)
                  have o1 := lv_neT c11 (show Int32.toInt 205 = 205 from rfl)
                  have o2 := lv_neT c27 (show Int32.toInt 206 = 206 from rfl)
                  have o3 := lv_neT c34 (show Int32.toInt 207 = 207 from rfl)
                  have o4 := lv_neT c47 (show Int32.toInt 208 = 208 from rfl)
                  have o5 := lv_neT c54 (show Int32.toInt 209 = 209 from rfl)
                  have o6 := lv_neT c61 (show Int32.toInt 210 = 210 from rfl)
                  have o7 := lv_neT c72 (show Int32.toInt 211 = 211 from rfl)
                  refine r_tout X 207 dX0_does_4 (by omega) (by decide) ?_
                  refine r_aload_n X 0 dX0_does_207 rfl rfl ?_
                  refine r_ci X (r_okVL (As := []) (rest := []) X (m_X0_judged (xl x) G X.2.2.2.2.1 hph s2 _ h) (cl_X0_284 X ⟨(Nat.le_of_ble_eq_true rfl), (Nat.le_of_ble_eq_true rfl)⟩) hph 0 ly_0 rfl rfl rfl rfl (Nat.le_of_ble_eq_true rfl) dX0_does_208 ⟨Nat.le_of_ble_eq_true rfl, Nat.le_of_ble_eq_true rfl⟩) (fun r84 s83 h => ?_)
                  refine r_iconst (v := (-1)) X dX0_does_211 rfl ?_
                  have hJ : WB x G 2 (QfI x G 1 6 (fun r u => (r = 0 ∨ r = 1) ∧ Q r u)) 1 5 s83 220 [(0, .ref (kB G + 0)), (1, .ref p1)] [.int (if r84 = (-1) then 0 else 1 : Int32)] := by
                    exact r_zret X (by (repeat' split) <;> first | exact Or.inl rfl | exact Or.inr rfl) h (Nat.le_of_ble_eq_true rfl) (Nat.le_of_ble_eq_true rfl) dX0_does_220
                  refine r_ic_eq X 219 dX0_does_212 (by decide) (fun c85 => ?_) (fun c85 => ?_)
                  · rw [if_pos c85] at hJ
                    refine r_iconst (v := 0) X dX0_does_219 rfl ?_
                    exact hJ
                  · rw [if_neg c85] at hJ
                    refine r_iconst (v := 1) X dX0_does_215 rfl ?_
                    refine r_goto X 220 dX0_does_216 (by decide) ?_
                    exact hJ
theorem m_X0_does (l : Launch) (G : GT) (g : GK G) (hph : kP G = 1) (p1 : Nat) (s : PS) (Q : Int32 → PS → Prop) (h : w_X0_does G p1 s Q) : Met l yX0_does (ws_ yX0_does cX0_does 2 (some .boolean)) rm_X0_does (va_Pc [.ref (kB G + 0), .ref p1] (Wr G s)) (va_Qi (fun r u => (r = 0 ∨ r = 1) ∧ Q r u) (fun u t => Wr G u t) (kF G)) 1 6 (kF G) := by
  refine Met.ofW (cc := cX0_does) (maxL := 2) (ret := (some .boolean)) (by decide) rfl ?_
  intro p e s0 m args below meth c s₁ B hml hv
  obtain ⟨rfl, hw⟩ := hv
  exact wb_of [.ref (kB G + 0), .ref p1] (Nat.le_of_ble_eq_true rfl) hw.1 rfl (e_X0_does (cx_of g B hml rfl hw) hph p1 s Q h)
theorem e_X11_number {x : CT} {G : GT} (X : Cx x G cX11_number 1 RX11 (some .int) rm_X11_number) (a0 : Nat) (s : PS) (Q : Int32 → PS → Prop) (h : w_X11_number G a0 s Q) : WB x G 1 (QfI x G 0 0 Q) 0 0 s 0 [(0, .ref a0)] [] := by
  unfold w_X11_number at h
  refine r_aload_n X 0 dX11_number_0 rfl rfl ?_
  obtain ⟨g1, h⟩ := h
  refine gf_X11_25 X g1 dX11_number_1 ?_
  exact r_iret X h (Nat.le_of_ble_eq_true rfl) (Nat.le_of_ble_eq_true rfl) dX11_number_4
theorem m_X11_number (l : Launch) (G : GT) (g : GK G) (a0 : Nat) (s : PS) (Q : Int32 → PS → Prop) (h : w_X11_number G a0 s Q) : Met l yX11_number (ws_ yX11_number cX11_number 1 (some .int)) rm_X11_number (va_Pc [.ref a0] (Wr G s)) (va_Qi Q (fun u t => Wr G u t) (kF G)) 0 0 (kF G) := by
  refine Met.ofW (cc := cX11_number) (maxL := 1) (ret := (some .int)) (by decide) rfl ?_
  intro p e s0 m args below meth c s₁ B hml hv
  obtain ⟨rfl, hw⟩ := hv
  exact wb_of [.ref a0] (Nat.le_of_ble_eq_true rfl) hw.1 rfl (e_X11_number (cx_of g B hml rfl hw) a0 s Q h)
theorem tl_X0_played_26 {x : CT} {G : GT} {MC MS : Nat} (X : Cx x G cX0_played 4 RX0 (some .int) (rm_X0_played MC MS)) (hph : kP G = 1) (Q : Int32 → PS → Prop) (v2 : Nat) : ∀ (n : Nat) (v3 : Int32) (ce : Nat) (sl : Nat) (s : PS) (h : l_X0_played_26 G MC MS Q v2 n v3 ce sl s), WB x G 4 (QfI x G MC MS Q) ce sl s 26 [(0, .ref (kB G + 0)), (2, .ref v2), (3, .int v3)] [] := by
  intro n
  induction n with
  | zero =>
    intro v3 ce sl s h
    exact False.elim h
  | succ n ih =>
    intro v3 ce sl s h
    unfold l_X0_played_26 at h
    refine r_iload_n X 2 dX0_played_26 rfl rfl ?_
    refine r_aload_n X 1 dX0_played_27 rfl rfl ?_
    obtain ⟨g1, h⟩ := h
    obtain ⟨g2, h⟩ := h
    refine r_ci X (r_okV (As := []) (rest := [.int v3]) X (m_J2_size (xl x) G X.2.2.2.2.1 v2 s _ h) (cl_X0_291 X ⟨(Nat.le_of_ble_eq_true rfl), (Nat.le_of_ble_eq_true rfl)⟩) 13 g2 rfl rfl rfl rfl (Nat.le_of_ble_eq_true rfl) dX0_played_28 g1) (fun r4 s3 h => ?_)
    refine r_ic_ge X 67 dX0_played_31 (by decide) (fun c5 => ?_) (fun c5 => ?_)
    · replace h := h.1 c5
      refine r_iconst (v := (-1)) X dX0_played_67 rfl ?_
      obtain ⟨g6, h⟩ := h
      exact r_iret X h g6.1 g6.2 dX0_played_68
    · replace h := h.2 c5
      refine r_aload_n X 0 dX0_played_34 rfl rfl ?_
      refine r_aload_n X 1 dX0_played_35 rfl rfl ?_
      refine r_iload_n X 2 dX0_played_36 rfl rfl ?_
      obtain ⟨g7, h⟩ := h
      obtain ⟨g8, h⟩ := h
      refine r_ca X (r_okV (As := [.int v3]) (rest := [.ref (kB G + 0)]) X (m_J2_get (xl x) G X.2.2.2.2.1 v2 v3 s3 _ h) (cl_X0_296 X ⟨(Nat.le_of_ble_eq_true rfl), (Nat.le_of_ble_eq_true rfl)⟩) 13 g8 rfl rfl rfl rfl (Nat.le_of_ble_eq_true rfl) dX0_played_37 g7) (fun r10 s9 h => ?_)
      obtain ⟨g11, h⟩ := h
      refine r_castS X 11 q1079 rfl rfl (fun H r o => obj_at X r (ci := 11) g11 rfl) dX0_played_40 ?_
      obtain ⟨g12, h⟩ := h
      refine r_ci X (r_okVL (As := [.ref r10]) (rest := []) X (m_X0_does (xl x) G X.2.2.2.2.1 hph r10 s9 _ h) (cl_X0_300 X ⟨(Nat.le_of_ble_eq_true rfl), (Nat.le_of_ble_eq_true rfl)⟩) hph 0 ly_0 rfl rfl rfl rfl (Nat.le_of_ble_eq_true rfl) dX0_played_43 g12) (fun r14 s13 h => ?_)
      obtain ⟨z15, h⟩ := h
      refine r_if_ne X 61 dX0_played_46 (by decide) (fun c16 => ?_) (fun c16 => ?_)
      · replace h := h.2 c16
        refine r_iinc (lv' := [(3, .int (v3 + 1)), (0, .ref (kB G + 0)), (2, .ref v2)]) X 2 dX0_played_61 rfl rfl (Nat.le_of_ble_eq_true rfl) rfl ?_
        refine r_goto X 26 dX0_played_64 (by decide) ?_
        refine r_sub [1, 2, 0] rfl ?_
        exact ih (v3 + 1) (((ce + 0) + 0) + 1) (((sl + 0) + 0) + 6) s13 h
      · replace h := h.1 c16
        refine r_aload_n X 1 dX0_played_49 rfl rfl ?_
        refine r_iload_n X 2 dX0_played_50 rfl rfl ?_
        obtain ⟨g17, h⟩ := h
        obtain ⟨g18, h⟩ := h
        refine r_ca X (r_okV (As := [.int v3]) (rest := []) X (m_J2_get (xl x) G X.2.2.2.2.1 v2 v3 s13 _ h) (cl_X0_296 X ⟨(Nat.le_of_ble_eq_true rfl), (Nat.le_of_ble_eq_true rfl)⟩) 13 g18 rfl rfl rfl rfl (Nat.le_of_ble_eq_true rfl) dX0_played_51 g17) (fun r20 s19 h => ?_)
        obtain ⟨g21, h⟩ := h
        refine r_castS X 11 q1079 rfl rfl (fun H r o => obj_at X r (ci := 11) g21 rfl) dX0_played_54 ?_
        obtain ⟨g22, h⟩ := h
        refine r_ci X (r_okV (As := []) (rest := []) X (m_X11_number (xl x) G X.2.2.2.2.1 r20 s19 _ h) (cl_X0_304 X ⟨(Nat.le_of_ble_eq_true rfl), (Nat.le_of_ble_eq_true rfl)⟩) 11 g21 rfl rfl rfl rfl (Nat.le_of_ble_eq_true rfl) dX0_played_57 g22) (fun r24 s23 h => ?_)
        obtain ⟨g25, h⟩ := h
        exact r_iret X h g25.1 g25.2 dX0_played_60
theorem e_X0_played {x : CT} {G : GT} {MC MS : Nat} (X : Cx x G cX0_played 4 RX0 (some .int) (rm_X0_played MC MS)) (hph : kP G = 1) (p1 : Int32) (s : PS) (Q : Int32 → PS → Prop) (h : w_X0_played G MC MS p1 s Q) : WB x G 4 (QfI x G MC MS Q) 0 0 s 0 [(0, .ref (kB G + 0)), (1, .int p1)] [] := by
  unfold w_X0_played at h
  refine r_aload_n X 0 dX0_played_0 rfl rfl ?_
  refine r_iload_n X 1 dX0_played_1 rfl rfl ?_
  obtain ⟨g1, h⟩ := h
  refine r_ci X (r_okVL (As := [.int p1]) (rest := []) X (m_X0_isText (xl x) G X.2.2.2.2.1 hph p1 s _ h) (cl_X0_134 X ⟨(Nat.le_of_ble_eq_true rfl), (Nat.le_of_ble_eq_true rfl)⟩) hph 0 ly_0 rfl rfl rfl rfl (Nat.le_of_ble_eq_true rfl) dX0_played_2 g1) (fun r3 s2 h => ?_)
  obtain ⟨z4, h⟩ := h
  refine r_if_ne X 11 dX0_played_5 (by decide) (fun c5 => ?_) (fun c5 => ?_)
  · replace h := h.2 c5
    refine r_aload_n X 0 dX0_played_11 rfl rfl ?_
    refine gr_X0_12 X hph 0 0 1 ly_0 rfl rfl dX0_played_12 ?_
    refine gr_X0_115 X hph 1 1 78 ly_1 rfl rfl dX0_played_15 ?_
    refine r_iload_n X 1 dX0_played_18 rfl rfl ?_
    obtain ⟨g7, h⟩ := h
    refine r_aaldL X hph 78 5 4 ly_78 (by decide) rfl g7 dX0_played_19 ?_
    obtain ⟨q8, g9, h⟩ := h
    refine r_top (show va_rf (gR s2 (kB G + 78) p1.toNatClampNeg) = Value.ref q8 by rw [g9]; rfl) ?_
    obtain ⟨g10, h⟩ := h
    refine gf_X0_287 X g10 dX0_played_20 ?_
    obtain ⟨q11, g12, h⟩ := h
    refine r_top (show va_rf (gR s2 q8 2) = Value.ref q11 by rw [g12]; rfl) ?_
    refine r_astore_n (lv' := [(2, .ref q11), (0, .ref (kB G + 0)), (1, .int p1)]) X dX0_played_23 rfl (Nat.le_of_ble_eq_true rfl) rfl ?_
    refine r_iconst (v := 0) X dX0_played_24 rfl ?_
    refine r_istore_n (lv' := [(3, .int 0), (2, .ref q11), (0, .ref (kB G + 0)), (1, .int p1)]) X dX0_played_25 rfl (Nat.le_of_ble_eq_true rfl) rfl ?_
    refine r_sub [2, 1, 0] rfl ?_
    obtain ⟨n13, h⟩ := h
    exact tl_X0_played_26 X hph Q q11 n13 0 (0 + 0) (0 + 0) s2 h
  · replace h := h.1 c5
    refine r_bipush (v := (-2)) X dX0_played_8 rfl ?_
    obtain ⟨g6, h⟩ := h
    exact r_iret X h g6.1 g6.2 dX0_played_10
theorem m_X0_played (l : Launch) (G : GT) (g : GK G) (hph : kP G = 1) (MC MS : Nat) (p1 : Int32) (s : PS) (Q : Int32 → PS → Prop) (h : w_X0_played G MC MS p1 s Q) : Met l yX0_played (ws_ yX0_played cX0_played 4 (some .int)) (rm_X0_played MC MS) (va_Pc [.ref (kB G + 0), .int p1] (Wr G s)) (va_Qi Q (fun u t => Wr G u t) (kF G)) MC MS (kF G) := by
  refine Met.ofW (cc := cX0_played) (maxL := 4) (ret := (some .int)) (by decide) rfl ?_
  intro p e s0 m args below meth c s₁ B hml hv
  obtain ⟨rfl, hw⟩ := hv
  exact wb_of [.ref (kB G + 0), .int p1] (Nat.le_of_ble_eq_true rfl) hw.1 rfl (e_X0_played (cx_of g B hml rfl hw) hph p1 s Q h)
theorem e_X0_drawn {x : CT} {G : GT} (X : Cx x G cX0_drawn 2 RX0 (some .int) rm_X0_drawn) (hph : kP G = 1) (s : PS) (Q : Int32 → PS → Prop) (h : w_X0_drawn G s Q) : WB x G 2 (QfI x G 0 0 Q) 0 0 s 0 [(0, .ref (kB G + 0))] [] := by
  unfold w_X0_drawn at h
  refine r_aload_n X 0 dX0_drawn_0 rfl rfl ?_
  refine gr_X0_12 X hph 0 0 1 ly_0 rfl rfl dX0_drawn_1 ?_
  refine gr_X0_203 X hph 1 1 5 ly_1 rfl rfl dX0_drawn_4 ?_
  refine r_bipush (v := 7) X dX0_drawn_7 rfl ?_
  refine r_ialdL X hph 5 195 ly_5 tn_7 il_7_195 dX0_drawn_9 ?_
  refine r_nmI (fun y1 e2 => ?_)
  replace h := h y1 e2
  refine r_istore_n (lv' := [(1, .int y1), (0, .ref (kB G + 0))]) X dX0_drawn_10 rfl (Nat.le_of_ble_eq_true rfl) rfl ?_
  refine r_aload_n X 1 dX0_drawn_11 rfl rfl ?_
  refine gr_X0_12 X hph 0 0 1 ly_0 rfl rfl dX0_drawn_12 ?_
  refine gr_X0_203 X hph 1 1 5 ly_1 rfl rfl dX0_drawn_15 ?_
  refine r_bipush (v := 7) X dX0_drawn_18 rfl ?_
  refine r_iload_n X 0 dX0_drawn_20 rfl rfl ?_
  refine r_sipush (v := 223) X dX0_drawn_21 rfl ?_
  refine r_imul X dX0_drawn_24 ?_
  refine r_bipush (v := 109) X dX0_drawn_25 rfl ?_
  refine r_iadd X dX0_drawn_27 ?_
  refine r_sipush (v := 30161) X dX0_drawn_28 rfl ?_
  refine r_irem X dX0_drawn_31 (by decide) ?_
  refine r_iastL X hph 5 195 ly_5 tn_7 il_7_195 dX0_drawn_32 (fun s3 e4 => ?_)
  replace h := h s3 e4
  refine r_iload_n X 0 dX0_drawn_33 rfl rfl ?_
  exact r_iret X h (Nat.le_of_ble_eq_true rfl) (Nat.le_of_ble_eq_true rfl) dX0_drawn_34
theorem m_X0_drawn (l : Launch) (G : GT) (g : GK G) (hph : kP G = 1) (s : PS) (Q : Int32 → PS → Prop) (h : w_X0_drawn G s Q) : Met l yX0_drawn (ws_ yX0_drawn cX0_drawn 2 (some .int)) rm_X0_drawn (va_Pc [.ref (kB G + 0)] (Wr G s)) (va_Qi Q (fun u t => Wr G u t) (kF G)) 0 0 (kF G) := by
  refine Met.ofW (cc := cX0_drawn) (maxL := 2) (ret := (some .int)) (by decide) rfl ?_
  intro p e s0 m args below meth c s₁ B hml hv
  obtain ⟨rfl, hw⟩ := hv
  exact wb_of [.ref (kB G + 0)] (Nat.le_of_ble_eq_true rfl) hw.1 rfl (e_X0_drawn (cx_of g B hml rfl hw) hph s Q h)
theorem tl_X0_laysMine_7 {x : CT} {G : GT} (X : Cx x G cX0_laysMine 3 RX0 none rm_X0_laysMine) (hph : kP G = 1) (Q : PS → Prop) (v1 : Int32) : ∀ (n : Nat) (v2 : Int32) (s : PS) (h : l_X0_laysMine_7 G Q v1 n v2 s), WB x G 3 (QfV x G 0 0 Q) 0 0 s 7 [(0, .ref (kB G + 0)), (1, .int v1), (2, .int v2)] [] := by
  intro n
  induction n with
  | zero =>
    intro v2 s h
    exact False.elim h
  | succ n ih =>
    intro v2 s h
    unfold l_X0_laysMine_7 at h
    refine r_iload_n X 2 dX0_laysMine_7 rfl rfl ?_
    refine r_aload_n X 0 dX0_laysMine_8 rfl rfl ?_
    refine gr_X0_12 X hph 0 0 1 ly_0 rfl rfl dX0_laysMine_9 ?_
    refine gr_X0_74 X hph 1 1 2 ly_1 rfl rfl dX0_laysMine_12 ?_
    refine r_iconst (v := 1) X dX0_laysMine_15 rfl ?_
    refine r_ialdL X hph 2 9 ly_2 tn_1 il_1_9 dX0_laysMine_16 ?_
    refine r_ic_ge X 64 dX0_laysMine_17 (by decide) (fun c1 => ?_) (fun c1 => ?_)
    · replace h := h.1 c1
      exact r_vret X h (Nat.le_of_ble_eq_true rfl) (Nat.le_of_ble_eq_true rfl) dX0_laysMine_64
    · replace h := h.2 c1
      refine r_aload_n X 0 dX0_laysMine_20 rfl rfl ?_
      refine gr_X0_12 X hph 0 0 1 ly_0 rfl rfl dX0_laysMine_21 ?_
      refine gr_X0_88 X hph 1 1 6 ly_1 rfl rfl dX0_laysMine_24 ?_
      refine r_iload_n X 2 dX0_laysMine_27 rfl rfl ?_
      obtain ⟨g2, h⟩ := h
      refine r_aaldG X hph 2 6 24 7 ly_6 rfl lr_2 rfl g2 dX0_laysMine_28 ?_
      refine r_iconst (v := 0) X dX0_laysMine_29 rfl ?_
      refine r_ialdL X hph (7 + v2.toNatClampNeg) 6 (lg_2 _ (lt_in g2)) tn_0 il_0_6 dX0_laysMine_30 ?_
      refine r_iload_n X 1 dX0_laysMine_31 rfl rfl ?_
      refine r_ic_eq X 38 dX0_laysMine_32 (by decide) (fun c3 => ?_) (fun c3 => ?_)
      · replace h := h.1 c3
        refine r_aload_n X 0 dX0_laysMine_38 rfl rfl ?_
        refine gr_X0_34 X hph 0 0 159 ly_0 rfl rfl dX0_laysMine_39 ?_
        refine r_aload_n X 0 dX0_laysMine_42 rfl rfl ?_
        refine gl_X0_307 X hph 0 ly_0 dX0_laysMine_43 ?_
        refine r_iload_n X 2 dX0_laysMine_46 rfl rfl ?_
        obtain ⟨g4, h⟩ := h
        refine r_iastL X hph 159 24 ly_159 rfl g4 dX0_laysMine_47 (fun s5 e6 => ?_)
        replace h := h s5 e6
        refine r_aload_n X 0 dX0_laysMine_48 rfl rfl ?_
        refine r_dup X dX0_laysMine_49 rfl ?_
        refine gl_X0_307 X hph 0 ly_0 dX0_laysMine_50 ?_
        refine r_iconst (v := 1) X dX0_laysMine_53 rfl ?_
        refine r_iadd X dX0_laysMine_54 ?_
        refine pl_X0_307 X hph 0 ly_0 dX0_laysMine_55 (fun s7 e8 => ?_)
        replace h := h s7 e8
        refine r_iinc (lv' := [(2, .int (v2 + 1)), (0, .ref (kB G + 0)), (1, .int v1)]) X 2 dX0_laysMine_58 rfl rfl (Nat.le_of_ble_eq_true rfl) rfl ?_
        refine r_goto X 7 dX0_laysMine_61 (by decide) ?_
        refine r_sub [1, 2, 0] rfl ?_
        exact ih (v2 + 1) s7 h
      · replace h := h.2 c3
        refine r_goto X 58 dX0_laysMine_35 (by decide) ?_
        refine r_iinc (lv' := [(2, .int (v2 + 1)), (0, .ref (kB G + 0)), (1, .int v1)]) X 2 dX0_laysMine_58 rfl rfl (Nat.le_of_ble_eq_true rfl) rfl ?_
        refine r_goto X 7 dX0_laysMine_61 (by decide) ?_
        refine r_sub [1, 2, 0] rfl ?_
        exact ih (v2 + 1) s h
theorem e_X0_laysMine {x : CT} {G : GT} (X : Cx x G cX0_laysMine 3 RX0 none rm_X0_laysMine) (hph : kP G = 1) (p1 : Int32) (s : PS) (Q : PS → Prop) (h : w_X0_laysMine G p1 s Q) : WB x G 3 (QfV x G 0 0 Q) 0 0 s 0 [(0, .ref (kB G + 0)), (1, .int p1)] [] := by
  unfold w_X0_laysMine at h
  refine r_aload_n X 0 dX0_laysMine_0 rfl rfl ?_
  refine r_iconst (v := 0) X dX0_laysMine_1 rfl ?_
  refine pl_X0_307 X hph 0 ly_0 dX0_laysMine_2 (fun s1 e2 => ?_)
  replace h := h s1 e2
  refine r_iconst (v := 0) X dX0_laysMine_5 rfl ?_
  refine r_istore_n (lv' := [(2, .int 0), (0, .ref (kB G + 0)), (1, .int p1)]) X dX0_laysMine_6 rfl (Nat.le_of_ble_eq_true rfl) rfl ?_
  refine r_sub [1, 2, 0] rfl ?_
  obtain ⟨n3, h⟩ := h
  exact tl_X0_laysMine_7 X hph Q p1 n3 0 s1 h
theorem m_X0_laysMine (l : Launch) (G : GT) (g : GK G) (hph : kP G = 1) (p1 : Int32) (s : PS) (Q : PS → Prop) (h : w_X0_laysMine G p1 s Q) : Met l yX0_laysMine (ws_ yX0_laysMine cX0_laysMine 3 none) rm_X0_laysMine (va_Pc [.ref (kB G + 0), .int p1] (Wr G s)) (va_Qv Q (fun u t => Wr G u t) (kF G)) 0 0 (kF G) := by
  refine Met.ofW (cc := cX0_laysMine) (maxL := 3) (ret := none) (by decide) rfl ?_
  intro p e s0 m args below meth c s₁ B hml hv
  obtain ⟨rfl, hw⟩ := hv
  exact wb_of [.ref (kB G + 0), .int p1] (Nat.le_of_ble_eq_true rfl) hw.1 rfl (e_X0_laysMine (cx_of g B hml rfl hw) hph p1 s Q h)
theorem tb_X0_day_204 {x : CT} {G : GT} {MC MS : Nat} (X : Cx x G cX0_day 10 RX0 (some .int) (rm_X0_day MC MS)) (hph : kP G = 1) (Q : Int32 → PS → Prop) (K63 : Int32 → Int32 → Nat → Nat → PS → Prop) (K148 : Int32 → Nat → Nat → PS → Prop) (v2 : Int32) (v3 : Int32) (v4 : Int32) (v5 : Int32) (v7 : Int32) (t1 : Int32) (t2 : Int32) (ce sl : Nat) (s : PS) (hK63 : ∀ (v3' : Int32) (v4' : Int32) (ce' : Nat) (sl' : Nat) (s' : PS), K63 v3' v4' ce' sl' s' → WB x G 10 (QfI x G MC MS Q) ce' sl' s' 63 [(0, .ref (kB G + 0)), (2, .int v2), (3, .int v3'), (4, .int v4')] []) (hK148 : ∀ (v7' : Int32) (ce' : Nat) (sl' : Nat) (s' : PS), K148 v7' ce' sl' s' → WB x G 10 (QfI x G MC MS Q) ce' sl' s' 148 [(0, .ref (kB G + 0)), (2, .int v2), (3, .int v3), (4, .int v4), (5, .int v5), (7, .int v7')] []) (h : b_X0_day_204 G MC MS Q K63 K148 v2 v3 v4 v5 v7 t1 t2 ce sl s) : WB x G 10 (QfI x G MC MS Q) ce sl s 204 [(0, .ref (kB G + 0)), (2, .int v2), (3, .int v3), (4, .int v4), (5, .int v5), (7, .int v7)] [.int t2, .int t1, .ref (kB G + 0)] := by
  unfold b_X0_day_204 at h
  obtain ⟨g1, h⟩ := h
  refine r_ci X (r_okVL (As := [.int t1, .int t2]) (rest := []) X (m_X0_hears (xl x) G X.2.2.2.2.1 hph t1 t2 s _ h) (cl_X0_234 X ⟨(Nat.le_of_ble_eq_true rfl), (Nat.le_of_ble_eq_true rfl)⟩) hph 0 ly_0 rfl rfl rfl rfl (Nat.le_of_ble_eq_true rfl) dX0_day_204 g1) (fun r3 s2 h => ?_)
  obtain ⟨z4, h⟩ := h
  refine r_istore (lv' := [(9, .int r3), (0, .ref (kB G + 0)), (2, .int v2), (3, .int v3), (4, .int v4), (5, .int v5), (7, .int v7)]) X dX0_day_207 (Nat.le_of_ble_eq_true rfl) rfl ?_
  refine r_iinc (lv' := [(7, .int (v7 + 1)), (9, .int r3), (0, .ref (kB G + 0)), (2, .int v2), (3, .int v3), (4, .int v4), (5, .int v5)]) X 6 dX0_day_209 rfl rfl (Nat.le_of_ble_eq_true rfl) rfl ?_
  refine r_goto X 148 dX0_day_212 (by decide) ?_
  refine r_sub [2, 3, 4, 5, 6, 0] rfl ?_
  exact hK148 (v7 + 1) (ce + 1) (sl + 6) s2 h
theorem tb_X0_day_203 {x : CT} {G : GT} {MC MS : Nat} (X : Cx x G cX0_day 10 RX0 (some .int) (rm_X0_day MC MS)) (hph : kP G = 1) (Q : Int32 → PS → Prop) (K63 : Int32 → Int32 → Nat → Nat → PS → Prop) (K148 : Int32 → Nat → Nat → PS → Prop) (v2 : Int32) (v3 : Int32) (v4 : Int32) (v5 : Int32) (v7 : Int32) (t1 : Int32) (ce sl : Nat) (s : PS) (hK63 : ∀ (v3' : Int32) (v4' : Int32) (ce' : Nat) (sl' : Nat) (s' : PS), K63 v3' v4' ce' sl' s' → WB x G 10 (QfI x G MC MS Q) ce' sl' s' 63 [(0, .ref (kB G + 0)), (2, .int v2), (3, .int v3'), (4, .int v4')] []) (hK148 : ∀ (v7' : Int32) (ce' : Nat) (sl' : Nat) (s' : PS), K148 v7' ce' sl' s' → WB x G 10 (QfI x G MC MS Q) ce' sl' s' 148 [(0, .ref (kB G + 0)), (2, .int v2), (3, .int v3), (4, .int v4), (5, .int v5), (7, .int v7')] []) (h : b_X0_day_203 G MC MS Q K63 K148 v2 v3 v4 v5 v7 t1 ce sl s) : WB x G 10 (QfI x G MC MS Q) ce sl s 203 [(0, .ref (kB G + 0)), (2, .int v2), (3, .int v3), (4, .int v4), (5, .int v5), (7, .int v7)] [.int t1, .ref (kB G + 0)] := by
  unfold b_X0_day_203 at h
  refine r_iconst (v := 0) X dX0_day_203 rfl ?_
  exact tb_X0_day_204 X hph Q K63 K148 v2 v3 v4 v5 v7 t1 0 ce sl s hK63 hK148 h
theorem tl_X0_day_148 {x : CT} {G : GT} {MC MS : Nat} (X : Cx x G cX0_day 10 RX0 (some .int) (rm_X0_day MC MS)) (hph : kP G = 1) (Q : Int32 → PS → Prop) (K63 : Int32 → Int32 → Nat → Nat → PS → Prop) (v2 : Int32) (v3 : Int32) (v4 : Int32) (v5 : Int32) (hK63 : ∀ (v3' : Int32) (v4' : Int32) (ce' : Nat) (sl' : Nat) (s' : PS), K63 v3' v4' ce' sl' s' → WB x G 10 (QfI x G MC MS Q) ce' sl' s' 63 [(0, .ref (kB G + 0)), (2, .int v2), (3, .int v3'), (4, .int v4')] []) : ∀ (n : Nat) (v7 : Int32) (ce : Nat) (sl : Nat) (s : PS) (h : l_X0_day_148 G MC MS Q K63 v2 v3 v4 v5 n v7 ce sl s), WB x G 10 (QfI x G MC MS Q) ce sl s 148 [(0, .ref (kB G + 0)), (2, .int v2), (3, .int v3), (4, .int v4), (5, .int v5), (7, .int v7)] [] := by
  intro n
  induction n with
  | zero =>
    intro v7 ce sl s h
    exact False.elim h
  | succ n ih =>
    intro v7 ce sl s h
    unfold l_X0_day_148 at h
    refine r_iload X 5 dX0_day_148 rfl ?_
    refine r_aload_n X 0 dX0_day_150 rfl rfl ?_
    refine gr_X0_12 X hph 0 0 1 ly_0 rfl rfl dX0_day_151 ?_
    refine gr_X0_74 X hph 1 1 2 ly_1 rfl rfl dX0_day_154 ?_
    refine r_iconst (v := 2) X dX0_day_157 rfl ?_
    refine r_ialdL X hph 2 9 ly_2 tn_2 il_2_9 dX0_day_158 ?_
    refine r_ic_ge X 215 dX0_day_159 (by decide) (fun c1 => ?_) (fun c1 => ?_)
    · replace h := h.1 c1
      refine r_iload_n X 2 dX0_day_215 rfl rfl ?_
      refine r_aload_n X 0 dX0_day_216 rfl rfl ?_
      obtain ⟨g2, h⟩ := h
      refine r_ci X (r_okVL (As := []) (rest := [.int v3]) X (m_X0_judges (xl x) G X.2.2.2.2.1 hph s _ h) (cl_X0_243 X ⟨(Nat.le_of_ble_eq_true rfl), (Nat.le_of_ble_eq_true rfl)⟩) hph 0 ly_0 rfl rfl rfl rfl (Nat.le_of_ble_eq_true rfl) dX0_day_217 g2) (fun r4 s3 h => ?_)
      have hJ : WB x G 10 (QfI x G MC MS Q) (ce + 1) (sl + 5) s3 228 [(0, .ref (kB G + 0)), (2, .int v2), (3, .int v3), (4, .int v4), (5, .int v5), (7, .int v7)] [.int (if r4 = 0 then 1 else 0 : Int32), .int v3] := by
        refine r_iadd X dX0_day_228 ?_
        refine r_nmI (fun y6 e7 => ?_)
        replace h := h y6 e7
        refine r_istore_n (lv' := [(3, .int y6), (0, .ref (kB G + 0)), (2, .int v2), (4, .int v4), (5, .int v5), (7, .int v7)]) X dX0_day_229 rfl (Nat.le_of_ble_eq_true rfl) rfl ?_
        refine r_iinc (lv' := [(4, .int (v4 + 1)), (3, .int y6), (0, .ref (kB G + 0)), (2, .int v2), (5, .int v5), (7, .int v7)]) X 3 dX0_day_230 rfl rfl (Nat.le_of_ble_eq_true rfl) rfl ?_
        refine r_goto X 63 dX0_day_233 (by decide) ?_
        refine r_sub [2, 3, 1, 0] rfl ?_
        exact hK63 y6 (v4 + 1) (ce + 1) (sl + 5) s3 h
      refine r_if_ne X 227 dX0_day_220 (by decide) (fun c5 => ?_) (fun c5 => ?_)
      · rw [if_neg c5] at hJ
        refine r_iconst (v := 0) X dX0_day_227 rfl ?_
        exact hJ
      · rw [if_pos c5] at hJ
        refine r_iconst (v := 1) X dX0_day_223 rfl ?_
        refine r_goto X 228 dX0_day_224 (by decide) ?_
        exact hJ
    · replace h := h.2 c1
      refine r_aload_n X 0 dX0_day_162 rfl rfl ?_
      obtain ⟨g8, h⟩ := h
      refine r_ci X (r_okVL (As := []) (rest := []) X (m_X0_drawn (xl x) G X.2.2.2.2.1 hph s _ h) (cl_X0_310 X ⟨(Nat.le_of_ble_eq_true rfl), (Nat.le_of_ble_eq_true rfl)⟩) hph 0 ly_0 rfl rfl rfl rfl (Nat.le_of_ble_eq_true rfl) dX0_day_163 g8) (fun r10 s9 h => ?_)
      refine r_bipush (v := 10) X dX0_day_166 rfl ?_
      refine r_irem X dX0_day_168 (by decide) ?_
      refine r_iconst (v := 5) X dX0_day_169 rfl ?_
      have hJ : WB x G 10 (QfI x G MC MS Q) (ce + 0) (sl + 0) s9 178 [(0, .ref (kB G + 0)), (2, .int v2), (3, .int v3), (4, .int v4), (5, .int v5), (7, .int v7)] [.int (if 5 ≤ (r10 - r10 / 10 * 10) then 0 else 1 : Int32)] := by
        refine r_nmI (fun y12 e13 => ?_)
        replace h := h y12 e13
        refine r_istore (lv' := [(8, .int y12), (0, .ref (kB G + 0)), (2, .int v2), (3, .int v3), (4, .int v4), (5, .int v5), (7, .int v7)]) X dX0_day_178 (Nat.le_of_ble_eq_true rfl) rfl ?_
        refine r_aload_n X 1 dX0_day_180 rfl rfl ?_
        refine r_iload X 6 dX0_day_181 rfl ?_
        refine r_iload X 0 dX0_day_183 rfl ?_
        refine r_if_ne X 203 dX0_day_185 (by decide) (fun c14 => ?_) (fun c14 => ?_)
        · replace h := h.2 c14
          refine r_sub [1, 2, 3, 4, 5, 6] rfl ?_
          exact tb_X0_day_203 X hph Q K63 (l_X0_day_148 G MC MS Q K63 v2 v3 v4 v5 n) v2 v3 v4 v5 v7 v7 (ce + 0) (sl + 0) s9 hK63 ih h
        · replace h := h.1 c14
          refine r_aload_n X 1 dX0_day_188 rfl rfl ?_
          refine r_iload X 6 dX0_day_189 rfl ?_
          refine r_iload X 5 dX0_day_191 rfl ?_
          obtain ⟨g15, h⟩ := h
          refine r_ci X (r_okVL (As := [.int v7, .int v5]) (rest := [.int v7, .ref (kB G + 0)]) X (m_X0_isSoOf (xl x) G X.2.2.2.2.1 hph v7 v5 s9 _ h) (cl_X0_316 X ⟨(Nat.le_of_ble_eq_true rfl), (Nat.le_of_ble_eq_true rfl)⟩) hph 0 ly_0 rfl rfl rfl rfl (Nat.le_of_ble_eq_true rfl) dX0_day_193 g15) (fun r17 s16 h => ?_)
          obtain ⟨z18, h⟩ := h
          have hJ : WB x G 10 (QfI x G MC MS Q) ((ce + 0) + 0) ((sl + 0) + 0) s16 204 [(8, .int y12), (0, .ref (kB G + 0)), (2, .int v2), (3, .int v3), (4, .int v4), (5, .int v5), (7, .int v7)] [.int (if r17 = 0 then 0 else 1 : Int32), .int v7, .ref (kB G + 0)] := by
            obtain ⟨g20, h⟩ := h
            refine r_ci X (r_okVL (As := [.int v7, .int (if r17 = 0 then 0 else 1 : Int32)]) (rest := []) X (m_X0_hears (xl x) G X.2.2.2.2.1 hph v7 (if r17 = 0 then 0 else 1 : Int32) s16 _ h) (cl_X0_234 X ⟨(Nat.le_of_ble_eq_true rfl), (Nat.le_of_ble_eq_true rfl)⟩) hph 0 ly_0 rfl rfl rfl rfl (Nat.le_of_ble_eq_true rfl) dX0_day_204 g20) (fun r22 s21 h => ?_)
            obtain ⟨z23, h⟩ := h
            refine r_istore (lv' := [(9, .int r22), (8, .int y12), (0, .ref (kB G + 0)), (2, .int v2), (3, .int v3), (4, .int v4), (5, .int v5), (7, .int v7)]) X dX0_day_207 (Nat.le_of_ble_eq_true rfl) rfl ?_
            refine r_iinc (lv' := [(7, .int (v7 + 1)), (9, .int r22), (8, .int y12), (0, .ref (kB G + 0)), (2, .int v2), (3, .int v3), (4, .int v4), (5, .int v5)]) X 7 dX0_day_209 rfl rfl (Nat.le_of_ble_eq_true rfl) rfl ?_
            refine r_goto X 148 dX0_day_212 (by decide) ?_
            refine r_sub [3, 4, 5, 6, 7, 0] rfl ?_
            exact ih (v7 + 1) (((ce + 0) + 0) + 1) (((sl + 0) + 0) + 6) s21 h
          refine r_if_eq X 203 dX0_day_196 (by decide) (fun c19 => ?_) (fun c19 => ?_)
          · rw [if_pos c19] at hJ
            refine r_iconst (v := 0) X dX0_day_203 rfl ?_
            exact hJ
          · rw [if_neg c19] at hJ
            refine r_iconst (v := 1) X dX0_day_199 rfl ?_
            refine r_goto X 204 dX0_day_200 (by decide) ?_
            exact hJ
      refine r_ic_ge X 177 dX0_day_170 (by decide) (fun c11 => ?_) (fun c11 => ?_)
      · rw [if_pos c11] at hJ
        refine r_iconst (v := 0) X dX0_day_177 rfl ?_
        exact hJ
      · rw [if_neg c11] at hJ
        refine r_iconst (v := 1) X dX0_day_173 rfl ?_
        refine r_goto X 178 dX0_day_174 (by decide) ?_
        exact hJ
theorem tl_X0_day_106 {x : CT} {G : GT} {MC MS : Nat} (X : Cx x G cX0_day 10 RX0 (some .int) (rm_X0_day MC MS)) (hph : kP G = 1) (Q : Int32 → PS → Prop) (K63 : Int32 → Int32 → Nat → Nat → PS → Prop) (v2 : Int32) (v3 : Int32) (v4 : Int32) (v5 : Int32) (v6 : Int32) (hK63 : ∀ (v3' : Int32) (v4' : Int32) (ce' : Nat) (sl' : Nat) (s' : PS), K63 v3' v4' ce' sl' s' → WB x G 10 (QfI x G MC MS Q) ce' sl' s' 63 [(0, .ref (kB G + 0)), (2, .int v2), (3, .int v3'), (4, .int v4')] []) : ∀ (n : Nat) (v7 : Int32) (ce : Nat) (sl : Nat) (s : PS) (h : l_X0_day_106 G MC MS Q K63 v2 v3 v4 v5 v6 n v7 ce sl s), WB x G 10 (QfI x G MC MS Q) ce sl s 106 [(0, .ref (kB G + 0)), (2, .int v2), (3, .int v3), (4, .int v4), (5, .int v5), (6, .int v6), (7, .int v7)] [] := by
  intro n
  induction n with
  | zero =>
    intro v7 ce sl s h
    exact False.elim h
  | succ n ih =>
    intro v7 ce sl s h
    unfold l_X0_day_106 at h
    refine r_iload X 6 dX0_day_106 rfl ?_
    refine r_aload_n X 0 dX0_day_108 rfl rfl ?_
    refine gl_X0_307 X hph 0 ly_0 dX0_day_109 ?_
    refine r_ic_ge X 145 dX0_day_112 (by decide) (fun c1 => ?_) (fun c1 => ?_)
    · replace h := h.1 c1
      refine r_iconst (v := 0) X dX0_day_145 rfl ?_
      refine r_istore (lv' := [(7, .int 0), (0, .ref (kB G + 0)), (2, .int v2), (3, .int v3), (4, .int v4), (5, .int v5), (6, .int v6)]) X dX0_day_146 (Nat.le_of_ble_eq_true rfl) rfl ?_
      refine r_sub [1, 2, 3, 4, 5, 0] rfl ?_
      obtain ⟨n2, h⟩ := h
      exact tl_X0_day_148 X hph Q K63 v2 v3 v4 v5 hK63 n2 0 ce sl s h
    · replace h := h.2 c1
      refine r_aload_n X 0 dX0_day_115 rfl rfl ?_
      refine r_aload_n X 0 dX0_day_116 rfl rfl ?_
      refine gr_X0_34 X hph 0 0 159 ly_0 rfl rfl dX0_day_117 ?_
      refine r_iload X 5 dX0_day_120 rfl ?_
      refine r_aload_n X 0 dX0_day_122 rfl rfl ?_
      refine gl_X0_307 X hph 0 ly_0 dX0_day_123 ?_
      obtain ⟨g3, h⟩ := h
      refine r_irem X dX0_day_126 g3 ?_
      refine r_iload X 6 dX0_day_127 rfl ?_
      refine r_iadd X dX0_day_129 ?_
      refine r_aload_n X 0 dX0_day_130 rfl rfl ?_
      refine gl_X0_307 X hph 0 ly_0 dX0_day_131 ?_
      refine r_irem X dX0_day_134 g3 ?_
      obtain ⟨g4, h⟩ := h
      refine r_ialdL X hph 159 24 ly_159 rfl g4 dX0_day_135 ?_
      obtain ⟨g5, h⟩ := h
      refine r_cv X (r_okVL (As := [.int (gI s (kB G + 159) (((v6 - v6 / (gI s (kB G + 0) 8) * (gI s (kB G + 0) 8)) + v7) - ((v6 - v6 / (gI s (kB G + 0) 8) * (gI s (kB G + 0) 8)) + v7) / (gI s (kB G + 0) 8) * (gI s (kB G + 0) 8)).toNatClampNeg)]) (rest := []) X (m_X0_lays (xl x) G X.2.2.2.2.1 hph (gI s (kB G + 159) (((v6 - v6 / (gI s (kB G + 0) 8) * (gI s (kB G + 0) 8)) + v7) - ((v6 - v6 / (gI s (kB G + 0) 8) * (gI s (kB G + 0) 8)) + v7) / (gI s (kB G + 0) 8) * (gI s (kB G + 0) 8)).toNatClampNeg) s _ h) (cl_X0_226 X ⟨(Nat.le_of_ble_eq_true rfl), (Nat.le_of_ble_eq_true rfl)⟩) hph 0 ly_0 rfl rfl rfl rfl (Nat.le_of_ble_eq_true rfl) dX0_day_136 g5) (fun s6 h => ?_)
      refine r_iinc (lv' := [(7, .int (v7 + 1)), (0, .ref (kB G + 0)), (2, .int v2), (3, .int v3), (4, .int v4), (5, .int v5), (6, .int v6)]) X 6 dX0_day_139 rfl rfl (Nat.le_of_ble_eq_true rfl) rfl ?_
      refine r_goto X 106 dX0_day_142 (by decide) ?_
      refine r_sub [1, 2, 3, 4, 5, 6, 0] rfl ?_
      exact ih (v7 + 1) (ce + 1) (sl + 6) s6 h
theorem tl_X0_day_63 {x : CT} {G : GT} {MC MS : Nat} (X : Cx x G cX0_day 10 RX0 (some .int) (rm_X0_day MC MS)) (hph : kP G = 1) (Q : Int32 → PS → Prop) (v2 : Int32) : ∀ (n : Nat) (v3 : Int32) (v4 : Int32) (ce : Nat) (sl : Nat) (s : PS) (h : l_X0_day_63 G MC MS Q v2 n v3 v4 ce sl s), WB x G 10 (QfI x G MC MS Q) ce sl s 63 [(0, .ref (kB G + 0)), (2, .int v2), (3, .int v3), (4, .int v4)] [] := by
  intro n
  induction n with
  | zero =>
    intro v3 v4 ce sl s h
    exact False.elim h
  | succ n ih =>
    intro v3 v4 ce sl s h
    unfold l_X0_day_63 at h
    refine r_iload X 3 dX0_day_63 rfl ?_
    refine r_iload_n X 1 dX0_day_65 rfl rfl ?_
    refine r_ic_ge X 236 dX0_day_66 (by decide) (fun c1 => ?_) (fun c1 => ?_)
    · replace h := h.1 c1
      refine r_iload_n X 2 dX0_day_236 rfl rfl ?_
      obtain ⟨g2, h⟩ := h
      exact r_iret X h g2.1 g2.2 dX0_day_237
    · replace h := h.2 c1
      refine r_aload_n X 0 dX0_day_69 rfl rfl ?_
      obtain ⟨g3, h⟩ := h
      refine r_ci X (r_okVL (As := []) (rest := []) X (m_X0_drawn (xl x) G X.2.2.2.2.1 hph s _ h) (cl_X0_310 X ⟨(Nat.le_of_ble_eq_true rfl), (Nat.le_of_ble_eq_true rfl)⟩) hph 0 ly_0 rfl rfl rfl rfl (Nat.le_of_ble_eq_true rfl) dX0_day_70 g3) (fun r5 s4 h => ?_)
      refine r_aload_n X 0 dX0_day_73 rfl rfl ?_
      refine gr_X0_12 X hph 0 0 1 ly_0 rfl rfl dX0_day_74 ?_
      refine gr_X0_74 X hph 1 1 2 ly_1 rfl rfl dX0_day_77 ?_
      refine r_iconst (v := 0) X dX0_day_80 rfl ?_
      refine r_ialdL X hph 2 9 ly_2 tn_0 il_0_9 dX0_day_81 ?_
      obtain ⟨g6, h⟩ := h
      refine r_irem X dX0_day_82 g6 ?_
      refine r_nmI (fun y7 e8 => ?_)
      replace h := h y7 e8
      refine r_istore (lv' := [(5, .int y7), (0, .ref (kB G + 0)), (2, .int v2), (3, .int v3), (4, .int v4)]) X dX0_day_83 (Nat.le_of_ble_eq_true rfl) rfl ?_
      refine r_aload_n X 1 dX0_day_85 rfl rfl ?_
      refine r_iload X 0 dX0_day_86 rfl ?_
      obtain ⟨g9, h⟩ := h
      refine r_cv X (r_okVL (As := [.int y7]) (rest := []) X (m_X0_weighs (xl x) G X.2.2.2.2.1 hph y7 s4 _ h) (cl_X0_213 X ⟨(Nat.le_of_ble_eq_true rfl), (Nat.le_of_ble_eq_true rfl)⟩) hph 0 ly_0 rfl rfl rfl rfl (Nat.le_of_ble_eq_true rfl) dX0_day_88 g9) (fun s10 h => ?_)
      refine r_aload_n X 1 dX0_day_91 rfl rfl ?_
      refine r_iload X 0 dX0_day_92 rfl ?_
      obtain ⟨g11, h⟩ := h
      refine r_cv X (r_okVL (As := [.int y7]) (rest := []) X (m_X0_laysMine (xl x) G X.2.2.2.2.1 hph y7 s10 _ h) (cl_X0_313 X ⟨(Nat.le_of_ble_eq_true rfl), (Nat.le_of_ble_eq_true rfl)⟩) hph 0 ly_0 rfl rfl rfl rfl (Nat.le_of_ble_eq_true rfl) dX0_day_94 g11) (fun s12 h => ?_)
      refine r_aload_n X 1 dX0_day_97 rfl rfl ?_
      obtain ⟨g13, h⟩ := h
      refine r_ci X (r_okVL (As := []) (rest := []) X (m_X0_drawn (xl x) G X.2.2.2.2.1 hph s12 _ h) (cl_X0_310 X ⟨(Nat.le_of_ble_eq_true rfl), (Nat.le_of_ble_eq_true rfl)⟩) hph 0 ly_0 rfl rfl rfl rfl (Nat.le_of_ble_eq_true rfl) dX0_day_98 g13) (fun r15 s14 h => ?_)
      refine r_istore (lv' := [(6, .int r15), (5, .int y7), (0, .ref (kB G + 0)), (2, .int v2), (3, .int v3), (4, .int v4)]) X dX0_day_101 (Nat.le_of_ble_eq_true rfl) rfl ?_
      refine r_iconst (v := 0) X dX0_day_103 rfl ?_
      refine r_istore (lv' := [(7, .int 0), (6, .int r15), (5, .int y7), (0, .ref (kB G + 0)), (2, .int v2), (3, .int v3), (4, .int v4)]) X dX0_day_104 (Nat.le_of_ble_eq_true rfl) rfl ?_
      refine r_sub [3, 4, 5, 6, 2, 1, 0] rfl ?_
      obtain ⟨n16, h⟩ := h
      exact tl_X0_day_106 X hph Q (l_X0_day_63 G MC MS Q v2 n) v2 v3 v4 y7 r15 ih n16 0 ((((ce + 0) + 1) + 0) + 0) ((((sl + 0) + 6) + 0) + 0) s14 h
theorem e_X0_day {x : CT} {G : GT} {MC MS : Nat} (X : Cx x G cX0_day 10 RX0 (some .int) (rm_X0_day MC MS)) (hph : kP G = 1) (p1 : Int32) (p2 : Int32) (s : PS) (Q : Int32 → PS → Prop) (h : w_X0_day G MC MS p1 p2 s Q) : WB x G 10 (QfI x G MC MS Q) 0 0 s 0 [(0, .ref (kB G + 0)), (1, .int p1), (2, .int p2)] [] := by
  unfold w_X0_day at h
  refine r_iload_n X 1 dX0_day_0 rfl rfl ?_
  refine r_iconst (v := 0) X dX0_day_1 rfl ?_
  refine r_sipush (v := 9999) X dX0_day_2 rfl ?_
  obtain ⟨g1, h⟩ := h
  refine r_ci X (r_okS (As := [.int p1, .int 0, .int 9999]) (rest := []) X (m_X0_in (xl x) G X.2.2.2.2.1 p1 0 9999 s _ h) (cl_X0_77 X ⟨(Nat.le_of_ble_eq_true rfl), (Nat.le_of_ble_eq_true rfl)⟩) rfl rfl (Nat.le_of_ble_eq_true rfl) dX0_day_5 g1) (fun r3 s2 h => ?_)
  obtain ⟨z4, h⟩ := h
  refine r_if_eq X 33 dX0_day_8 (by decide) (fun c5 => ?_) (fun c5 => ?_)
  · replace h := h.1 c5
    refine r_iconst (v := (-1)) X dX0_day_33 rfl ?_
    obtain ⟨g6, h⟩ := h
    exact r_iret X h g6.1 g6.2 dX0_day_34
  · replace h := h.2 c5
    refine r_iload_n X 2 dX0_day_11 rfl rfl ?_
    refine r_iconst (v := 1) X dX0_day_12 rfl ?_
    refine r_bipush (v := 20) X dX0_day_13 rfl ?_
    obtain ⟨g7, h⟩ := h
    refine r_ci X (r_okS (As := [.int p2, .int 1, .int 20]) (rest := []) X (m_X0_in (xl x) G X.2.2.2.2.1 p2 1 20 s2 _ h) (cl_X0_77 X ⟨(Nat.le_of_ble_eq_true rfl), (Nat.le_of_ble_eq_true rfl)⟩) rfl rfl (Nat.le_of_ble_eq_true rfl) dX0_day_15 g7) (fun r9 s8 h => ?_)
    obtain ⟨z10, h⟩ := h
    refine r_if_eq X 33 dX0_day_18 (by decide) (fun c11 => ?_) (fun c11 => ?_)
    · replace h := h.1 c11
      refine r_iconst (v := (-1)) X dX0_day_33 rfl ?_
      obtain ⟨g12, h⟩ := h
      exact r_iret X h g12.1 g12.2 dX0_day_34
    · replace h := h.2 c11
      refine r_aload_n X 0 dX0_day_21 rfl rfl ?_
      refine gr_X0_12 X hph 0 0 1 ly_0 rfl rfl dX0_day_22 ?_
      refine gr_X0_74 X hph 1 1 2 ly_1 rfl rfl dX0_day_25 ?_
      refine r_iconst (v := 0) X dX0_day_28 rfl ?_
      refine r_ialdL X hph 2 9 ly_2 tn_0 il_0_9 dX0_day_29 ?_
      refine r_if_ne X 35 dX0_day_30 (by decide) (fun c13 => ?_) (fun c13 => ?_)
      · replace h := h.2 c13
        refine r_aload_n X 0 dX0_day_35 rfl rfl ?_
        refine gr_X0_12 X hph 0 0 1 ly_0 rfl rfl dX0_day_36 ?_
        obtain ⟨g15, h⟩ := h
        refine r_cv X (r_okVL (As := []) (rest := []) X (m_X1_keeps (xl x) G X.2.2.2.2.1 (kB G + 1) s8 _ h) (cl_X0_200 X ⟨(Nat.le_of_ble_eq_true rfl), (Nat.le_of_ble_eq_true rfl)⟩) hph 1 ly_1 rfl rfl rfl rfl (Nat.le_of_ble_eq_true rfl) dX0_day_39 g15) (fun s16 h => ?_)
        refine r_aload_n X 0 dX0_day_42 rfl rfl ?_
        refine gr_X0_12 X hph 0 0 1 ly_0 rfl rfl dX0_day_43 ?_
        refine gr_X0_203 X hph 1 1 5 ly_1 rfl rfl dX0_day_46 ?_
        refine r_bipush (v := 7) X dX0_day_49 rfl ?_
        refine r_iload_n X 1 dX0_day_51 rfl rfl ?_
        refine r_iconst (v := 2) X dX0_day_52 rfl ?_
        refine r_imul X dX0_day_53 ?_
        refine r_bipush (v := 19) X dX0_day_54 rfl ?_
        refine r_iadd X dX0_day_56 ?_
        refine r_iastL X hph 5 195 ly_5 tn_7 il_7_195 dX0_day_57 (fun s17 e18 => ?_)
        replace h := h s17 e18
        refine r_iconst (v := 0) X dX0_day_58 rfl ?_
        refine r_istore_n (lv' := [(3, .int 0), (0, .ref (kB G + 0)), (1, .int p1), (2, .int p2)]) X dX0_day_59 rfl (Nat.le_of_ble_eq_true rfl) rfl ?_
        refine r_iconst (v := 0) X dX0_day_60 rfl ?_
        refine r_istore (lv' := [(4, .int 0), (3, .int 0), (0, .ref (kB G + 0)), (1, .int p1), (2, .int p2)]) X dX0_day_61 (Nat.le_of_ble_eq_true rfl) rfl ?_
        refine r_sub [2, 4, 1, 0] rfl ?_
        obtain ⟨n19, h⟩ := h
        exact tl_X0_day_63 X hph Q p2 n19 0 0 (((0 + 0) + 0) + 0) (((0 + 0) + 0) + 0) s17 h
      · replace h := h.1 c13
        refine r_iconst (v := (-1)) X dX0_day_33 rfl ?_
        obtain ⟨g14, h⟩ := h
        exact r_iret X h g14.1 g14.2 dX0_day_34
theorem m_X0_day (l : Launch) (G : GT) (g : GK G) (hph : kP G = 1) (MC MS : Nat) (p1 : Int32) (p2 : Int32) (s : PS) (Q : Int32 → PS → Prop) (h : w_X0_day G MC MS p1 p2 s Q) : Met l yX0_day (ws_ yX0_day cX0_day 10 (some .int)) (rm_X0_day MC MS) (va_Pc [.ref (kB G + 0), .int p1, .int p2] (Wr G s)) (va_Qi Q (fun u t => Wr G u t) (kF G)) MC MS (kF G) := by
  refine Met.ofW (cc := cX0_day) (maxL := 10) (ret := (some .int)) (by decide) rfl ?_
  intro p e s0 m args below meth c s₁ B hml hv
  obtain ⟨rfl, hw⟩ := hv
  exact wb_of [.ref (kB G + 0), .int p1, .int p2] (Nat.le_of_ble_eq_true rfl) hw.1 rfl (e_X0_day (cx_of g B hml rfl hw) hph p1 p2 s Q h)
theorem e_X0_undo {x : CT} {G : GT} (X : Cx x G cX0_undo 1 RX0 (some .int) rm_X0_undo) (hph : kP G = 1) (s : PS) (Q : Int32 → PS → Prop) (h : w_X0_undo G s Q) : WB x G 1 (QfI x G 0 0 Q) 0 0 s 0 [(0, .ref (kB G + 0))] [] := by
  unfold w_X0_undo at h
  refine r_aload_n X 0 dX0_undo_0 rfl rfl ?_
  refine gr_X0_12 X hph 0 0 1 ly_0 rfl rfl dX0_undo_1 ?_
  refine gr_X0_74 X hph 1 1 2 ly_1 rfl rfl dX0_undo_4 ?_
  refine r_bipush (v := 6) X dX0_undo_7 rfl ?_
  refine r_ialdL X hph 2 9 ly_2 tn_6 il_6_9 dX0_undo_9 ?_
  refine r_if_ne X 15 dX0_undo_10 (by decide) (fun c1 => ?_) (fun c1 => ?_)
  · replace h := h.2 c1
    refine r_aload_n X 0 dX0_undo_15 rfl rfl ?_
    refine gr_X0_12 X hph 0 0 1 ly_0 rfl rfl dX0_undo_16 ?_
    refine gr_X0_74 X hph 1 1 2 ly_1 rfl rfl dX0_undo_19 ?_
    refine r_bipush (v := 6) X dX0_undo_22 rfl ?_
    refine r_dup2 X dX0_undo_24 rfl rfl ?_
    refine r_ialdL X hph 2 9 ly_2 tn_6 il_6_9 dX0_undo_25 ?_
    refine r_iconst (v := 1) X dX0_undo_26 rfl ?_
    refine r_isub X dX0_undo_27 ?_
    refine r_iastL X hph 2 9 ly_2 tn_6 il_6_9 dX0_undo_28 (fun s2 e3 => ?_)
    replace h := h s2 e3
    refine r_aload_n X 0 dX0_undo_29 rfl rfl ?_
    refine gr_X0_12 X hph 0 0 1 ly_0 rfl rfl dX0_undo_30 ?_
    refine gr_X0_319 X hph 1 1 47 ly_1 rfl rfl dX0_undo_33 ?_
    refine r_aload_n X 0 dX0_undo_36 rfl rfl ?_
    refine gr_X0_12 X hph 0 0 1 ly_0 rfl rfl dX0_undo_37 ?_
    refine gr_X0_74 X hph 1 1 2 ly_1 rfl rfl dX0_undo_40 ?_
    refine r_bipush (v := 6) X dX0_undo_43 rfl ?_
    refine r_ialdL X hph 2 9 ly_2 tn_6 il_6_9 dX0_undo_45 ?_
    obtain ⟨g4, h⟩ := h
    refine r_aaldG X hph 5 47 30 48 ly_47 rfl lr_5 rfl g4 dX0_undo_46 ?_
    refine r_aload_n X 0 dX0_undo_47 rfl rfl ?_
    refine gr_X0_12 X hph 0 0 1 ly_0 rfl rfl dX0_undo_48 ?_
    refine gr_X0_203 X hph 1 1 5 ly_1 rfl rfl dX0_undo_51 ?_
    refine r_cv X (r_okSN (As := [.ref (kB G + (48 + (gI s2 (kB G + 2) 6).toNatClampNeg)), .ref (kB G + 5)]) (rest := []) X (m_X1_copy (xl x) G X.2.2.2.2.1 (kB G + (48 + (gI s2 (kB G + 2) 6).toNatClampNeg)) (kB G + 5) s2 _ h) (cl_X0_91 X ⟨(Nat.le_of_ble_eq_true rfl), (Nat.le_of_ble_eq_true rfl)⟩) rfl rfl (Nat.le_of_ble_eq_true rfl) dX0_undo_54 ⟨Nat.le_of_ble_eq_true rfl, Nat.le_of_ble_eq_true rfl⟩) (fun s5 h => ?_)
    refine r_aload_n X 0 dX0_undo_57 rfl rfl ?_
    refine gr_X0_12 X hph 0 0 1 ly_0 rfl rfl dX0_undo_58 ?_
    refine gr_X0_74 X hph 1 1 2 ly_1 rfl rfl dX0_undo_61 ?_
    refine r_bipush (v := 6) X dX0_undo_64 rfl ?_
    refine r_ialdL X hph 2 9 ly_2 tn_6 il_6_9 dX0_undo_66 ?_
    exact r_iret X h (Nat.le_of_ble_eq_true rfl) (Nat.le_of_ble_eq_true rfl) dX0_undo_67
  · replace h := h.1 c1
    refine r_iconst (v := (-1)) X dX0_undo_13 rfl ?_
    exact r_iret X h (Nat.le_of_ble_eq_true rfl) (Nat.le_of_ble_eq_true rfl) dX0_undo_14
theorem m_X0_undo (l : Launch) (G : GT) (g : GK G) (hph : kP G = 1) (s : PS) (Q : Int32 → PS → Prop) (h : w_X0_undo G s Q) : Met l yX0_undo (ws_ yX0_undo cX0_undo 1 (some .int)) rm_X0_undo (va_Pc [.ref (kB G + 0)] (Wr G s)) (va_Qi Q (fun u t => Wr G u t) (kF G)) 0 0 (kF G) := by
  refine Met.ofW (cc := cX0_undo) (maxL := 1) (ret := (some .int)) (by decide) rfl ?_
  intro p e s0 m args below meth c s₁ B hml hv
  obtain ⟨rfl, hw⟩ := hv
  exact wb_of [.ref (kB G + 0)] (Nat.le_of_ble_eq_true rfl) hw.1 rfl (e_X0_undo (cx_of g B hml rfl hw) hph s Q h)
theorem e_X0_scale {x : CT} {G : GT} (X : Cx x G cX0_scale 2 RX0 (some .int) rm_X0_scale) (hph : kP G = 1) (p1 : Int32) (s : PS) (Q : Int32 → PS → Prop) (h : w_X0_scale G p1 s Q) : WB x G 2 (QfI x G 0 0 Q) 0 0 s 0 [(0, .ref (kB G + 0)), (1, .int p1)] [] := by
  unfold w_X0_scale at h
  refine r_aload_n X 0 dX0_scale_0 rfl rfl ?_
  refine r_ci X (r_okVL (As := []) (rest := []) X (m_X0_isWeighing (xl x) G X.2.2.2.2.1 hph s _ h) (cl_X0_222 X ⟨(Nat.le_of_ble_eq_true rfl), (Nat.le_of_ble_eq_true rfl)⟩) hph 0 ly_0 rfl rfl rfl rfl (Nat.le_of_ble_eq_true rfl) dX0_scale_1 ⟨Nat.le_of_ble_eq_true rfl, Nat.le_of_ble_eq_true rfl⟩) (fun r2 s1 h => ?_)
  obtain ⟨z3, h⟩ := h
  refine r_if_eq X 28 dX0_scale_4 (by decide) (fun c4 => ?_) (fun c4 => ?_)
  · replace h := h.1 c4
    refine r_ldc X q842 dX0_scale_28 ?_
    exact r_iret X h (Nat.le_of_ble_eq_true rfl) (Nat.le_of_ble_eq_true rfl) dX0_scale_30
  · replace h := h.2 c4
    refine r_iload_n X 1 dX0_scale_7 rfl rfl ?_
    refine r_iconst (v := 0) X dX0_scale_8 rfl ?_
    refine r_iconst (v := 5) X dX0_scale_9 rfl ?_
    refine r_ci X (r_okS (As := [.int p1, .int 0, .int 5]) (rest := []) X (m_X0_in (xl x) G X.2.2.2.2.1 p1 0 5 s1 _ h) (cl_X0_77 X ⟨(Nat.le_of_ble_eq_true rfl), (Nat.le_of_ble_eq_true rfl)⟩) rfl rfl (Nat.le_of_ble_eq_true rfl) dX0_scale_10 ⟨Nat.le_of_ble_eq_true rfl, Nat.le_of_ble_eq_true rfl⟩) (fun r6 s5 h => ?_)
    obtain ⟨z7, h⟩ := h
    refine r_if_eq X 28 dX0_scale_13 (by decide) (fun c8 => ?_) (fun c8 => ?_)
    · replace h := h.1 c8
      refine r_ldc X q842 dX0_scale_28 ?_
      exact r_iret X h (Nat.le_of_ble_eq_true rfl) (Nat.le_of_ble_eq_true rfl) dX0_scale_30
    · replace h := h.2 c8
      refine r_aload_n X 0 dX0_scale_16 rfl rfl ?_
      refine gr_X0_12 X hph 0 0 1 ly_0 rfl rfl dX0_scale_17 ?_
      refine gr_X0_203 X hph 1 1 5 ly_1 rfl rfl dX0_scale_20 ?_
      refine r_iload_n X 1 dX0_scale_23 rfl rfl ?_
      obtain ⟨g9, h⟩ := h
      refine r_ialdL X hph 5 195 ly_5 rfl g9 dX0_scale_24 ?_
      refine r_goto X 30 dX0_scale_25 (by decide) ?_
      exact r_iret X h (Nat.le_of_ble_eq_true rfl) (Nat.le_of_ble_eq_true rfl) dX0_scale_30
theorem m_X0_scale (l : Launch) (G : GT) (g : GK G) (hph : kP G = 1) (p1 : Int32) (s : PS) (Q : Int32 → PS → Prop) (h : w_X0_scale G p1 s Q) : Met l yX0_scale (ws_ yX0_scale cX0_scale 2 (some .int)) rm_X0_scale (va_Pc [.ref (kB G + 0), .int p1] (Wr G s)) (va_Qi Q (fun u t => Wr G u t) (kF G)) 0 0 (kF G) := by
  refine Met.ofW (cc := cX0_scale) (maxL := 2) (ret := (some .int)) (by decide) rfl ?_
  intro p e s0 m args below meth c s₁ B hml hv
  obtain ⟨rfl, hw⟩ := hv
  exact wb_of [.ref (kB G + 0), .int p1] (Nat.le_of_ble_eq_true rfl) hw.1 rfl (e_X0_scale (cx_of g B hml rfl hw) hph p1 s Q h)
theorem tl_X0_burdenOf_4 {x : CT} {G : GT} (X : Cx x G cX0_burdenOf 4 RX0 (some .int) rm_X0_burdenOf) (hph : kP G = 1) (Q : Int32 → PS → Prop) (v1 : Int32) : ∀ (n : Nat) (v2 : Int32) (v3 : Int32) (s : PS) (h : l_X0_burdenOf_4 G Q v1 n v2 v3 s), WB x G 4 (QfI x G 0 0 Q) 0 0 s 4 [(0, .ref (kB G + 0)), (1, .int v1), (2, .int v2), (3, .int v3)] [] := by
  intro n
  induction n with
  | zero =>
    intro v2 v3 s h
    exact False.elim h
  | succ n ih =>
    intro v2 v3 s h
    unfold l_X0_burdenOf_4 at h
    refine r_iload_n X 3 dX0_burdenOf_4 rfl rfl ?_
    refine r_aload_n X 0 dX0_burdenOf_5 rfl rfl ?_
    refine gr_X0_12 X hph 0 0 1 ly_0 rfl rfl dX0_burdenOf_6 ?_
    refine gr_X0_74 X hph 1 1 2 ly_1 rfl rfl dX0_burdenOf_9 ?_
    refine r_iconst (v := 1) X dX0_burdenOf_12 rfl ?_
    refine r_ialdL X hph 2 9 ly_2 tn_1 il_1_9 dX0_burdenOf_13 ?_
    refine r_ic_ge X 50 dX0_burdenOf_14 (by decide) (fun c1 => ?_) (fun c1 => ?_)
    · replace h := h.1 c1
      refine r_iload_n X 2 dX0_burdenOf_50 rfl rfl ?_
      exact r_iret X h (Nat.le_of_ble_eq_true rfl) (Nat.le_of_ble_eq_true rfl) dX0_burdenOf_51
    · replace h := h.2 c1
      refine r_iload_n X 2 dX0_burdenOf_17 rfl rfl ?_
      refine r_aload_n X 0 dX0_burdenOf_18 rfl rfl ?_
      refine gr_X0_12 X hph 0 0 1 ly_0 rfl rfl dX0_burdenOf_19 ?_
      refine gr_X0_88 X hph 1 1 6 ly_1 rfl rfl dX0_burdenOf_22 ?_
      refine r_iload_n X 3 dX0_burdenOf_25 rfl rfl ?_
      obtain ⟨g2, h⟩ := h
      refine r_aaldG X hph 2 6 24 7 ly_6 rfl lr_2 rfl g2 dX0_burdenOf_26 ?_
      refine r_iconst (v := 0) X dX0_burdenOf_27 rfl ?_
      refine r_ialdL X hph (7 + v3.toNatClampNeg) 6 (lg_2 _ (lt_in g2)) tn_0 il_0_6 dX0_burdenOf_28 ?_
      refine r_iload_n X 1 dX0_burdenOf_29 rfl rfl ?_
      refine r_ic_ne X 41 dX0_burdenOf_30 (by decide) (fun c3 => ?_) (fun c3 => ?_)
      · replace h := h.2 c3
        refine r_iconst (v := 0) X dX0_burdenOf_41 rfl ?_
        refine r_iadd X dX0_burdenOf_42 ?_
        refine r_nmI (fun y8 e9 => ?_)
        replace h := h y8 e9
        refine r_istore_n (lv' := [(2, .int y8), (0, .ref (kB G + 0)), (1, .int v1), (3, .int v3)]) X dX0_burdenOf_43 rfl (Nat.le_of_ble_eq_true rfl) rfl ?_
        refine r_iinc (lv' := [(3, .int (v3 + 1)), (2, .int y8), (0, .ref (kB G + 0)), (1, .int v1)]) X 3 dX0_burdenOf_44 rfl rfl (Nat.le_of_ble_eq_true rfl) rfl ?_
        refine r_goto X 4 dX0_burdenOf_47 (by decide) ?_
        refine r_sub [2, 3, 1, 0] rfl ?_
        exact ih y8 (v3 + 1) s h
      · replace h := h.1 c3
        refine r_aload_n X 0 dX0_burdenOf_33 rfl rfl ?_
        refine r_iload_n X 3 dX0_burdenOf_34 rfl rfl ?_
        refine r_ci X (r_okVL (As := [.int v3]) (rest := [.int v2]) X (m_X0_weightOf (xl x) G X.2.2.2.2.1 hph v3 s _ h) (cl_X0_181 X ⟨(Nat.le_of_ble_eq_true rfl), (Nat.le_of_ble_eq_true rfl)⟩) hph 0 ly_0 rfl rfl rfl rfl (Nat.le_of_ble_eq_true rfl) dX0_burdenOf_35 ⟨Nat.le_of_ble_eq_true rfl, Nat.le_of_ble_eq_true rfl⟩) (fun r5 s4 h => ?_)
        refine r_goto X 42 dX0_burdenOf_38 (by decide) ?_
        refine r_iadd X dX0_burdenOf_42 ?_
        refine r_nmI (fun y6 e7 => ?_)
        replace h := h y6 e7
        refine r_istore_n (lv' := [(2, .int y6), (0, .ref (kB G + 0)), (1, .int v1), (3, .int v3)]) X dX0_burdenOf_43 rfl (Nat.le_of_ble_eq_true rfl) rfl ?_
        refine r_iinc (lv' := [(3, .int (v3 + 1)), (2, .int y6), (0, .ref (kB G + 0)), (1, .int v1)]) X 3 dX0_burdenOf_44 rfl rfl (Nat.le_of_ble_eq_true rfl) rfl ?_
        refine r_goto X 4 dX0_burdenOf_47 (by decide) ?_
        refine r_sub [2, 3, 1, 0] rfl ?_
        exact ih y6 (v3 + 1) s4 h
theorem e_X0_burdenOf {x : CT} {G : GT} (X : Cx x G cX0_burdenOf 4 RX0 (some .int) rm_X0_burdenOf) (hph : kP G = 1) (p1 : Int32) (s : PS) (Q : Int32 → PS → Prop) (h : w_X0_burdenOf G p1 s Q) : WB x G 4 (QfI x G 0 0 Q) 0 0 s 0 [(0, .ref (kB G + 0)), (1, .int p1)] [] := by
  unfold w_X0_burdenOf at h
  refine r_iconst (v := 0) X dX0_burdenOf_0 rfl ?_
  refine r_istore_n (lv' := [(2, .int 0), (0, .ref (kB G + 0)), (1, .int p1)]) X dX0_burdenOf_1 rfl (Nat.le_of_ble_eq_true rfl) rfl ?_
  refine r_iconst (v := 0) X dX0_burdenOf_2 rfl ?_
  refine r_istore_n (lv' := [(3, .int 0), (2, .int 0), (0, .ref (kB G + 0)), (1, .int p1)]) X dX0_burdenOf_3 rfl (Nat.le_of_ble_eq_true rfl) rfl ?_
  refine r_sub [2, 3, 1, 0] rfl ?_
  obtain ⟨n1, h⟩ := h
  exact tl_X0_burdenOf_4 X hph Q p1 n1 0 0 s h
theorem m_X0_burdenOf (l : Launch) (G : GT) (g : GK G) (hph : kP G = 1) (p1 : Int32) (s : PS) (Q : Int32 → PS → Prop) (h : w_X0_burdenOf G p1 s Q) : Met l yX0_burdenOf (ws_ yX0_burdenOf cX0_burdenOf 4 (some .int)) rm_X0_burdenOf (va_Pc [.ref (kB G + 0), .int p1] (Wr G s)) (va_Qi Q (fun u t => Wr G u t) (kF G)) 0 0 (kF G) := by
  refine Met.ofW (cc := cX0_burdenOf) (maxL := 4) (ret := (some .int)) (by decide) rfl ?_
  intro p e s0 m args below meth c s₁ B hml hv
  obtain ⟨rfl, hw⟩ := hv
  exact wb_of [.ref (kB G + 0), .int p1] (Nat.le_of_ble_eq_true rfl) hw.1 rfl (e_X0_burdenOf (cx_of g B hml rfl hw) hph p1 s Q h)
theorem e_X0_balanceOf {x : CT} {G : GT} (X : Cx x G cX0_balanceOf 2 RX0 (some .int) rm_X0_balanceOf) (hph : kP G = 1) (p1 : Int32) (s : PS) (Q : Int32 → PS → Prop) (h : w_X0_balanceOf G p1 s Q) : WB x G 2 (QfI x G 0 0 Q) 0 0 s 0 [(0, .ref (kB G + 0)), (1, .int p1)] [] := by
  unfold w_X0_balanceOf at h
  refine r_aload_n X 0 dX0_balanceOf_0 rfl rfl ?_
  refine gr_X0_12 X hph 0 0 1 ly_0 rfl rfl dX0_balanceOf_1 ?_
  refine gr_X0_81 X hph 1 1 3 ly_1 rfl rfl dX0_balanceOf_4 ?_
  refine r_iload_n X 1 dX0_balanceOf_7 rfl rfl ?_
  obtain ⟨g1, h⟩ := h
  refine r_ialdL X hph 3 6 ly_3 rfl g1 dX0_balanceOf_8 ?_
  refine r_aload_n X 0 dX0_balanceOf_9 rfl rfl ?_
  refine r_iload_n X 1 dX0_balanceOf_10 rfl rfl ?_
  refine r_ci X (r_okVL (As := [.int p1]) (rest := [.int (gI s (kB G + 3) p1.toNatClampNeg)]) X (m_X0_burdenOf (xl x) G X.2.2.2.2.1 hph p1 s _ h) (cl_X0_322 X ⟨(Nat.le_of_ble_eq_true rfl), (Nat.le_of_ble_eq_true rfl)⟩) hph 0 ly_0 rfl rfl rfl rfl (Nat.le_of_ble_eq_true rfl) dX0_balanceOf_11 ⟨Nat.le_of_ble_eq_true rfl, Nat.le_of_ble_eq_true rfl⟩) (fun r3 s2 h => ?_)
  refine r_isub X dX0_balanceOf_14 ?_
  exact r_iret X h (Nat.le_of_ble_eq_true rfl) (Nat.le_of_ble_eq_true rfl) dX0_balanceOf_15
theorem m_X0_balanceOf (l : Launch) (G : GT) (g : GK G) (hph : kP G = 1) (p1 : Int32) (s : PS) (Q : Int32 → PS → Prop) (h : w_X0_balanceOf G p1 s Q) : Met l yX0_balanceOf (ws_ yX0_balanceOf cX0_balanceOf 2 (some .int)) rm_X0_balanceOf (va_Pc [.ref (kB G + 0), .int p1] (Wr G s)) (va_Qi Q (fun u t => Wr G u t) (kF G)) 0 0 (kF G) := by
  refine Met.ofW (cc := cX0_balanceOf) (maxL := 2) (ret := (some .int)) (by decide) rfl ?_
  intro p e s0 m args below meth c s₁ B hml hv
  obtain ⟨rfl, hw⟩ := hv
  exact wb_of [.ref (kB G + 0), .int p1] (Nat.le_of_ble_eq_true rfl) hw.1 rfl (e_X0_balanceOf (cx_of g B hml rfl hw) hph p1 s Q h)
theorem e_X0_ofHeart {x : CT} {G : GT} (X : Cx x G cX0_ofHeart 3 RX0 (some .int) rm_X0_ofHeart) (hph : kP G = 1) (p1 : Int32) (p2 : Int32) (s : PS) (Q : Int32 → PS → Prop) (h : w_X0_ofHeart G p1 p2 s Q) : WB x G 3 (QfI x G 0 0 Q) 0 0 s 0 [(0, .ref (kB G + 0)), (1, .int p1), (2, .int p2)] [] := by
  unfold w_X0_ofHeart at h
  refine r_aload_n X 0 dX0_ofHeart_0 rfl rfl ?_
  refine r_iload_n X 1 dX0_ofHeart_1 rfl rfl ?_
  refine r_ci X (r_okVL (As := [.int p1]) (rest := []) X (m_X0_isHeart (xl x) G X.2.2.2.2.1 hph p1 s _ h) (cl_X0_84 X ⟨(Nat.le_of_ble_eq_true rfl), (Nat.le_of_ble_eq_true rfl)⟩) hph 0 ly_0 rfl rfl rfl rfl (Nat.le_of_ble_eq_true rfl) dX0_ofHeart_2 ⟨Nat.le_of_ble_eq_true rfl, Nat.le_of_ble_eq_true rfl⟩) (fun r2 s1 h => ?_)
  obtain ⟨z3, h⟩ := h
  refine r_if_ne X 11 dX0_ofHeart_5 (by decide) (fun c4 => ?_) (fun c4 => ?_)
  · replace h := h.2 c4
    refine r_iload_n X 2 dX0_ofHeart_11 rfl rfl ?_
    by_cases c5 : p2 = 0
    · replace h := h.1 c5
      refine r_tin X 48 dX0_ofHeart_12 0 c5 (by decide) (by decide) rfl (by decide) ?_
      refine r_aload_n X 0 dX0_ofHeart_48 rfl rfl ?_
      refine gr_X0_12 X hph 0 0 1 ly_0 rfl rfl dX0_ofHeart_49 ?_
      refine gr_X0_81 X hph 1 1 3 ly_1 rfl rfl dX0_ofHeart_52 ?_
      refine r_iload_n X 1 dX0_ofHeart_55 rfl rfl ?_
      obtain ⟨g6, h⟩ := h
      refine r_ialdL X hph 3 6 ly_3 rfl g6 dX0_ofHeart_56 ?_
      exact r_iret X h (Nat.le_of_ble_eq_true rfl) (Nat.le_of_ble_eq_true rfl) dX0_ofHeart_57
    · replace h := h.2 c5
      by_cases c7 : p2 = 1
      · replace h := h.1 c7
        refine r_tin X 58 dX0_ofHeart_12 1 c7 (by decide) (by decide) rfl (by decide) ?_
        refine r_aload_n X 0 dX0_ofHeart_58 rfl rfl ?_
        refine gr_X0_12 X hph 0 0 1 ly_0 rfl rfl dX0_ofHeart_59 ?_
        refine r_iload_n X 1 dX0_ofHeart_62 rfl rfl ?_
        refine r_ci X (r_okVL (As := [.int p1]) (rest := []) X (m_X1_deedsOf (xl x) G X.2.2.2.2.1 (kB G + 1) p1 s1 _ h) (cl_X0_190 X ⟨(Nat.le_of_ble_eq_true rfl), (Nat.le_of_ble_eq_true rfl)⟩) hph 1 ly_1 rfl rfl rfl rfl (Nat.le_of_ble_eq_true rfl) dX0_ofHeart_63 ⟨Nat.le_of_ble_eq_true rfl, Nat.le_of_ble_eq_true rfl⟩) (fun r9 s8 h => ?_)
        exact r_iret X h (Nat.le_of_ble_eq_true rfl) (Nat.le_of_ble_eq_true rfl) dX0_ofHeart_66
      · replace h := h.2 c7
        by_cases c10 : p2 = 2
        · replace h := h.1 c10
          refine r_tin X 67 dX0_ofHeart_12 2 c10 (by decide) (by decide) rfl (by decide) ?_
          refine r_aload_n X 0 dX0_ofHeart_67 rfl rfl ?_
          refine r_iload_n X 1 dX0_ofHeart_68 rfl rfl ?_
          refine r_ci X (r_okVL (As := [.int p1]) (rest := []) X (m_X0_burdenOf (xl x) G X.2.2.2.2.1 hph p1 s1 _ h) (cl_X0_322 X ⟨(Nat.le_of_ble_eq_true rfl), (Nat.le_of_ble_eq_true rfl)⟩) hph 0 ly_0 rfl rfl rfl rfl (Nat.le_of_ble_eq_true rfl) dX0_ofHeart_69 ⟨Nat.le_of_ble_eq_true rfl, Nat.le_of_ble_eq_true rfl⟩) (fun r12 s11 h => ?_)
          exact r_iret X h (Nat.le_of_ble_eq_true rfl) (Nat.le_of_ble_eq_true rfl) dX0_ofHeart_72
        · replace h := h.2 c10
          by_cases c13 : p2 = 3
          · replace h := h.1 c13
            refine r_tin X 73 dX0_ofHeart_12 3 c13 (by decide) (by decide) rfl (by decide) ?_
            refine r_aload_n X 0 dX0_ofHeart_73 rfl rfl ?_
            refine r_iload_n X 1 dX0_ofHeart_74 rfl rfl ?_
            refine r_ci X (r_okVL (As := [.int p1]) (rest := []) X (m_X0_balanceOf (xl x) G X.2.2.2.2.1 hph p1 s1 _ h) (cl_X0_325 X ⟨(Nat.le_of_ble_eq_true rfl), (Nat.le_of_ble_eq_true rfl)⟩) hph 0 ly_0 rfl rfl rfl rfl (Nat.le_of_ble_eq_true rfl) dX0_ofHeart_75 ⟨Nat.le_of_ble_eq_true rfl, Nat.le_of_ble_eq_true rfl⟩) (fun r15 s14 h => ?_)
            exact r_iret X h (Nat.le_of_ble_eq_true rfl) (Nat.le_of_ble_eq_true rfl) dX0_ofHeart_78
          · replace h := h.2 c13
            by_cases c16 : p2 = 4
            · replace h := h.1 c16
              refine r_tin X 79 dX0_ofHeart_12 4 c16 (by decide) (by decide) rfl (by decide) ?_
              refine r_aload_n X 0 dX0_ofHeart_79 rfl rfl ?_
              refine gr_X0_12 X hph 0 0 1 ly_0 rfl rfl dX0_ofHeart_80 ?_
              refine r_iload_n X 1 dX0_ofHeart_83 rfl rfl ?_
              refine r_ci X (r_okVL (As := [.int p1]) (rest := []) X (m_X1_lentTo (xl x) G X.2.2.2.2.1 (kB G + 1) p1 s1 _ h) (cl_X0_328 X ⟨(Nat.le_of_ble_eq_true rfl), (Nat.le_of_ble_eq_true rfl)⟩) hph 1 ly_1 rfl rfl rfl rfl (Nat.le_of_ble_eq_true rfl) dX0_ofHeart_84 ⟨Nat.le_of_ble_eq_true rfl, Nat.le_of_ble_eq_true rfl⟩) (fun r18 s17 h => ?_)
              exact r_iret X h (Nat.le_of_ble_eq_true rfl) (Nat.le_of_ble_eq_true rfl) dX0_ofHeart_87
            · replace h := h.2 c16
              have o0 := lv_neT c5 (show Int32.toInt 0 = 0 from rfl)
              have o1 := lv_neT c7 (show Int32.toInt 1 = 1 from rfl)
              have o2 := lv_neT c10 (show Int32.toInt 2 = 2 from rfl)
              have o3 := lv_neT c13 (show Int32.toInt 3 = 3 from rfl)
              have o4 := lv_neT c16 (show Int32.toInt 4 = 4 from rfl)
              refine r_tout X 88 dX0_ofHeart_12 (by omega) (by decide) ?_
              refine r_aload_n X 0 dX0_ofHeart_88 rfl rfl ?_
              refine r_iload_n X 2 dX0_ofHeart_89 rfl rfl ?_
              refine r_bipush (v := 10) X dX0_ofHeart_90 rfl ?_
              refine r_isub X dX0_ofHeart_92 ?_
              refine r_ci X (r_okVL (As := [.int (p2 - 10)]) (rest := []) X (m_X0_isHeart (xl x) G X.2.2.2.2.1 hph (p2 - 10) s1 _ h) (cl_X0_84 X ⟨(Nat.le_of_ble_eq_true rfl), (Nat.le_of_ble_eq_true rfl)⟩) hph 0 ly_0 rfl rfl rfl rfl (Nat.le_of_ble_eq_true rfl) dX0_ofHeart_93 ⟨Nat.le_of_ble_eq_true rfl, Nat.le_of_ble_eq_true rfl⟩) (fun r20 s19 h => ?_)
              obtain ⟨z21, h⟩ := h
              refine r_if_eq X 114 dX0_ofHeart_96 (by decide) (fun c22 => ?_) (fun c22 => ?_)
              · replace h := h.1 c22
                refine r_ldc X q842 dX0_ofHeart_114 ?_
                exact r_iret X h (Nat.le_of_ble_eq_true rfl) (Nat.le_of_ble_eq_true rfl) dX0_ofHeart_116
              · replace h := h.2 c22
                refine r_aload_n X 0 dX0_ofHeart_99 rfl rfl ?_
                refine gr_X0_12 X hph 0 0 1 ly_0 rfl rfl dX0_ofHeart_100 ?_
                refine r_iload_n X 1 dX0_ofHeart_103 rfl rfl ?_
                refine r_iload_n X 2 dX0_ofHeart_104 rfl rfl ?_
                refine r_bipush (v := 10) X dX0_ofHeart_105 rfl ?_
                refine r_isub X dX0_ofHeart_107 ?_
                refine r_ci X (r_okVL (As := [.int p1, .int (p2 - 10)]) (rest := []) X (m_X1_owes (xl x) G X.2.2.2.2.1 (kB G + 1) p1 (p2 - 10) s19 _ h) (cl_X0_196 X ⟨(Nat.le_of_ble_eq_true rfl), (Nat.le_of_ble_eq_true rfl)⟩) hph 1 ly_1 rfl rfl rfl rfl (Nat.le_of_ble_eq_true rfl) dX0_ofHeart_108 ⟨Nat.le_of_ble_eq_true rfl, Nat.le_of_ble_eq_true rfl⟩) (fun r24 s23 h => ?_)
                refine r_goto X 116 dX0_ofHeart_111 (by decide) ?_
                exact r_iret X h (Nat.le_of_ble_eq_true rfl) (Nat.le_of_ble_eq_true rfl) dX0_ofHeart_116
  · replace h := h.1 c4
    refine r_ldc X q842 dX0_ofHeart_8 ?_
    exact r_iret X h (Nat.le_of_ble_eq_true rfl) (Nat.le_of_ble_eq_true rfl) dX0_ofHeart_10
theorem m_X0_ofHeart (l : Launch) (G : GT) (g : GK G) (hph : kP G = 1) (p1 : Int32) (p2 : Int32) (s : PS) (Q : Int32 → PS → Prop) (h : w_X0_ofHeart G p1 p2 s Q) : Met l yX0_ofHeart (ws_ yX0_ofHeart cX0_ofHeart 3 (some .int)) rm_X0_ofHeart (va_Pc [.ref (kB G + 0), .int p1, .int p2] (Wr G s)) (va_Qi Q (fun u t => Wr G u t) (kF G)) 0 0 (kF G) := by
  refine Met.ofW (cc := cX0_ofHeart) (maxL := 3) (ret := (some .int)) (by decide) rfl ?_
  intro p e s0 m args below meth c s₁ B hml hv
  obtain ⟨rfl, hw⟩ := hv
  exact wb_of [.ref (kB G + 0), .int p1, .int p2] (Nat.le_of_ble_eq_true rfl) hw.1 rfl (e_X0_ofHeart (cx_of g B hml rfl hw) hph p1 p2 s Q h)
theorem e_X0_ofDeed {x : CT} {G : GT} (X : Cx x G cX0_ofDeed 3 RX0 (some .int) rm_X0_ofDeed) (hph : kP G = 1) (p1 : Int32) (p2 : Int32) (s : PS) (Q : Int32 → PS → Prop) (h : w_X0_ofDeed G p1 p2 s Q) : WB x G 3 (QfI x G 0 0 Q) 0 0 s 0 [(0, .ref (kB G + 0)), (1, .int p1), (2, .int p2)] [] := by
  unfold w_X0_ofDeed at h
  refine r_aload_n X 0 dX0_ofDeed_0 rfl rfl ?_
  refine r_iload_n X 1 dX0_ofDeed_1 rfl rfl ?_
  refine r_ci X (r_okVL (As := [.int p1]) (rest := []) X (m_X0_isDeed (xl x) G X.2.2.2.2.1 hph p1 s _ h) (cl_X0_95 X ⟨(Nat.le_of_ble_eq_true rfl), (Nat.le_of_ble_eq_true rfl)⟩) hph 0 ly_0 rfl rfl rfl rfl (Nat.le_of_ble_eq_true rfl) dX0_ofDeed_2 ⟨Nat.le_of_ble_eq_true rfl, Nat.le_of_ble_eq_true rfl⟩) (fun r2 s1 h => ?_)
  obtain ⟨z3, h⟩ := h
  refine r_if_eq X 18 dX0_ofDeed_5 (by decide) (fun c4 => ?_) (fun c4 => ?_)
  · replace h := h.1 c4
    refine r_ldc X q842 dX0_ofDeed_18 ?_
    refine r_goto X 48 dX0_ofDeed_20 (by decide) ?_
    exact r_iret X h (Nat.le_of_ble_eq_true rfl) (Nat.le_of_ble_eq_true rfl) dX0_ofDeed_48
  · replace h := h.2 c4
    refine r_iload_n X 2 dX0_ofDeed_8 rfl rfl ?_
    refine r_iconst (v := 0) X dX0_ofDeed_9 rfl ?_
    refine r_bipush (v := 6) X dX0_ofDeed_10 rfl ?_
    refine r_ci X (r_okS (As := [.int p2, .int 0, .int 6]) (rest := []) X (m_X0_in (xl x) G X.2.2.2.2.1 p2 0 6 s1 _ h) (cl_X0_77 X ⟨(Nat.le_of_ble_eq_true rfl), (Nat.le_of_ble_eq_true rfl)⟩) rfl rfl (Nat.le_of_ble_eq_true rfl) dX0_ofDeed_12 ⟨Nat.le_of_ble_eq_true rfl, Nat.le_of_ble_eq_true rfl⟩) (fun r6 s5 h => ?_)
    obtain ⟨z7, h⟩ := h
    refine r_if_ne X 23 dX0_ofDeed_15 (by decide) (fun c8 => ?_) (fun c8 => ?_)
    · replace h := h.2 c8
      refine r_iload_n X 2 dX0_ofDeed_23 rfl rfl ?_
      refine r_bipush (v := 6) X dX0_ofDeed_24 rfl ?_
      refine r_ic_ne X 37 dX0_ofDeed_26 (by decide) (fun c9 => ?_) (fun c9 => ?_)
      · replace h := h.2 c9
        refine r_aload_n X 0 dX0_ofDeed_37 rfl rfl ?_
        refine gr_X0_12 X hph 0 0 1 ly_0 rfl rfl dX0_ofDeed_38 ?_
        refine gr_X0_88 X hph 1 1 6 ly_1 rfl rfl dX0_ofDeed_41 ?_
        refine r_iload_n X 1 dX0_ofDeed_44 rfl rfl ?_
        obtain ⟨g12, h⟩ := h
        refine r_aaldG X hph 2 6 24 7 ly_6 rfl lr_2 rfl g12 dX0_ofDeed_45 ?_
        refine r_iload_n X 2 dX0_ofDeed_46 rfl rfl ?_
        obtain ⟨g13, h⟩ := h
        refine r_ialdL X hph (7 + p1.toNatClampNeg) 6 (lg_2 _ (lt_in g12)) rfl g13 dX0_ofDeed_47 ?_
        exact r_iret X h (Nat.le_of_ble_eq_true rfl) (Nat.le_of_ble_eq_true rfl) dX0_ofDeed_48
      · replace h := h.1 c9
        refine r_aload_n X 0 dX0_ofDeed_29 rfl rfl ?_
        refine r_iload_n X 1 dX0_ofDeed_30 rfl rfl ?_
        refine r_ci X (r_okVL (As := [.int p1]) (rest := []) X (m_X0_weightOf (xl x) G X.2.2.2.2.1 hph p1 s5 _ h) (cl_X0_181 X ⟨(Nat.le_of_ble_eq_true rfl), (Nat.le_of_ble_eq_true rfl)⟩) hph 0 ly_0 rfl rfl rfl rfl (Nat.le_of_ble_eq_true rfl) dX0_ofDeed_31 ⟨Nat.le_of_ble_eq_true rfl, Nat.le_of_ble_eq_true rfl⟩) (fun r11 s10 h => ?_)
        refine r_goto X 48 dX0_ofDeed_34 (by decide) ?_
        exact r_iret X h (Nat.le_of_ble_eq_true rfl) (Nat.le_of_ble_eq_true rfl) dX0_ofDeed_48
    · replace h := h.1 c8
      refine r_ldc X q842 dX0_ofDeed_18 ?_
      refine r_goto X 48 dX0_ofDeed_20 (by decide) ?_
      exact r_iret X h (Nat.le_of_ble_eq_true rfl) (Nat.le_of_ble_eq_true rfl) dX0_ofDeed_48
theorem m_X0_ofDeed (l : Launch) (G : GT) (g : GK G) (hph : kP G = 1) (p1 : Int32) (p2 : Int32) (s : PS) (Q : Int32 → PS → Prop) (h : w_X0_ofDeed G p1 p2 s Q) : Met l yX0_ofDeed (ws_ yX0_ofDeed cX0_ofDeed 3 (some .int)) rm_X0_ofDeed (va_Pc [.ref (kB G + 0), .int p1, .int p2] (Wr G s)) (va_Qi Q (fun u t => Wr G u t) (kF G)) 0 0 (kF G) := by
  refine Met.ofW (cc := cX0_ofDeed) (maxL := 3) (ret := (some .int)) (by decide) rfl ?_
  intro p e s0 m args below meth c s₁ B hml hv
  obtain ⟨rfl, hw⟩ := hv
  exact wb_of [.ref (kB G + 0), .int p1, .int p2] (Nat.le_of_ble_eq_true rfl) hw.1 rfl (e_X0_ofDeed (cx_of g B hml rfl hw) hph p1 p2 s Q h)
theorem e_X0_isSo {x : CT} {G : GT} (X : Cx x G cX0_isSo 3 RX0 (some .int) rm_X0_isSo) (hph : kP G = 1) (p1 : Int32) (p2 : Int32) (s : PS) (Q : Int32 → PS → Prop) (h : w_X0_isSo G p1 p2 s Q) : WB x G 3 (QfI x G 0 0 Q) 0 0 s 0 [(0, .ref (kB G + 0)), (1, .int p1), (2, .int p2)] [] := by
  unfold w_X0_isSo at h
  refine r_aload_n X 0 dX0_isSo_0 rfl rfl ?_
  refine r_iload_n X 1 dX0_isSo_1 rfl rfl ?_
  refine r_ci X (r_okVL (As := [.int p1]) (rest := []) X (m_X0_isJudge (xl x) G X.2.2.2.2.1 hph p1 s _ h) (cl_X0_231 X ⟨(Nat.le_of_ble_eq_true rfl), (Nat.le_of_ble_eq_true rfl)⟩) hph 0 ly_0 rfl rfl rfl rfl (Nat.le_of_ble_eq_true rfl) dX0_isSo_2 ⟨Nat.le_of_ble_eq_true rfl, Nat.le_of_ble_eq_true rfl⟩) (fun r2 s1 h => ?_)
  obtain ⟨z3, h⟩ := h
  refine r_if_eq X 16 dX0_isSo_5 (by decide) (fun c4 => ?_) (fun c4 => ?_)
  · replace h := h.1 c4
    refine r_iconst (v := (-1)) X dX0_isSo_16 rfl ?_
    refine r_goto X 34 dX0_isSo_17 (by decide) ?_
    exact r_iret X h (Nat.le_of_ble_eq_true rfl) (Nat.le_of_ble_eq_true rfl) dX0_isSo_34
  · replace h := h.2 c4
    refine r_aload_n X 0 dX0_isSo_8 rfl rfl ?_
    refine r_iload_n X 2 dX0_isSo_9 rfl rfl ?_
    refine r_ci X (r_okVL (As := [.int p2]) (rest := []) X (m_X0_isHeart (xl x) G X.2.2.2.2.1 hph p2 s1 _ h) (cl_X0_84 X ⟨(Nat.le_of_ble_eq_true rfl), (Nat.le_of_ble_eq_true rfl)⟩) hph 0 ly_0 rfl rfl rfl rfl (Nat.le_of_ble_eq_true rfl) dX0_isSo_10 ⟨Nat.le_of_ble_eq_true rfl, Nat.le_of_ble_eq_true rfl⟩) (fun r6 s5 h => ?_)
    obtain ⟨z7, h⟩ := h
    refine r_if_ne X 20 dX0_isSo_13 (by decide) (fun c8 => ?_) (fun c8 => ?_)
    · replace h := h.2 c8
      refine r_aload_n X 0 dX0_isSo_20 rfl rfl ?_
      refine r_iload_n X 1 dX0_isSo_21 rfl rfl ?_
      refine r_iload_n X 2 dX0_isSo_22 rfl rfl ?_
      refine r_ci X (r_okVL (As := [.int p1, .int p2]) (rest := []) X (m_X0_isSoOf (xl x) G X.2.2.2.2.1 hph p1 p2 s5 _ h) (cl_X0_316 X ⟨(Nat.le_of_ble_eq_true rfl), (Nat.le_of_ble_eq_true rfl)⟩) hph 0 ly_0 rfl rfl rfl rfl (Nat.le_of_ble_eq_true rfl) dX0_isSo_23 ⟨Nat.le_of_ble_eq_true rfl, Nat.le_of_ble_eq_true rfl⟩) (fun r10 s9 h => ?_)
      obtain ⟨z11, h⟩ := h
      have hJ : WB x G 3 (QfI x G 0 0 Q) 0 0 s9 34 [(0, .ref (kB G + 0)), (1, .int p1), (2, .int p2)] [.int (if r10 = 0 then 0 else 1 : Int32)] := by
        exact r_iret X h (Nat.le_of_ble_eq_true rfl) (Nat.le_of_ble_eq_true rfl) dX0_isSo_34
      refine r_if_eq X 33 dX0_isSo_26 (by decide) (fun c12 => ?_) (fun c12 => ?_)
      · rw [if_pos c12] at hJ
        refine r_iconst (v := 0) X dX0_isSo_33 rfl ?_
        exact hJ
      · rw [if_neg c12] at hJ
        refine r_iconst (v := 1) X dX0_isSo_29 rfl ?_
        refine r_goto X 34 dX0_isSo_30 (by decide) ?_
        exact hJ
    · replace h := h.1 c8
      refine r_iconst (v := (-1)) X dX0_isSo_16 rfl ?_
      refine r_goto X 34 dX0_isSo_17 (by decide) ?_
      exact r_iret X h (Nat.le_of_ble_eq_true rfl) (Nat.le_of_ble_eq_true rfl) dX0_isSo_34
theorem m_X0_isSo (l : Launch) (G : GT) (g : GK G) (hph : kP G = 1) (p1 : Int32) (p2 : Int32) (s : PS) (Q : Int32 → PS → Prop) (h : w_X0_isSo G p1 p2 s Q) : Met l yX0_isSo (ws_ yX0_isSo cX0_isSo 3 (some .int)) rm_X0_isSo (va_Pc [.ref (kB G + 0), .int p1, .int p2] (Wr G s)) (va_Qi Q (fun u t => Wr G u t) (kF G)) 0 0 (kF G) := by
  refine Met.ofW (cc := cX0_isSo) (maxL := 3) (ret := (some .int)) (by decide) rfl ?_
  intro p e s0 m args below meth c s₁ B hml hv
  obtain ⟨rfl, hw⟩ := hv
  exact wb_of [.ref (kB G + 0), .int p1, .int p2] (Nat.le_of_ble_eq_true rfl) hw.1 rfl (e_X0_isSo (cx_of g B hml rfl hw) hph p1 p2 s Q h)
theorem e_X0_book {x : CT} {G : GT} (X : Cx x G cX0_book 3 RX0 (some .int) rm_X0_book) (hph : kP G = 1) (p1 : Int32) (p2 : Int32) (s : PS) (Q : Int32 → PS → Prop) (h : w_X0_book G p1 p2 s Q) : WB x G 3 (QfI x G 0 0 Q) 0 0 s 0 [(0, .ref (kB G + 0)), (1, .int p1), (2, .int p2)] [] := by
  unfold w_X0_book at h
  refine r_iload_n X 1 dX0_book_0 rfl rfl ?_
  refine r_iconst (v := (-1)) X dX0_book_1 rfl ?_
  refine r_ic_ne X 16 dX0_book_2 (by decide) (fun c1 => ?_) (fun c1 => ?_)
  · replace h := h.2 c1
    refine r_iload_n X 1 dX0_book_16 rfl rfl ?_
    refine r_iconst (v := 0) X dX0_book_17 rfl ?_
    refine r_aload_n X 0 dX0_book_18 rfl rfl ?_
    refine gr_X0_12 X hph 0 0 1 ly_0 rfl rfl dX0_book_19 ?_
    refine gr_X0_203 X hph 1 1 5 ly_1 rfl rfl dX0_book_22 ?_
    refine r_bipush (v := 44) X dX0_book_25 rfl ?_
    refine r_ialdL X hph 5 195 ly_5 tn_44 il_44_195 dX0_book_27 ?_
    refine r_iconst (v := 1) X dX0_book_28 rfl ?_
    refine r_isub X dX0_book_29 ?_
    refine r_ci X (r_okS (As := [.int p1, .int 0, .int ((gI s (kB G + 5) 44) - 1)]) (rest := []) X (m_X0_in (xl x) G X.2.2.2.2.1 p1 0 ((gI s (kB G + 5) 44) - 1) s _ h) (cl_X0_77 X ⟨(Nat.le_of_ble_eq_true rfl), (Nat.le_of_ble_eq_true rfl)⟩) rfl rfl (Nat.le_of_ble_eq_true rfl) dX0_book_30 ⟨Nat.le_of_ble_eq_true rfl, Nat.le_of_ble_eq_true rfl⟩) (fun r3 s2 h => ?_)
    obtain ⟨z4, h⟩ := h
    refine r_if_eq X 64 dX0_book_33 (by decide) (fun c5 => ?_) (fun c5 => ?_)
    · replace h := h.1 c5
      refine r_ldc X q842 dX0_book_64 ?_
      exact r_iret X h (Nat.le_of_ble_eq_true rfl) (Nat.le_of_ble_eq_true rfl) dX0_book_66
    · replace h := h.2 c5
      refine r_iload_n X 2 dX0_book_36 rfl rfl ?_
      refine r_iconst (v := 0) X dX0_book_37 rfl ?_
      refine r_iconst (v := 4) X dX0_book_38 rfl ?_
      refine r_ci X (r_okS (As := [.int p2, .int 0, .int 4]) (rest := []) X (m_X0_in (xl x) G X.2.2.2.2.1 p2 0 4 s2 _ h) (cl_X0_77 X ⟨(Nat.le_of_ble_eq_true rfl), (Nat.le_of_ble_eq_true rfl)⟩) rfl rfl (Nat.le_of_ble_eq_true rfl) dX0_book_39 ⟨Nat.le_of_ble_eq_true rfl, Nat.le_of_ble_eq_true rfl⟩) (fun r7 s6 h => ?_)
      obtain ⟨z8, h⟩ := h
      refine r_if_eq X 64 dX0_book_42 (by decide) (fun c9 => ?_) (fun c9 => ?_)
      · replace h := h.1 c9
        refine r_ldc X q842 dX0_book_64 ?_
        exact r_iret X h (Nat.le_of_ble_eq_true rfl) (Nat.le_of_ble_eq_true rfl) dX0_book_66
      · replace h := h.2 c9
        refine r_aload_n X 0 dX0_book_45 rfl rfl ?_
        refine gr_X0_12 X hph 0 0 1 ly_0 rfl rfl dX0_book_46 ?_
        refine gr_X0_203 X hph 1 1 5 ly_1 rfl rfl dX0_book_49 ?_
        refine r_bipush (v := 45) X dX0_book_52 rfl ?_
        refine r_iconst (v := 5) X dX0_book_54 rfl ?_
        refine r_iload_n X 1 dX0_book_55 rfl rfl ?_
        refine r_imul X dX0_book_56 ?_
        refine r_iadd X dX0_book_57 ?_
        refine r_iload_n X 2 dX0_book_58 rfl rfl ?_
        refine r_iadd X dX0_book_59 ?_
        obtain ⟨g10, h⟩ := h
        refine r_ialdL X hph 5 195 ly_5 rfl g10 dX0_book_60 ?_
        refine r_goto X 66 dX0_book_61 (by decide) ?_
        exact r_iret X h (Nat.le_of_ble_eq_true rfl) (Nat.le_of_ble_eq_true rfl) dX0_book_66
  · replace h := h.1 c1
    refine r_aload_n X 0 dX0_book_5 rfl rfl ?_
    refine gr_X0_12 X hph 0 0 1 ly_0 rfl rfl dX0_book_6 ?_
    refine gr_X0_203 X hph 1 1 5 ly_1 rfl rfl dX0_book_9 ?_
    refine r_bipush (v := 44) X dX0_book_12 rfl ?_
    refine r_ialdL X hph 5 195 ly_5 tn_44 il_44_195 dX0_book_14 ?_
    exact r_iret X h (Nat.le_of_ble_eq_true rfl) (Nat.le_of_ble_eq_true rfl) dX0_book_15
theorem m_X0_book (l : Launch) (G : GT) (g : GK G) (hph : kP G = 1) (p1 : Int32) (p2 : Int32) (s : PS) (Q : Int32 → PS → Prop) (h : w_X0_book G p1 p2 s Q) : Met l yX0_book (ws_ yX0_book cX0_book 3 (some .int)) rm_X0_book (va_Pc [.ref (kB G + 0), .int p1, .int p2] (Wr G s)) (va_Qi Q (fun u t => Wr G u t) (kF G)) 0 0 (kF G) := by
  refine Met.ofW (cc := cX0_book) (maxL := 3) (ret := (some .int)) (by decide) rfl ?_
  intro p e s0 m args below meth c s₁ B hml hv
  obtain ⟨rfl, hw⟩ := hv
  exact wb_of [.ref (kB G + 0), .int p1, .int p2] (Nat.le_of_ble_eq_true rfl) hw.1 rfl (e_X0_book (cx_of g B hml rfl hw) hph p1 p2 s Q h)
theorem tl_X0_canOrder_17 {x : CT} {G : GT} (X : Cx x G cX0_canOrder 4 RX0 (some .boolean) rm_X0_canOrder) (hph : kP G = 1) (Q : Int32 → PS → Prop) (v2 : Int32) : ∀ (n : Nat) (v3 : Int32) (s : PS) (h : l_X0_canOrder_17 G Q v2 n v3 s), WB x G 4 (QfI x G 0 0 (fun r u => (r = 0 ∨ r = 1) ∧ Q r u)) 0 0 s 17 [(0, .ref (kB G + 0)), (2, .int v2), (3, .int v3)] [] := by
  intro n
  induction n with
  | zero =>
    intro v3 s h
    exact False.elim h
  | succ n ih =>
    intro v3 s h
    unfold l_X0_canOrder_17 at h
    refine r_iload_n X 2 dX0_canOrder_17 rfl rfl ?_
    refine r_aload_n X 0 dX0_canOrder_18 rfl rfl ?_
    refine gl_X0_307 X hph 0 ly_0 dX0_canOrder_19 ?_
    refine r_ic_ge X 47 dX0_canOrder_22 (by decide) (fun c1 => ?_) (fun c1 => ?_)
    · replace h := h.1 c1
      refine r_aload_n X 0 dX0_canOrder_47 rfl rfl ?_
      refine gl_X0_307 X hph 0 ly_0 dX0_canOrder_48 ?_
      refine r_iload_n X 1 dX0_canOrder_51 rfl rfl ?_
      have hJ : WB x G 4 (QfI x G 0 0 (fun r u => (r = 0 ∨ r = 1) ∧ Q r u)) 0 0 s 60 [(0, .ref (kB G + 0)), (2, .int v2), (3, .int v3)] [.int (if v2 < (gI s (kB G + 0) 8) then 0 else 1 : Int32)] := by
        exact r_zret X (by (repeat' split) <;> first | exact Or.inl rfl | exact Or.inr rfl) h (Nat.le_of_ble_eq_true rfl) (Nat.le_of_ble_eq_true rfl) dX0_canOrder_60
      refine r_ic_gt X 59 dX0_canOrder_52 (by decide) (fun c2 => ?_) (fun c2 => ?_)
      · rw [if_pos c2] at hJ
        refine r_iconst (v := 0) X dX0_canOrder_59 rfl ?_
        exact hJ
      · rw [if_neg c2] at hJ
        refine r_iconst (v := 1) X dX0_canOrder_55 rfl ?_
        refine r_goto X 60 dX0_canOrder_56 (by decide) ?_
        exact hJ
    · replace h := h.2 c1
      refine r_aload_n X 0 dX0_canOrder_25 rfl rfl ?_
      refine gr_X0_37 X hph 0 0 160 ly_0 rfl rfl dX0_canOrder_26 ?_
      refine r_iload_n X 2 dX0_canOrder_29 rfl rfl ?_
      refine r_aload_n X 0 dX0_canOrder_30 rfl rfl ?_
      refine r_aload_n X 0 dX0_canOrder_31 rfl rfl ?_
      refine gr_X0_34 X hph 0 0 159 ly_0 rfl rfl dX0_canOrder_32 ?_
      refine r_iload_n X 2 dX0_canOrder_35 rfl rfl ?_
      obtain ⟨g3, h⟩ := h
      refine r_ialdL X hph 159 24 ly_159 rfl g3 dX0_canOrder_36 ?_
      refine r_ci X (r_okVL (As := [.int (gI s (kB G + 159) v3.toNatClampNeg)]) (rest := [.int v3, .ref (kB G + 160)]) X (m_X0_weightOf (xl x) G X.2.2.2.2.1 hph (gI s (kB G + 159) v3.toNatClampNeg) s _ h) (cl_X0_181 X ⟨(Nat.le_of_ble_eq_true rfl), (Nat.le_of_ble_eq_true rfl)⟩) hph 0 ly_0 rfl rfl rfl rfl (Nat.le_of_ble_eq_true rfl) dX0_canOrder_37 ⟨Nat.le_of_ble_eq_true rfl, Nat.le_of_ble_eq_true rfl⟩) (fun r5 s4 h => ?_)
      refine r_iastL X hph 160 24 ly_160 rfl g3 dX0_canOrder_40 (fun s6 e7 => ?_)
      replace h := h s6 e7
      refine r_iinc (lv' := [(3, .int (v3 + 1)), (0, .ref (kB G + 0)), (2, .int v2)]) X 2 dX0_canOrder_41 rfl rfl (Nat.le_of_ble_eq_true rfl) rfl ?_
      refine r_goto X 17 dX0_canOrder_44 (by decide) ?_
      refine r_sub [1, 2, 0] rfl ?_
      exact ih (v3 + 1) s6 h
theorem e_X0_canOrder {x : CT} {G : GT} (X : Cx x G cX0_canOrder 4 RX0 (some .boolean) rm_X0_canOrder) (hph : kP G = 1) (p1 : Int32) (p2 : Int32) (s : PS) (Q : Int32 → PS → Prop) (h : w_X0_canOrder G p1 p2 s Q) : WB x G 4 (QfI x G 0 0 (fun r u => (r = 0 ∨ r = 1) ∧ Q r u)) 0 0 s 0 [(0, .ref (kB G + 0)), (1, .int p1), (2, .int p2)] [] := by
  unfold w_X0_canOrder at h
  refine r_aload_n X 0 dX0_canOrder_0 rfl rfl ?_
  refine r_iload_n X 1 dX0_canOrder_1 rfl rfl ?_
  refine r_ci X (r_okVL (As := [.int p1]) (rest := []) X (m_X0_isHeart (xl x) G X.2.2.2.2.1 hph p1 s _ h) (cl_X0_84 X ⟨(Nat.le_of_ble_eq_true rfl), (Nat.le_of_ble_eq_true rfl)⟩) hph 0 ly_0 rfl rfl rfl rfl (Nat.le_of_ble_eq_true rfl) dX0_canOrder_2 ⟨Nat.le_of_ble_eq_true rfl, Nat.le_of_ble_eq_true rfl⟩) (fun r2 s1 h => ?_)
  obtain ⟨z3, h⟩ := h
  refine r_if_ne X 10 dX0_canOrder_5 (by decide) (fun c4 => ?_) (fun c4 => ?_)
  · replace h := h.2 c4
    refine r_aload_n X 0 dX0_canOrder_10 rfl rfl ?_
    refine r_iload_n X 1 dX0_canOrder_11 rfl rfl ?_
    refine r_cv X (r_okVL (As := [.int p1]) (rest := []) X (m_X0_laysMine (xl x) G X.2.2.2.2.1 hph p1 s1 _ h) (cl_X0_313 X ⟨(Nat.le_of_ble_eq_true rfl), (Nat.le_of_ble_eq_true rfl)⟩) hph 0 ly_0 rfl rfl rfl rfl (Nat.le_of_ble_eq_true rfl) dX0_canOrder_12 ⟨Nat.le_of_ble_eq_true rfl, Nat.le_of_ble_eq_true rfl⟩) (fun s5 h => ?_)
    refine r_iconst (v := 0) X dX0_canOrder_15 rfl ?_
    refine r_istore_n (lv' := [(3, .int 0), (0, .ref (kB G + 0)), (1, .int p1), (2, .int p2)]) X dX0_canOrder_16 rfl (Nat.le_of_ble_eq_true rfl) rfl ?_
    refine r_sub [1, 3, 0] rfl ?_
    obtain ⟨n6, h⟩ := h
    exact tl_X0_canOrder_17 X hph Q p2 n6 0 s5 h
  · replace h := h.1 c4
    refine r_iconst (v := 0) X dX0_canOrder_8 rfl ?_
    exact r_zret X (Or.inl rfl) h (Nat.le_of_ble_eq_true rfl) (Nat.le_of_ble_eq_true rfl) dX0_canOrder_9
theorem m_X0_canOrder (l : Launch) (G : GT) (g : GK G) (hph : kP G = 1) (p1 : Int32) (p2 : Int32) (s : PS) (Q : Int32 → PS → Prop) (h : w_X0_canOrder G p1 p2 s Q) : Met l yX0_canOrder (ws_ yX0_canOrder cX0_canOrder 4 (some .boolean)) rm_X0_canOrder (va_Pc [.ref (kB G + 0), .int p1, .int p2] (Wr G s)) (va_Qi (fun r u => (r = 0 ∨ r = 1) ∧ Q r u) (fun u t => Wr G u t) (kF G)) 0 0 (kF G) := by
  refine Met.ofW (cc := cX0_canOrder) (maxL := 4) (ret := (some .boolean)) (by decide) rfl ?_
  intro p e s0 m args below meth c s₁ B hml hv
  obtain ⟨rfl, hw⟩ := hv
  exact wb_of [.ref (kB G + 0), .int p1, .int p2] (Nat.le_of_ble_eq_true rfl) hw.1 rfl (e_X0_canOrder (cx_of g B hml rfl hw) hph p1 p2 s Q h)
theorem tb_X0_goes_78 {x : CT} {G : GT} {d : Nat} (X : Cx x G cX0_goes 9 RX0 none (rG (d + 1))) (hph : kP G = 1) (RC : Int32 → Int32 → Int32 → Int32 → Int32 → Int32 → PS → (PS → Prop) → Prop) (hRC : ∀ (p1 : Int32) (p2 : Int32) (p3 : Int32) (p4 : Int32) (p5 : Int32) (p6 : Int32) (s : PS) (Q : PS → Prop), RC p1 p2 p3 p4 p5 p6 s Q → Met (xl x) yX0_goes (ws_ yX0_goes cX0_goes 9 none) (rG d) (va_Pc [.ref (kB G + 0), .int p1, .int p2, .int p3, .int p4, .int p5, .int p6] (Wr G s)) (va_Qv Q (fun u t => Wr G u t) (kF G)) 0 0 (kF G)) (Q : PS → Prop) (s : PS) (h : b_X0_goes_78 G RC Q s) : WB x G 9 (QfV x G 0 0 Q) 0 0 s 78 [(0, .ref (kB G + 0))] [] := by
  unfold b_X0_goes_78 at h
  refine r_aload_n X 0 dX0_goes_78 rfl rfl ?_
  refine r_iconst (v := 1) X dX0_goes_79 rfl ?_
  refine pl_X0_331 X hph 0 ly_0 (Or.inr rfl) dX0_goes_80 (fun s1 e2 => ?_)
  replace h := h s1 e2
  refine r_aload_n X 0 dX0_goes_83 rfl rfl ?_
  refine gr_X0_40 X hph 0 0 161 ly_0 rfl rfl dX0_goes_84 ?_
  refine r_iconst (v := 0) X dX0_goes_87 rfl ?_
  refine r_aload_n X 0 dX0_goes_88 rfl rfl ?_
  refine gr_X0_43 X hph 0 0 162 ly_0 rfl rfl dX0_goes_89 ?_
  refine r_iconst (v := 0) X dX0_goes_92 rfl ?_
  refine r_aload_n X 0 dX0_goes_93 rfl rfl ?_
  refine gl_X0_307 X hph 0 ly_0 dX0_goes_94 ?_
  obtain ⟨g3, h⟩ := h
  obtain ⟨g4, h⟩ := h
  obtain ⟨g5, h⟩ := h
  obtain ⟨g6, h⟩ := h
  obtain ⟨g7, h⟩ := h
  obtain ⟨g8, h⟩ := h
  refine r_cpyI X q1183 q235 q234 q139 g3 g4 (by decide) (by decide) g5 g6 g7 g8 (by simp only [rG] <;> omega) (by simp only [rG] <;> (have : nativeFrameWords "java/lang/System" "arraycopy" 5 ≤ 100 := by decide) <;> omega) (Nat.le_of_ble_eq_true rfl) dX0_goes_97 (fun s9 e10 => ?_)
  replace h := h s9 e10
  exact r_vret X h (Nat.le_of_ble_eq_true rfl) (Nat.le_of_ble_eq_true rfl) dX0_goes_100
theorem tl_X0_goes_104 {x : CT} {G : GT} {d : Nat} (X : Cx x G cX0_goes 9 RX0 none (rG (d + 1))) (hph : kP G = 1) (RC : Int32 → Int32 → Int32 → Int32 → Int32 → Int32 → PS → (PS → Prop) → Prop) (hRC : ∀ (p1 : Int32) (p2 : Int32) (p3 : Int32) (p4 : Int32) (p5 : Int32) (p6 : Int32) (s : PS) (Q : PS → Prop), RC p1 p2 p3 p4 p5 p6 s Q → Met (xl x) yX0_goes (ws_ yX0_goes cX0_goes 9 none) (rG d) (va_Pc [.ref (kB G + 0), .int p1, .int p2, .int p3, .int p4, .int p5, .int p6] (Wr G s)) (va_Qv Q (fun u t => Wr G u t) (kF G)) 0 0 (kF G)) (Q : PS → Prop) (v1 : Int32) (v2 : Int32) (v3 : Int32) (v4 : Int32) (v5 : Int32) (v6 : Int32) : ∀ (n : Nat) (v7 : Int32) (s : PS) (h : l_X0_goes_104 G RC Q v1 v2 v3 v4 v5 v6 n v7 s), WB x G 9 (QfV x G 0 0 Q) 0 0 s 104 [(0, .ref (kB G + 0)), (1, .int v1), (2, .int v2), (3, .int v3), (4, .int v4), (5, .int v5), (6, .int v6), (7, .int v7)] [] := by
  intro n
  induction n with
  | zero =>
    intro v7 s h
    exact False.elim h
  | succ n ih =>
    intro v7 s h
    unfold l_X0_goes_104 at h
    refine r_iload X 7 dX0_goes_104 rfl ?_
    refine r_aload_n X 0 dX0_goes_106 rfl rfl ?_
    refine gl_X0_307 X hph 0 ly_0 dX0_goes_107 ?_
    refine r_ic_ge X 203 dX0_goes_110 (by decide) (fun c1 => ?_) (fun c1 => ?_)
    · replace h := h.1 c1
      exact r_vret X h (Nat.le_of_ble_eq_true rfl) (Nat.le_of_ble_eq_true rfl) dX0_goes_203
    · replace h := h.2 c1
      refine r_iload X 4 dX0_goes_113 rfl ?_
      refine r_iload X 7 dX0_goes_115 rfl ?_
      refine r_ci X (r_okS (As := [.int v4, .int v7]) (rest := []) X (m_X0_has (xl x) G X.2.2.2.2.1 v4 v7 s _ h) (cl_X0_174 X ⟨(by simp only [rG, rm_X0_has] <;> omega), (by simp only [rG, rm_X0_has] <;> omega)⟩) rfl rfl (Nat.le_of_ble_eq_true rfl) dX0_goes_117 ⟨Nat.le_of_ble_eq_true rfl, Nat.le_of_ble_eq_true rfl⟩) (fun r3 s2 h => ?_)
      obtain ⟨z4, h⟩ := h
      refine r_if_eq X 126 dX0_goes_120 (by decide) (fun c5 => ?_) (fun c5 => ?_)
      · replace h := h.1 c5
        refine r_aload_n X 0 dX0_goes_126 rfl rfl ?_
        refine gr_X0_40 X hph 0 0 161 ly_0 rfl rfl dX0_goes_127 ?_
        refine r_iload_n X 3 dX0_goes_130 rfl rfl ?_
        refine r_aload_n X 0 dX0_goes_131 rfl rfl ?_
        refine gr_X0_34 X hph 0 0 159 ly_0 rfl rfl dX0_goes_132 ?_
        refine r_iload X 7 dX0_goes_135 rfl ?_
        obtain ⟨g6, h⟩ := h
        refine r_ialdL X hph 159 24 ly_159 rfl g6 dX0_goes_137 ?_
        obtain ⟨g7, h⟩ := h
        refine r_iastL X hph 161 7 ly_161 rfl g7 dX0_goes_138 (fun s8 e9 => ?_)
        replace h := h s8 e9
        refine r_iload X 5 dX0_goes_139 rfl ?_
        refine r_aload_n X 0 dX0_goes_141 rfl rfl ?_
        refine gr_X0_37 X hph 0 0 160 ly_0 rfl rfl dX0_goes_142 ?_
        refine r_iload X 7 dX0_goes_145 rfl ?_
        refine r_ialdL X hph 160 24 ly_160 rfl g6 dX0_goes_147 ?_
        refine r_iadd X dX0_goes_148 ?_
        refine r_nmI (fun y10 e11 => ?_)
        replace h := h y10 e11
        refine r_istore (lv' := [(8, .int y10), (0, .ref (kB G + 0)), (1, .int v1), (2, .int v2), (3, .int v3), (4, .int v4), (5, .int v5), (6, .int v6), (7, .int v7)]) X dX0_goes_149 (Nat.le_of_ble_eq_true rfl) rfl ?_
        refine r_aload_n X 1 dX0_goes_151 rfl rfl ?_
        refine r_iload_n X 2 dX0_goes_152 rfl rfl ?_
        refine r_iload_n X 3 dX0_goes_153 rfl rfl ?_
        refine r_iload_n X 4 dX0_goes_154 rfl rfl ?_
        refine r_iconst (v := 1) X dX0_goes_155 rfl ?_
        refine r_iadd X dX0_goes_156 ?_
        refine r_iload X 5 dX0_goes_157 rfl ?_
        refine r_iconst (v := 1) X dX0_goes_159 rfl ?_
        refine r_iload X 8 dX0_goes_160 rfl ?_
        refine r_ishl X dX0_goes_162 ?_
        refine r_ior X dX0_goes_163 ?_
        refine r_iload X 0 dX0_goes_164 rfl ?_
        refine r_iload X 7 dX0_goes_166 rfl ?_
        refine r_iload X 0 dX0_goes_168 rfl ?_
        refine r_isub X dX0_goes_170 ?_
        refine r_mabs X q1176 q863 q150 q864 (by simp only [rG] <;> omega) (by simp only [rG] <;> omega) (Nat.le_of_ble_eq_true rfl) ⟨Nat.le_of_ble_eq_true rfl, Nat.le_of_ble_eq_true rfl⟩ dX0_goes_171 ?_
        refine r_aload_n X 1 dX0_goes_174 rfl rfl ?_
        refine r_iload_n X 2 dX0_goes_175 rfl rfl ?_
        refine r_iload X 7 dX0_goes_176 rfl ?_
        refine r_iload_n X 4 dX0_goes_178 rfl rfl ?_
        refine r_iconst (v := 1) X dX0_goes_179 rfl ?_
        refine r_iadd X dX0_goes_180 ?_
        refine r_ci X (r_okVL (As := [.int v1, .int v6, .int (v3 + 1)]) (rest := [.int (jab (v6 - y10)), .int y10, .int (v4 ||| ((1 : Int32) <<< (v7 &&& 31))), .int (v3 + 1), .int v2, .int v1, .ref (kB G + 0)]) X (m_X0_sticksOf (xl x) G X.2.2.2.2.1 hph v1 v6 (v3 + 1) s8 _ h) (cl_X0_355 X ⟨(by simp only [rG, rm_X0_sticksOf] <;> omega), (by simp only [rG, rm_X0_sticksOf] <;> omega)⟩) hph 0 ly_0 rfl rfl rfl rfl (Nat.le_of_ble_eq_true rfl) dX0_goes_181 ⟨Nat.le_of_ble_eq_true rfl, Nat.le_of_ble_eq_true rfl⟩) (fun r13 s12 h => ?_)
        have hJ : WB x G 9 (QfV x G 0 0 Q) 0 0 s12 194 [(8, .int y10), (0, .ref (kB G + 0)), (1, .int v1), (2, .int v2), (3, .int v3), (4, .int v4), (5, .int v5), (6, .int v6), (7, .int v7)] [.int (if (jab (v6 - y10)) ≤ r13 then v6 else y10 : Int32), .int y10, .int (v4 ||| ((1 : Int32) <<< (v7 &&& 31))), .int (v3 + 1), .int v2, .int v1, .ref (kB G + 0)] := by
          refine r_cv X (r_okVL (As := [.int v1, .int v2, .int (v3 + 1), .int (v4 ||| ((1 : Int32) <<< (v7 &&& 31))), .int y10, .int (if (jab (v6 - y10)) ≤ r13 then v6 else y10 : Int32)]) (rest := []) X (hRC v1 v2 (v3 + 1) (v4 ||| ((1 : Int32) <<< (v7 &&& 31))) y10 (if (jab (v6 - y10)) ≤ r13 then v6 else y10 : Int32) s12 _ h) (cl_X0_359 (d := d) X ⟨(by simp only [rG] <;> omega), (by simp only [rG] <;> omega)⟩) hph 0 ly_0 rfl rfl rfl rfl (Nat.le_of_ble_eq_true rfl) dX0_goes_194 ⟨Nat.le_of_ble_eq_true rfl, Nat.le_of_ble_eq_true rfl⟩) (fun s15 h => ?_)
          refine r_iinc (lv' := [(7, .int (v7 + 1)), (8, .int y10), (0, .ref (kB G + 0)), (1, .int v1), (2, .int v2), (3, .int v3), (4, .int v4), (5, .int v5), (6, .int v6)]) X 8 dX0_goes_197 rfl rfl (Nat.le_of_ble_eq_true rfl) rfl ?_
          refine r_goto X 104 dX0_goes_200 (by decide) ?_
          refine r_sub [2, 3, 4, 5, 6, 7, 8, 0] rfl ?_
          exact ih (v7 + 1) s15 h
        refine r_ic_le X 192 dX0_goes_184 (by decide) (fun c14 => ?_) (fun c14 => ?_)
        · rw [if_pos c14] at hJ
          refine r_iload X 7 dX0_goes_192 rfl ?_
          exact hJ
        · rw [if_neg c14] at hJ
          refine r_iload X 0 dX0_goes_187 rfl ?_
          refine r_goto X 194 dX0_goes_189 (by decide) ?_
          exact hJ
      · replace h := h.2 c5
        refine r_goto X 197 dX0_goes_123 (by decide) ?_
        refine r_iinc (lv' := [(7, .int (v7 + 1)), (0, .ref (kB G + 0)), (1, .int v1), (2, .int v2), (3, .int v3), (4, .int v4), (5, .int v5), (6, .int v6)]) X 7 dX0_goes_197 rfl rfl (Nat.le_of_ble_eq_true rfl) rfl ?_
        refine r_goto X 104 dX0_goes_200 (by decide) ?_
        refine r_sub [1, 2, 3, 4, 5, 6, 7, 0] rfl ?_
        exact ih (v7 + 1) s2 h
theorem tb_X0_goes_12 {x : CT} {G : GT} {d : Nat} (X : Cx x G cX0_goes 9 RX0 none (rG (d + 1))) (hph : kP G = 1) (RC : Int32 → Int32 → Int32 → Int32 → Int32 → Int32 → PS → (PS → Prop) → Prop) (hRC : ∀ (p1 : Int32) (p2 : Int32) (p3 : Int32) (p4 : Int32) (p5 : Int32) (p6 : Int32) (s : PS) (Q : PS → Prop), RC p1 p2 p3 p4 p5 p6 s Q → Met (xl x) yX0_goes (ws_ yX0_goes cX0_goes 9 none) (rG d) (va_Pc [.ref (kB G + 0), .int p1, .int p2, .int p3, .int p4, .int p5, .int p6] (Wr G s)) (va_Qv Q (fun u t => Wr G u t) (kF G)) 0 0 (kF G)) (Q : PS → Prop) (v1 : Int32) (v2 : Int32) (v3 : Int32) (v4 : Int32) (v5 : Int32) (v6 : Int32) (s : PS) (h : b_X0_goes_12 G RC Q v1 v2 v3 v4 v5 v6 s) : WB x G 9 (QfV x G 0 0 Q) 0 0 s 12 [(0, .ref (kB G + 0)), (1, .int v1), (2, .int v2), (3, .int v3), (4, .int v4), (5, .int v5), (6, .int v6)] [] := by
  unfold b_X0_goes_12 at h
  refine r_iload_n X 3 dX0_goes_12 rfl rfl ?_
  refine r_aload_n X 0 dX0_goes_13 rfl rfl ?_
  refine gl_X0_307 X hph 0 ly_0 dX0_goes_14 ?_
  refine r_ic_ne X 101 dX0_goes_17 (by decide) (fun c1 => ?_) (fun c1 => ?_)
  · replace h := h.2 c1
    refine r_iconst (v := 0) X dX0_goes_101 rfl ?_
    refine r_istore (lv' := [(7, .int 0), (0, .ref (kB G + 0)), (1, .int v1), (2, .int v2), (3, .int v3), (4, .int v4), (5, .int v5), (6, .int v6)]) X dX0_goes_102 (Nat.le_of_ble_eq_true rfl) rfl ?_
    refine r_sub [1, 2, 3, 4, 5, 6, 7, 0] rfl ?_
    obtain ⟨n12, h⟩ := h
    exact tl_X0_goes_104 X hph RC hRC Q v1 v2 v3 v4 v5 v6 n12 0 s h
  · replace h := h.1 c1
    refine r_aload_n X 0 dX0_goes_20 rfl rfl ?_
    refine r_aload_n X 0 dX0_goes_21 rfl rfl ?_
    refine gl_X0_335 X hph 0 ly_0 dX0_goes_22 ?_
    refine r_iload X 6 dX0_goes_25 rfl ?_
    refine r_mmin X q1068 q518 q150 q519 (by simp only [rG] <;> omega) (by simp only [rG] <;> omega) (Nat.le_of_ble_eq_true rfl) ⟨Nat.le_of_ble_eq_true rfl, Nat.le_of_ble_eq_true rfl⟩ dX0_goes_27 ?_
    refine pl_X0_335 X hph 0 ly_0 dX0_goes_30 (fun s2 e3 => ?_)
    replace h := h s2 e3
    refine r_aload_n X 0 dX0_goes_33 rfl rfl ?_
    refine r_aload_n X 0 dX0_goes_34 rfl rfl ?_
    refine gl_X0_338 X hph 0 ly_0 dX0_goes_35 ?_
    refine r_iload X 6 dX0_goes_38 rfl ?_
    refine r_mmax X q1182 q726 q150 q727 (by simp only [rG] <;> omega) (by simp only [rG] <;> omega) (Nat.le_of_ble_eq_true rfl) ⟨Nat.le_of_ble_eq_true rfl, Nat.le_of_ble_eq_true rfl⟩ dX0_goes_40 ?_
    refine pl_X0_338 X hph 0 ly_0 dX0_goes_43 (fun s4 e5 => ?_)
    replace h := h s4 e5
    refine r_iload_n X 2 dX0_goes_46 rfl rfl ?_
    refine r_iconst (v := 1) X dX0_goes_47 rfl ?_
    refine r_ic_ne X 63 dX0_goes_48 (by decide) (fun c6 => ?_) (fun c6 => ?_)
    · replace h := h.2 c6
      refine r_iload_n X 2 dX0_goes_63 rfl rfl ?_
      refine r_iconst (v := 2) X dX0_goes_64 rfl ?_
      refine r_ic_ne X 100 dX0_goes_65 (by decide) (fun c8 => ?_) (fun c8 => ?_)
      · replace h := h.2 c8
        exact r_vret X h (Nat.le_of_ble_eq_true rfl) (Nat.le_of_ble_eq_true rfl) dX0_goes_100
      · replace h := h.1 c8
        refine r_aload_n X 0 dX0_goes_68 rfl rfl ?_
        refine r_iload_n X 1 dX0_goes_69 rfl rfl ?_
        refine r_iload X 6 dX0_goes_70 rfl ?_
        refine r_ci X (r_okVL (As := [.int v1, .int v6]) (rest := []) X (m_X0_judgedAt (xl x) G X.2.2.2.2.1 hph v1 v6 s4 _ h) (cl_X0_235 X ⟨(by simp only [rG, rm_X0_judgedAt] <;> omega), (by simp only [rG, rm_X0_judgedAt] <;> omega)⟩) hph 0 ly_0 rfl rfl rfl rfl (Nat.le_of_ble_eq_true rfl) dX0_goes_72 ⟨Nat.le_of_ble_eq_true rfl, Nat.le_of_ble_eq_true rfl⟩) (fun r10 s9 h => ?_)
        refine r_if_eq X 100 dX0_goes_75 (by decide) (fun c11 => ?_) (fun c11 => ?_)
        · replace h := h.1 c11
          exact r_vret X h (Nat.le_of_ble_eq_true rfl) (Nat.le_of_ble_eq_true rfl) dX0_goes_100
        · replace h := h.2 c11
          refine r_sub [0] rfl ?_
          exact tb_X0_goes_78 X hph RC hRC Q s9 h
    · replace h := h.1 c6
      refine r_iload X 6 dX0_goes_51 rfl ?_
      refine r_aload_n X 0 dX0_goes_53 rfl rfl ?_
      refine gl_X0_343 X hph 0 ly_0 dX0_goes_54 ?_
      refine r_ic_ne X 100 dX0_goes_57 (by decide) (fun c7 => ?_) (fun c7 => ?_)
      · replace h := h.2 c7
        exact r_vret X h (Nat.le_of_ble_eq_true rfl) (Nat.le_of_ble_eq_true rfl) dX0_goes_100
      · replace h := h.1 c7
        refine r_goto X 78 dX0_goes_60 (by decide) ?_
        refine r_sub [0] rfl ?_
        exact tb_X0_goes_78 X hph RC hRC Q s4 h
theorem e_X0_goes {x : CT} {G : GT} {d : Nat} (X : Cx x G cX0_goes 9 RX0 none (rG (d + 1))) (hph : kP G = 1) (RC : Int32 → Int32 → Int32 → Int32 → Int32 → Int32 → PS → (PS → Prop) → Prop) (hRC : ∀ (p1 : Int32) (p2 : Int32) (p3 : Int32) (p4 : Int32) (p5 : Int32) (p6 : Int32) (s : PS) (Q : PS → Prop), RC p1 p2 p3 p4 p5 p6 s Q → Met (xl x) yX0_goes (ws_ yX0_goes cX0_goes 9 none) (rG d) (va_Pc [.ref (kB G + 0), .int p1, .int p2, .int p3, .int p4, .int p5, .int p6] (Wr G s)) (va_Qv Q (fun u t => Wr G u t) (kF G)) 0 0 (kF G)) (p1 : Int32) (p2 : Int32) (p3 : Int32) (p4 : Int32) (p5 : Int32) (p6 : Int32) (s : PS) (Q : PS → Prop) (h : w_X0_goes G RC p1 p2 p3 p4 p5 p6 s Q) : WB x G 9 (QfV x G 0 0 Q) 0 0 s 0 [(0, .ref (kB G + 0)), (1, .int p1), (2, .int p2), (3, .int p3), (4, .int p4), (5, .int p5), (6, .int p6)] [] := by
  unfold w_X0_goes at h
  refine r_iload_n X 2 dX0_goes_0 rfl rfl ?_
  refine r_if_eq X 12 dX0_goes_1 (by decide) (fun c1 => ?_) (fun c1 => ?_)
  · replace h := h.1 c1
    exact tb_X0_goes_12 X hph RC hRC Q p1 p2 p3 p4 p5 p6 s h
  · replace h := h.2 c1
    refine r_aload_n X 0 dX0_goes_4 rfl rfl ?_
    refine gl_X0_331 X hph 0 ly_0 dX0_goes_5 ?_
    refine r_if_eq X 12 dX0_goes_8 (by decide) (fun c2 => ?_) (fun c2 => ?_)
    · replace h := h.1 c2
      exact tb_X0_goes_12 X hph RC hRC Q p1 p2 p3 p4 p5 p6 s h
    · replace h := h.2 c2
      exact r_vret X h (Nat.le_of_ble_eq_true rfl) (Nat.le_of_ble_eq_true rfl) dX0_goes_11
theorem m_X0_goes (l : Launch) (G : GT) (g : GK G) (hph : kP G = 1) (d : Nat) (RC : Int32 → Int32 → Int32 → Int32 → Int32 → Int32 → PS → (PS → Prop) → Prop) (hRC : ∀ (p1 : Int32) (p2 : Int32) (p3 : Int32) (p4 : Int32) (p5 : Int32) (p6 : Int32) (s : PS) (Q : PS → Prop), RC p1 p2 p3 p4 p5 p6 s Q → Met l yX0_goes (ws_ yX0_goes cX0_goes 9 none) (rG d) (va_Pc [.ref (kB G + 0), .int p1, .int p2, .int p3, .int p4, .int p5, .int p6] (Wr G s)) (va_Qv Q (fun u t => Wr G u t) (kF G)) 0 0 (kF G)) (p1 : Int32) (p2 : Int32) (p3 : Int32) (p4 : Int32) (p5 : Int32) (p6 : Int32) (s : PS) (Q : PS → Prop) (h : w_X0_goes G RC p1 p2 p3 p4 p5 p6 s Q) : Met l yX0_goes (ws_ yX0_goes cX0_goes 9 none) (rG (d + 1)) (va_Pc [.ref (kB G + 0), .int p1, .int p2, .int p3, .int p4, .int p5, .int p6] (Wr G s)) (va_Qv Q (fun u t => Wr G u t) (kF G)) 0 0 (kF G) := by
  refine Met.ofW (cc := cX0_goes) (maxL := 9) (ret := none) (by decide) rfl ?_
  intro p e s0 m args below meth c s₁ B hml hv
  obtain ⟨rfl, hw⟩ := hv
  exact wb_of [.ref (kB G + 0), .int p1, .int p2, .int p3, .int p4, .int p5, .int p6] (Nat.le_of_ble_eq_true rfl) hw.1 rfl (e_X0_goes (cx_of g B hml rfl hw) hph RC hRC p1 p2 p3 p4 p5 p6 s Q h)
theorem mr_X0_goes (l : Launch) (G : GT) (g : GK G) (hph : kP G = 1) : ∀ (d : Nat) (p1 : Int32) (p2 : Int32) (p3 : Int32) (p4 : Int32) (p5 : Int32) (p6 : Int32) (s : PS) (Q : PS → Prop) (h : wr_X0_goes G d p1 p2 p3 p4 p5 p6 s Q), Met l yX0_goes (ws_ yX0_goes cX0_goes 9 none) (rG d) (va_Pc [.ref (kB G + 0), .int p1, .int p2, .int p3, .int p4, .int p5, .int p6] (Wr G s)) (va_Qv Q (fun u t => Wr G u t) (kF G)) 0 0 (kF G) := by
  intro d
  induction d with
  | zero =>
    intro p1 p2 p3 p4 p5 p6 s Q h
    exact False.elim h
  | succ d ih =>
    intro p1 p2 p3 p4 p5 p6 s Q h
    exact m_X0_goes l G g hph d (wr_X0_goes G d) ih p1 p2 p3 p4 p5 p6 s Q h
theorem e_X0_looks {x : CT} {G : GT} (X : Cx x G cX0_looks 4 RX0 none rm_X0_looks) (hph : kP G = 1) (p1 : Int32) (p2 : Int32) (s : PS) (Q : PS → Prop) (h : w_X0_looks G p1 p2 s Q) : WB x G 4 (QfV x G 0 0 Q) 0 0 s 0 [(0, .ref (kB G + 0)), (1, .int p1), (2, .int p2)] [] := by
  unfold w_X0_looks at h
  refine r_aload_n X 0 dX0_looks_0 rfl rfl ?_
  refine r_iconst (v := 0) X dX0_looks_1 rfl ?_
  refine pl_X0_331 X hph 0 ly_0 (Or.inl rfl) dX0_looks_2 (fun s1 e2 => ?_)
  replace h := h s1 e2
  refine r_aload_n X 0 dX0_looks_5 rfl rfl ?_
  refine r_ldc_w X q1174 dX0_looks_6 ?_
  refine pl_X0_335 X hph 0 ly_0 dX0_looks_9 (fun s3 e4 => ?_)
  replace h := h s3 e4
  refine r_aload_n X 0 dX0_looks_12 rfl rfl ?_
  refine r_ldc_w X q1175 dX0_looks_13 ?_
  refine pl_X0_338 X hph 0 ly_0 dX0_looks_16 (fun s5 e6 => ?_)
  replace h := h s5 e6
  refine r_aload_n X 0 dX0_looks_19 rfl rfl ?_
  refine gr_X0_12 X hph 0 0 1 ly_0 rfl rfl dX0_looks_20 ?_
  refine r_iload_n X 1 dX0_looks_23 rfl rfl ?_
  refine r_ci X (r_okVL (As := [.int p1]) (rest := []) X (m_X1_lentTo (xl x) G X.2.2.2.2.1 (kB G + 1) p1 s5 _ h) (cl_X0_328 X ⟨(Nat.le_of_ble_eq_true rfl), (Nat.le_of_ble_eq_true rfl)⟩) hph 1 ly_1 rfl rfl rfl rfl (Nat.le_of_ble_eq_true rfl) dX0_looks_24 ⟨Nat.le_of_ble_eq_true rfl, Nat.le_of_ble_eq_true rfl⟩) (fun r8 s7 h => ?_)
  refine r_istore_n (lv' := [(3, .int r8), (0, .ref (kB G + 0)), (1, .int p1), (2, .int p2)]) X dX0_looks_27 rfl (Nat.le_of_ble_eq_true rfl) rfl ?_
  refine r_aload_n X 1 dX0_looks_28 rfl rfl ?_
  refine r_iload_n X 2 dX0_looks_29 rfl rfl ?_
  refine r_iload_n X 3 dX0_looks_30 rfl rfl ?_
  refine r_iconst (v := 0) X dX0_looks_31 rfl ?_
  refine r_iconst (v := 0) X dX0_looks_32 rfl ?_
  refine r_iload_n X 0 dX0_looks_33 rfl rfl ?_
  refine r_iload_n X 0 dX0_looks_34 rfl rfl ?_
  refine r_mabs X q1176 q863 q150 q864 (Nat.le_of_ble_eq_true rfl) (Nat.le_of_ble_eq_true rfl) (Nat.le_of_ble_eq_true rfl) ⟨Nat.le_of_ble_eq_true rfl, Nat.le_of_ble_eq_true rfl⟩ dX0_looks_35 ?_
  refine r_aload_n X 1 dX0_looks_38 rfl rfl ?_
  refine r_iload_n X 2 dX0_looks_39 rfl rfl ?_
  refine r_iconst (v := 0) X dX0_looks_40 rfl ?_
  refine r_iconst (v := 0) X dX0_looks_41 rfl ?_
  refine r_ci X (r_okVL (As := [.int p1, .int 0, .int 0]) (rest := [.int (jab r8), .int r8, .int 0, .int 0, .int p2, .int p1, .ref (kB G + 0)]) X (m_X0_sticksOf (xl x) G X.2.2.2.2.1 hph p1 0 0 s7 _ h) (cl_X0_355 X ⟨(Nat.le_of_ble_eq_true rfl), (Nat.le_of_ble_eq_true rfl)⟩) hph 0 ly_0 rfl rfl rfl rfl (Nat.le_of_ble_eq_true rfl) dX0_looks_42 ⟨Nat.le_of_ble_eq_true rfl, Nat.le_of_ble_eq_true rfl⟩) (fun r10 s9 h => ?_)
  have hJ : WB x G 4 (QfV x G 0 0 Q) 0 0 s9 53 [(3, .int r8), (0, .ref (kB G + 0)), (1, .int p1), (2, .int p2)] [.int (if (jab r8) ≤ r10 then 0 else r8 : Int32), .int r8, .int 0, .int 0, .int p2, .int p1, .ref (kB G + 0)] := by
    obtain ⟨d12, g13, h⟩ := h
    refine r_cv X (r_okVL (As := [.int p1, .int p2, .int 0, .int 0, .int r8, .int (if (jab r8) ≤ r10 then 0 else r8 : Int32)]) (rest := []) X (mr_X0_goes (xl x) G X.2.2.2.2.1 hph d12 p1 p2 0 0 r8 (if (jab r8) ≤ r10 then 0 else r8 : Int32) s9 _ h) (cl_X0_359 (d := d12) X ⟨(by simp only [rm_X0_looks, rG] <;> omega), (by simp only [rm_X0_looks, rG] <;> omega)⟩) hph 0 ly_0 rfl rfl rfl rfl (Nat.le_of_ble_eq_true rfl) dX0_looks_53 ⟨Nat.le_of_ble_eq_true rfl, Nat.le_of_ble_eq_true rfl⟩) (fun s14 h => ?_)
    exact r_vret X h (Nat.le_of_ble_eq_true rfl) (Nat.le_of_ble_eq_true rfl) dX0_looks_56
  refine r_ic_le X 52 dX0_looks_45 (by decide) (fun c11 => ?_) (fun c11 => ?_)
  · rw [if_pos c11] at hJ
    refine r_iconst (v := 0) X dX0_looks_52 rfl ?_
    exact hJ
  · rw [if_neg c11] at hJ
    refine r_iload_n X 0 dX0_looks_48 rfl rfl ?_
    refine r_goto X 53 dX0_looks_49 (by decide) ?_
    exact hJ
theorem m_X0_looks (l : Launch) (G : GT) (g : GK G) (hph : kP G = 1) (p1 : Int32) (p2 : Int32) (s : PS) (Q : PS → Prop) (h : w_X0_looks G p1 p2 s Q) : Met l yX0_looks (ws_ yX0_looks cX0_looks 4 none) rm_X0_looks (va_Pc [.ref (kB G + 0), .int p1, .int p2] (Wr G s)) (va_Qv Q (fun u t => Wr G u t) (kF G)) 0 0 (kF G) := by
  refine Met.ofW (cc := cX0_looks) (maxL := 4) (ret := none) (by decide) rfl ?_
  intro p e s0 m args below meth c s₁ B hml hv
  obtain ⟨rfl, hw⟩ := hv
  exact wb_of [.ref (kB G + 0), .int p1, .int p2] (Nat.le_of_ble_eq_true rfl) hw.1 rfl (e_X0_looks (cx_of g B hml rfl hw) hph p1 p2 s Q h)
theorem e_X0_lightest {x : CT} {G : GT} (X : Cx x G cX0_lightest 4 RX0 (some .int) rm_X0_lightest) (hph : kP G = 1) (p1 : Int32) (p2 : Int32) (p3 : Int32) (s : PS) (Q : Int32 → PS → Prop) (h : w_X0_lightest G p1 p2 p3 s Q) : WB x G 4 (QfI x G 0 0 Q) 0 0 s 0 [(0, .ref (kB G + 0)), (1, .int p1), (2, .int p2), (3, .int p3)] [] := by
  unfold w_X0_lightest at h
  refine r_aload_n X 0 dX0_lightest_0 rfl rfl ?_
  refine r_iload_n X 1 dX0_lightest_1 rfl rfl ?_
  refine r_bipush (v := 7) X dX0_lightest_2 rfl ?_
  refine r_ci X (r_okVL (As := [.int p1, .int 7]) (rest := []) X (m_X0_canOrder (xl x) G X.2.2.2.2.1 hph p1 7 s _ h) (cl_X0_365 X ⟨(Nat.le_of_ble_eq_true rfl), (Nat.le_of_ble_eq_true rfl)⟩) hph 0 ly_0 rfl rfl rfl rfl (Nat.le_of_ble_eq_true rfl) dX0_lightest_4 ⟨Nat.le_of_ble_eq_true rfl, Nat.le_of_ble_eq_true rfl⟩) (fun r2 s1 h => ?_)
  obtain ⟨z3, h⟩ := h
  refine r_if_eq X 24 dX0_lightest_7 (by decide) (fun c4 => ?_) (fun c4 => ?_)
  · replace h := h.1 c4
    refine r_ldc X q842 dX0_lightest_24 ?_
    exact r_iret X h (Nat.le_of_ble_eq_true rfl) (Nat.le_of_ble_eq_true rfl) dX0_lightest_26
  · replace h := h.2 c4
    refine r_iload_n X 3 dX0_lightest_10 rfl rfl ?_
    refine r_iconst (v := (-1)) X dX0_lightest_11 rfl ?_
    refine r_aload_n X 0 dX0_lightest_12 rfl rfl ?_
    refine gl_X0_307 X hph 0 ly_0 dX0_lightest_13 ?_
    refine r_iconst (v := 1) X dX0_lightest_16 rfl ?_
    refine r_isub X dX0_lightest_17 ?_
    refine r_ci X (r_okS (As := [.int p3, .int (-1), .int ((gI s1 (kB G + 0) 8) - 1)]) (rest := []) X (m_X0_in (xl x) G X.2.2.2.2.1 p3 (-1) ((gI s1 (kB G + 0) 8) - 1) s1 _ h) (cl_X0_77 X ⟨(Nat.le_of_ble_eq_true rfl), (Nat.le_of_ble_eq_true rfl)⟩) rfl rfl (Nat.le_of_ble_eq_true rfl) dX0_lightest_18 ⟨Nat.le_of_ble_eq_true rfl, Nat.le_of_ble_eq_true rfl⟩) (fun r6 s5 h => ?_)
    obtain ⟨z7, h⟩ := h
    refine r_if_ne X 27 dX0_lightest_21 (by decide) (fun c8 => ?_) (fun c8 => ?_)
    · replace h := h.2 c8
      refine r_aload_n X 0 dX0_lightest_27 rfl rfl ?_
      refine r_iload_n X 1 dX0_lightest_28 rfl rfl ?_
      refine r_iconst (v := 0) X dX0_lightest_29 rfl ?_
      refine r_cv X (r_okVL (As := [.int p1, .int 0]) (rest := []) X (m_X0_looks (xl x) G X.2.2.2.2.1 hph p1 0 s5 _ h) (cl_X0_368 X ⟨(Nat.le_of_ble_eq_true rfl), (Nat.le_of_ble_eq_true rfl)⟩) hph 0 ly_0 rfl rfl rfl rfl (Nat.le_of_ble_eq_true rfl) dX0_lightest_30 ⟨Nat.le_of_ble_eq_true rfl, Nat.le_of_ble_eq_true rfl⟩) (fun s9 h => ?_)
      refine r_aload_n X 0 dX0_lightest_33 rfl rfl ?_
      refine r_iload_n X 2 dX0_lightest_34 rfl rfl ?_
      have hJ : WB x G 4 (QfI x G 0 0 Q) 0 0 s9 49 [(0, .ref (kB G + 0)), (1, .int p1), (2, .int p2), (3, .int p3)] [.int (if p2 = 0 then (gI s9 (kB G + 0) 12) else (gI s9 (kB G + 0) 13) : Int32), .ref (kB G + 0)] := by
        refine pl_X0_343 X hph 0 ly_0 dX0_lightest_49 (fun s11 e12 => ?_)
        replace h := h s11 e12
        refine r_iload_n X 3 dX0_lightest_52 rfl rfl ?_
        refine r_iconst (v := (-1)) X dX0_lightest_53 rfl ?_
        refine r_ic_ne X 62 dX0_lightest_54 (by decide) (fun c13 => ?_) (fun c13 => ?_)
        · replace h := h.2 c13
          refine r_aload_n X 0 dX0_lightest_62 rfl rfl ?_
          refine r_iload_n X 1 dX0_lightest_63 rfl rfl ?_
          refine r_iconst (v := 1) X dX0_lightest_64 rfl ?_
          refine r_cv X (r_okVL (As := [.int p1, .int 1]) (rest := []) X (m_X0_looks (xl x) G X.2.2.2.2.1 hph p1 1 s11 _ h) (cl_X0_368 X ⟨(Nat.le_of_ble_eq_true rfl), (Nat.le_of_ble_eq_true rfl)⟩) hph 0 ly_0 rfl rfl rfl rfl (Nat.le_of_ble_eq_true rfl) dX0_lightest_65 ⟨Nat.le_of_ble_eq_true rfl, Nat.le_of_ble_eq_true rfl⟩) (fun s14 h => ?_)
          refine r_aload_n X 0 dX0_lightest_68 rfl rfl ?_
          refine gr_X0_43 X hph 0 0 162 ly_0 rfl rfl dX0_lightest_69 ?_
          refine r_iload_n X 3 dX0_lightest_72 rfl rfl ?_
          obtain ⟨g15, h⟩ := h
          refine r_ialdL X hph 162 7 ly_162 rfl g15 dX0_lightest_73 ?_
          exact r_iret X h (Nat.le_of_ble_eq_true rfl) (Nat.le_of_ble_eq_true rfl) dX0_lightest_74
        · replace h := h.1 c13
          refine r_aload_n X 0 dX0_lightest_57 rfl rfl ?_
          refine gl_X0_343 X hph 0 ly_0 dX0_lightest_58 ?_
          exact r_iret X h (Nat.le_of_ble_eq_true rfl) (Nat.le_of_ble_eq_true rfl) dX0_lightest_61
      refine r_if_eq X 45 dX0_lightest_35 (by decide) (fun c10 => ?_) (fun c10 => ?_)
      · rw [if_pos c10] at hJ
        refine r_aload_n X 0 dX0_lightest_45 rfl rfl ?_
        refine gl_X0_335 X hph 0 ly_0 dX0_lightest_46 ?_
        exact hJ
      · rw [if_neg c10] at hJ
        refine r_aload_n X 0 dX0_lightest_38 rfl rfl ?_
        refine gl_X0_338 X hph 0 ly_0 dX0_lightest_39 ?_
        refine r_goto X 49 dX0_lightest_42 (by decide) ?_
        exact hJ
    · replace h := h.1 c8
      refine r_ldc X q842 dX0_lightest_24 ?_
      exact r_iret X h (Nat.le_of_ble_eq_true rfl) (Nat.le_of_ble_eq_true rfl) dX0_lightest_26
theorem m_X0_lightest (l : Launch) (G : GT) (g : GK G) (hph : kP G = 1) (p1 : Int32) (p2 : Int32) (p3 : Int32) (s : PS) (Q : Int32 → PS → Prop) (h : w_X0_lightest G p1 p2 p3 s Q) : Met l yX0_lightest (ws_ yX0_lightest cX0_lightest 4 (some .int)) rm_X0_lightest (va_Pc [.ref (kB G + 0), .int p1, .int p2, .int p3] (Wr G s)) (va_Qi Q (fun u t => Wr G u t) (kF G)) 0 0 (kF G) := by
  refine Met.ofW (cc := cX0_lightest) (maxL := 4) (ret := (some .int)) (by decide) rfl ?_
  intro p e s0 m args below meth c s₁ B hml hv
  obtain ⟨rfl, hw⟩ := hv
  exact wb_of [.ref (kB G + 0), .int p1, .int p2, .int p3] (Nat.le_of_ble_eq_true rfl) hw.1 rfl (e_X0_lightest (cx_of g B hml rfl hw) hph p1 p2 p3 s Q h)
theorem e_X0_passing {x : CT} {G : GT} (X : Cx x G cX0_passing 3 RX0 (some .int) rm_X0_passing) (hph : kP G = 1) (p1 : Int32) (p2 : Int32) (s : PS) (Q : Int32 → PS → Prop) (h : w_X0_passing G p1 p2 s Q) : WB x G 3 (QfI x G 0 0 Q) 0 0 s 0 [(0, .ref (kB G + 0)), (1, .int p1), (2, .int p2)] [] := by
  unfold w_X0_passing at h
  refine r_aload_n X 0 dX0_passing_0 rfl rfl ?_
  refine r_iload_n X 1 dX0_passing_1 rfl rfl ?_
  refine r_bipush (v := 7) X dX0_passing_2 rfl ?_
  refine r_ci X (r_okVL (As := [.int p1, .int 7]) (rest := []) X (m_X0_canOrder (xl x) G X.2.2.2.2.1 hph p1 7 s _ h) (cl_X0_365 X ⟨(Nat.le_of_ble_eq_true rfl), (Nat.le_of_ble_eq_true rfl)⟩) hph 0 ly_0 rfl rfl rfl rfl (Nat.le_of_ble_eq_true rfl) dX0_passing_4 ⟨Nat.le_of_ble_eq_true rfl, Nat.le_of_ble_eq_true rfl⟩) (fun r2 s1 h => ?_)
  obtain ⟨z3, h⟩ := h
  refine r_if_eq X 24 dX0_passing_7 (by decide) (fun c4 => ?_) (fun c4 => ?_)
  · replace h := h.1 c4
    refine r_bipush (v := (-2)) X dX0_passing_24 rfl ?_
    exact r_iret X h (Nat.le_of_ble_eq_true rfl) (Nat.le_of_ble_eq_true rfl) dX0_passing_26
  · replace h := h.2 c4
    refine r_iload_n X 2 dX0_passing_10 rfl rfl ?_
    refine r_iconst (v := (-1)) X dX0_passing_11 rfl ?_
    refine r_aload_n X 0 dX0_passing_12 rfl rfl ?_
    refine gl_X0_307 X hph 0 ly_0 dX0_passing_13 ?_
    refine r_iconst (v := 1) X dX0_passing_16 rfl ?_
    refine r_isub X dX0_passing_17 ?_
    refine r_ci X (r_okS (As := [.int p2, .int (-1), .int ((gI s1 (kB G + 0) 8) - 1)]) (rest := []) X (m_X0_in (xl x) G X.2.2.2.2.1 p2 (-1) ((gI s1 (kB G + 0) 8) - 1) s1 _ h) (cl_X0_77 X ⟨(Nat.le_of_ble_eq_true rfl), (Nat.le_of_ble_eq_true rfl)⟩) rfl rfl (Nat.le_of_ble_eq_true rfl) dX0_passing_18 ⟨Nat.le_of_ble_eq_true rfl, Nat.le_of_ble_eq_true rfl⟩) (fun r6 s5 h => ?_)
    obtain ⟨z7, h⟩ := h
    refine r_if_ne X 27 dX0_passing_21 (by decide) (fun c8 => ?_) (fun c8 => ?_)
    · replace h := h.2 c8
      refine r_aload_n X 0 dX0_passing_27 rfl rfl ?_
      refine r_iload_n X 1 dX0_passing_28 rfl rfl ?_
      refine r_iconst (v := 2) X dX0_passing_29 rfl ?_
      refine r_cv X (r_okVL (As := [.int p1, .int 2]) (rest := []) X (m_X0_looks (xl x) G X.2.2.2.2.1 hph p1 2 s5 _ h) (cl_X0_368 X ⟨(Nat.le_of_ble_eq_true rfl), (Nat.le_of_ble_eq_true rfl)⟩) hph 0 ly_0 rfl rfl rfl rfl (Nat.le_of_ble_eq_true rfl) dX0_passing_30 ⟨Nat.le_of_ble_eq_true rfl, Nat.le_of_ble_eq_true rfl⟩) (fun s9 h => ?_)
      refine r_iload_n X 2 dX0_passing_33 rfl rfl ?_
      refine r_iconst (v := (-1)) X dX0_passing_34 rfl ?_
      refine r_ic_ne X 53 dX0_passing_35 (by decide) (fun c10 => ?_) (fun c10 => ?_)
      · replace h := h.2 c10
        refine r_aload_n X 0 dX0_passing_53 rfl rfl ?_
        refine gl_X0_331 X hph 0 ly_0 dX0_passing_54 ?_
        refine r_if_eq X 69 dX0_passing_57 (by decide) (fun c12 => ?_) (fun c12 => ?_)
        · replace h := h.1 c12
          refine r_bipush (v := (-2)) X dX0_passing_69 rfl ?_
          exact r_iret X h (Nat.le_of_ble_eq_true rfl) (Nat.le_of_ble_eq_true rfl) dX0_passing_71
        · replace h := h.2 c12
          refine r_aload_n X 0 dX0_passing_60 rfl rfl ?_
          refine gr_X0_43 X hph 0 0 162 ly_0 rfl rfl dX0_passing_61 ?_
          refine r_iload_n X 2 dX0_passing_64 rfl rfl ?_
          obtain ⟨g13, h⟩ := h
          refine r_ialdL X hph 162 7 ly_162 rfl g13 dX0_passing_65 ?_
          refine r_goto X 71 dX0_passing_66 (by decide) ?_
          exact r_iret X h (Nat.le_of_ble_eq_true rfl) (Nat.le_of_ble_eq_true rfl) dX0_passing_71
      · replace h := h.1 c10
        refine r_aload_n X 0 dX0_passing_38 rfl rfl ?_
        refine gl_X0_331 X hph 0 ly_0 dX0_passing_39 ?_
        have hJ : WB x G 3 (QfI x G 0 0 Q) 0 0 s9 71 [(0, .ref (kB G + 0)), (1, .int p1), (2, .int p2)] [.int (if (gI s9 (kB G + 0) 15) = 0 then 0 else 1 : Int32)] := by
          exact r_iret X h (Nat.le_of_ble_eq_true rfl) (Nat.le_of_ble_eq_true rfl) dX0_passing_71
        refine r_if_eq X 49 dX0_passing_42 (by decide) (fun c11 => ?_) (fun c11 => ?_)
        · rw [if_pos c11] at hJ
          refine r_iconst (v := 0) X dX0_passing_49 rfl ?_
          refine r_goto X 71 dX0_passing_50 (by decide) ?_
          exact hJ
        · rw [if_neg c11] at hJ
          refine r_iconst (v := 1) X dX0_passing_45 rfl ?_
          refine r_goto X 71 dX0_passing_46 (by decide) ?_
          exact hJ
    · replace h := h.1 c8
      refine r_bipush (v := (-2)) X dX0_passing_24 rfl ?_
      exact r_iret X h (Nat.le_of_ble_eq_true rfl) (Nat.le_of_ble_eq_true rfl) dX0_passing_26
theorem m_X0_passing (l : Launch) (G : GT) (g : GK G) (hph : kP G = 1) (p1 : Int32) (p2 : Int32) (s : PS) (Q : Int32 → PS → Prop) (h : w_X0_passing G p1 p2 s Q) : Met l yX0_passing (ws_ yX0_passing cX0_passing 3 (some .int)) rm_X0_passing (va_Pc [.ref (kB G + 0), .int p1, .int p2] (Wr G s)) (va_Qi Q (fun u t => Wr G u t) (kF G)) 0 0 (kF G) := by
  refine Met.ofW (cc := cX0_passing) (maxL := 3) (ret := (some .int)) (by decide) rfl ?_
  intro p e s0 m args below meth c s₁ B hml hv
  obtain ⟨rfl, hw⟩ := hv
  exact wb_of [.ref (kB G + 0), .int p1, .int p2] (Nat.le_of_ble_eq_true rfl) hw.1 rfl (e_X0_passing (cx_of g B hml rfl hw) hph p1 p2 s Q h)
theorem e_X0_isOrderless {x : CT} {G : GT} (X : Cx x G cX0_isOrderless 2 RX0 (some .boolean) rm_X0_isOrderless) (hph : kP G = 1) (p1 : Int32) (s : PS) (Q : Int32 → PS → Prop) (h : w_X0_isOrderless G p1 s Q) : WB x G 2 (QfI x G 0 0 (fun r u => (r = 0 ∨ r = 1) ∧ Q r u)) 0 0 s 0 [(0, .ref (kB G + 0)), (1, .int p1)] [] := by
  unfold w_X0_isOrderless at h
  refine r_aload_n X 0 dX0_isOrderless_0 rfl rfl ?_
  refine r_iload_n X 1 dX0_isOrderless_1 rfl rfl ?_
  refine r_iconst (v := 0) X dX0_isOrderless_2 rfl ?_
  refine r_cv X (r_okVL (As := [.int p1, .int 0]) (rest := []) X (m_X0_looks (xl x) G X.2.2.2.2.1 hph p1 0 s _ h) (cl_X0_368 X ⟨(Nat.le_of_ble_eq_true rfl), (Nat.le_of_ble_eq_true rfl)⟩) hph 0 ly_0 rfl rfl rfl rfl (Nat.le_of_ble_eq_true rfl) dX0_isOrderless_3 ⟨Nat.le_of_ble_eq_true rfl, Nat.le_of_ble_eq_true rfl⟩) (fun s1 h => ?_)
  refine r_aload_n X 0 dX0_isOrderless_6 rfl rfl ?_
  refine gl_X0_335 X hph 0 ly_0 dX0_isOrderless_7 ?_
  refine r_aload_n X 0 dX0_isOrderless_10 rfl rfl ?_
  refine gl_X0_338 X hph 0 ly_0 dX0_isOrderless_11 ?_
  have hJ : WB x G 2 (QfI x G 0 0 (fun r u => (r = 0 ∨ r = 1) ∧ Q r u)) 0 0 s1 22 [(0, .ref (kB G + 0)), (1, .int p1)] [.int (if (gI s1 (kB G + 0) 12) = (gI s1 (kB G + 0) 13) then 1 else 0 : Int32)] := by
    exact r_zret X (by (repeat' split) <;> first | exact Or.inl rfl | exact Or.inr rfl) h (Nat.le_of_ble_eq_true rfl) (Nat.le_of_ble_eq_true rfl) dX0_isOrderless_22
  refine r_ic_ne X 21 dX0_isOrderless_14 (by decide) (fun c2 => ?_) (fun c2 => ?_)
  · rw [if_neg c2] at hJ
    refine r_iconst (v := 0) X dX0_isOrderless_21 rfl ?_
    exact hJ
  · rw [if_pos c2] at hJ
    refine r_iconst (v := 1) X dX0_isOrderless_17 rfl ?_
    refine r_goto X 22 dX0_isOrderless_18 (by decide) ?_
    exact hJ
theorem m_X0_isOrderless (l : Launch) (G : GT) (g : GK G) (hph : kP G = 1) (p1 : Int32) (s : PS) (Q : Int32 → PS → Prop) (h : w_X0_isOrderless G p1 s Q) : Met l yX0_isOrderless (ws_ yX0_isOrderless cX0_isOrderless 2 (some .boolean)) rm_X0_isOrderless (va_Pc [.ref (kB G + 0), .int p1] (Wr G s)) (va_Qi (fun r u => (r = 0 ∨ r = 1) ∧ Q r u) (fun u t => Wr G u t) (kF G)) 0 0 (kF G) := by
  refine Met.ofW (cc := cX0_isOrderless) (maxL := 2) (ret := (some .boolean)) (by decide) rfl ?_
  intro p e s0 m args below meth c s₁ B hml hv
  obtain ⟨rfl, hw⟩ := hv
  exact wb_of [.ref (kB G + 0), .int p1] (Nat.le_of_ble_eq_true rfl) hw.1 rfl (e_X0_isOrderless (cx_of g B hml rfl hw) hph p1 s Q h)
theorem e_X0_orderless {x : CT} {G : GT} (X : Cx x G cX0_orderless 2 RX0 (some .int) rm_X0_orderless) (hph : kP G = 1) (p1 : Int32) (s : PS) (Q : Int32 → PS → Prop) (h : w_X0_orderless G p1 s Q) : WB x G 2 (QfI x G 0 0 Q) 0 0 s 0 [(0, .ref (kB G + 0)), (1, .int p1)] [] := by
  unfold w_X0_orderless at h
  refine r_aload_n X 0 dX0_orderless_0 rfl rfl ?_
  refine r_iload_n X 1 dX0_orderless_1 rfl rfl ?_
  refine r_bipush (v := 7) X dX0_orderless_2 rfl ?_
  refine r_ci X (r_okVL (As := [.int p1, .int 7]) (rest := []) X (m_X0_canOrder (xl x) G X.2.2.2.2.1 hph p1 7 s _ h) (cl_X0_365 X ⟨(Nat.le_of_ble_eq_true rfl), (Nat.le_of_ble_eq_true rfl)⟩) hph 0 ly_0 rfl rfl rfl rfl (Nat.le_of_ble_eq_true rfl) dX0_orderless_4 ⟨Nat.le_of_ble_eq_true rfl, Nat.le_of_ble_eq_true rfl⟩) (fun r2 s1 h => ?_)
  obtain ⟨z3, h⟩ := h
  refine r_if_ne X 14 dX0_orderless_7 (by decide) (fun c4 => ?_) (fun c4 => ?_)
  · replace h := h.2 c4
    refine r_aload_n X 0 dX0_orderless_14 rfl rfl ?_
    refine r_iload_n X 1 dX0_orderless_15 rfl rfl ?_
    refine r_ci X (r_okVL (As := [.int p1]) (rest := []) X (m_X0_isOrderless (xl x) G X.2.2.2.2.1 hph p1 s1 _ h) (cl_X0_372 X ⟨(Nat.le_of_ble_eq_true rfl), (Nat.le_of_ble_eq_true rfl)⟩) hph 0 ly_0 rfl rfl rfl rfl (Nat.le_of_ble_eq_true rfl) dX0_orderless_16 ⟨Nat.le_of_ble_eq_true rfl, Nat.le_of_ble_eq_true rfl⟩) (fun r6 s5 h => ?_)
    obtain ⟨z7, h⟩ := h
    have hJ : WB x G 2 (QfI x G 0 0 Q) 0 0 s5 27 [(0, .ref (kB G + 0)), (1, .int p1)] [.int (if r6 = 0 then 0 else 1 : Int32)] := by
      exact r_iret X h (Nat.le_of_ble_eq_true rfl) (Nat.le_of_ble_eq_true rfl) dX0_orderless_27
    refine r_if_eq X 26 dX0_orderless_19 (by decide) (fun c8 => ?_) (fun c8 => ?_)
    · rw [if_pos c8] at hJ
      refine r_iconst (v := 0) X dX0_orderless_26 rfl ?_
      exact hJ
    · rw [if_neg c8] at hJ
      refine r_iconst (v := 1) X dX0_orderless_22 rfl ?_
      refine r_goto X 27 dX0_orderless_23 (by decide) ?_
      exact hJ
  · replace h := h.1 c4
    refine r_iconst (v := (-1)) X dX0_orderless_10 rfl ?_
    refine r_goto X 27 dX0_orderless_11 (by decide) ?_
    exact r_iret X h (Nat.le_of_ble_eq_true rfl) (Nat.le_of_ble_eq_true rfl) dX0_orderless_27
theorem m_X0_orderless (l : Launch) (G : GT) (g : GK G) (hph : kP G = 1) (p1 : Int32) (s : PS) (Q : Int32 → PS → Prop) (h : w_X0_orderless G p1 s Q) : Met l yX0_orderless (ws_ yX0_orderless cX0_orderless 2 (some .int)) rm_X0_orderless (va_Pc [.ref (kB G + 0), .int p1] (Wr G s)) (va_Qi Q (fun u t => Wr G u t) (kF G)) 0 0 (kF G) := by
  refine Met.ofW (cc := cX0_orderless) (maxL := 2) (ret := (some .int)) (by decide) rfl ?_
  intro p e s0 m args below meth c s₁ B hml hv
  obtain ⟨rfl, hw⟩ := hv
  exact wb_of [.ref (kB G + 0), .int p1] (Nat.le_of_ble_eq_true rfl) hw.1 rfl (e_X0_orderless (cx_of g B hml rfl hw) hph p1 s Q h)
theorem tb_X0_sticking_84 {x : CT} {G : GT} (X : Cx x G cX0_sticking 5 RX0 (some .int) rm_X0_sticking) (hph : kP G = 1) (Q : Int32 → PS → Prop) (v2 : Int32) (v3 : Int32) (s : PS) (h : b_X0_sticking_84 G Q v2 v3 s) : WB x G 5 (QfI x G 0 0 Q) 0 0 s 84 [(0, .ref (kB G + 0)), (2, .int v2), (3, .int v3)] [] := by
  unfold b_X0_sticking_84 at h
  refine r_aload_n X 0 dX0_sticking_84 rfl rfl ?_
  refine gr_X0_12 X hph 0 0 1 ly_0 rfl rfl dX0_sticking_85 ?_
  refine gr_X0_74 X hph 1 1 2 ly_1 rfl rfl dX0_sticking_88 ?_
  refine r_iconst (v := 3) X dX0_sticking_91 rfl ?_
  refine r_iload_n X 1 dX0_sticking_92 rfl rfl ?_
  refine r_iastL X hph 2 9 ly_2 tn_3 il_3_9 dX0_sticking_93 (fun s1 e2 => ?_)
  replace h := h s1 e2
  refine r_iload_n X 2 dX0_sticking_94 rfl rfl ?_
  exact r_iret X h (Nat.le_of_ble_eq_true rfl) (Nat.le_of_ble_eq_true rfl) dX0_sticking_95
theorem tl_X0_sticking_38 {x : CT} {G : GT} (X : Cx x G cX0_sticking 5 RX0 (some .int) rm_X0_sticking) (hph : kP G = 1) (Q : Int32 → PS → Prop) (v1 : Int32) (v2 : Int32) : ∀ (n : Nat) (v3 : Int32) (v4 : Int32) (s : PS) (h : l_X0_sticking_38 G Q v1 v2 n v3 v4 s), WB x G 5 (QfI x G 0 0 Q) 0 0 s 38 [(0, .ref (kB G + 0)), (1, .int v1), (2, .int v2), (3, .int v3), (4, .int v4)] [] := by
  intro n
  induction n with
  | zero =>
    intro v3 v4 s h
    exact False.elim h
  | succ n ih =>
    intro v3 v4 s h
    unfold l_X0_sticking_38 at h
    refine r_iload X 4 dX0_sticking_38 rfl ?_
    refine r_if_eq X 84 dX0_sticking_40 (by decide) (fun c1 => ?_) (fun c1 => ?_)
    · replace h := h.1 c1
      refine r_sub [0, 2, 3] rfl ?_
      exact tb_X0_sticking_84 X hph Q v2 v3 s h
    · replace h := h.2 c1
      refine r_iload_n X 3 dX0_sticking_43 rfl rfl ?_
      refine r_bipush (v := 99) X dX0_sticking_44 rfl ?_
      refine r_ic_ge X 84 dX0_sticking_46 (by decide) (fun c2 => ?_) (fun c2 => ?_)
      · replace h := h.1 c2
        refine r_sub [0, 2, 3] rfl ?_
        exact tb_X0_sticking_84 X hph Q v2 v3 s h
      · replace h := h.2 c2
        refine r_aload_n X 0 dX0_sticking_49 rfl rfl ?_
        refine gr_X0_12 X hph 0 0 1 ly_0 rfl rfl dX0_sticking_50 ?_
        refine gr_X0_74 X hph 1 1 2 ly_1 rfl rfl dX0_sticking_53 ?_
        refine r_iconst (v := 3) X dX0_sticking_56 rfl ?_
        refine r_iload_n X 3 dX0_sticking_57 rfl rfl ?_
        refine r_iconst (v := 1) X dX0_sticking_58 rfl ?_
        refine r_iadd X dX0_sticking_59 ?_
        refine r_iastL X hph 2 9 ly_2 tn_3 il_3_9 dX0_sticking_60 (fun s3 e4 => ?_)
        replace h := h s3 e4
        refine r_aload_n X 0 dX0_sticking_61 rfl rfl ?_
        refine r_iload_n X 1 dX0_sticking_62 rfl rfl ?_
        refine r_ci X (r_okVL (As := [.int v1]) (rest := []) X (m_X0_isOrderless (xl x) G X.2.2.2.2.1 hph v1 s3 _ h) (cl_X0_372 X ⟨(Nat.le_of_ble_eq_true rfl), (Nat.le_of_ble_eq_true rfl)⟩) hph 0 ly_0 rfl rfl rfl rfl (Nat.le_of_ble_eq_true rfl) dX0_sticking_63 ⟨Nat.le_of_ble_eq_true rfl, Nat.le_of_ble_eq_true rfl⟩) (fun r6 s5 h => ?_)
        obtain ⟨z7, h⟩ := h
        refine r_istore (lv' := [(4, .int r6), (0, .ref (kB G + 0)), (1, .int v1), (2, .int v2), (3, .int v3)]) X dX0_sticking_66 (Nat.le_of_ble_eq_true rfl) rfl ?_
        refine r_iload_n X 4 dX0_sticking_68 rfl rfl ?_
        refine r_iload X 0 dX0_sticking_69 rfl ?_
        have hJ : WB x G 5 (QfI x G 0 0 Q) 0 0 s5 79 [(4, .int r6), (0, .ref (kB G + 0)), (1, .int v1), (2, .int v2), (3, .int v3)] [.int (if r6 = 0 then 0 else 1 : Int32), .int v3] := by
          refine r_iadd X dX0_sticking_79 ?_
          refine r_nmI (fun y9 e10 => ?_)
          replace h := h y9 e10
          refine r_istore_n (lv' := [(3, .int y9), (4, .int r6), (0, .ref (kB G + 0)), (1, .int v1), (2, .int v2)]) X dX0_sticking_80 rfl (Nat.le_of_ble_eq_true rfl) rfl ?_
          refine r_goto X 38 dX0_sticking_81 (by decide) ?_
          refine r_sub [2, 3, 4, 0, 1] rfl ?_
          exact ih y9 r6 s5 h
        refine r_if_eq X 78 dX0_sticking_71 (by decide) (fun c8 => ?_) (fun c8 => ?_)
        · rw [if_pos c8] at hJ
          refine r_iconst (v := 0) X dX0_sticking_78 rfl ?_
          exact hJ
        · rw [if_neg c8] at hJ
          refine r_iconst (v := 1) X dX0_sticking_74 rfl ?_
          refine r_goto X 79 dX0_sticking_75 (by decide) ?_
          exact hJ
theorem e_X0_sticking {x : CT} {G : GT} (X : Cx x G cX0_sticking 5 RX0 (some .int) rm_X0_sticking) (hph : kP G = 1) (p1 : Int32) (s : PS) (Q : Int32 → PS → Prop) (h : w_X0_sticking G p1 s Q) : WB x G 5 (QfI x G 0 0 Q) 0 0 s 0 [(0, .ref (kB G + 0)), (1, .int p1)] [] := by
  unfold w_X0_sticking at h
  refine r_aload_n X 0 dX0_sticking_0 rfl rfl ?_
  refine r_iload_n X 1 dX0_sticking_1 rfl rfl ?_
  refine r_iconst (v := 5) X dX0_sticking_2 rfl ?_
  refine r_ci X (r_okVL (As := [.int p1, .int 5]) (rest := []) X (m_X0_canOrder (xl x) G X.2.2.2.2.1 hph p1 5 s _ h) (cl_X0_365 X ⟨(Nat.le_of_ble_eq_true rfl), (Nat.le_of_ble_eq_true rfl)⟩) hph 0 ly_0 rfl rfl rfl rfl (Nat.le_of_ble_eq_true rfl) dX0_sticking_3 ⟨Nat.le_of_ble_eq_true rfl, Nat.le_of_ble_eq_true rfl⟩) (fun r2 s1 h => ?_)
  obtain ⟨z3, h⟩ := h
  refine r_if_eq X 21 dX0_sticking_6 (by decide) (fun c4 => ?_) (fun c4 => ?_)
  · replace h := h.1 c4
    refine r_iconst (v := (-1)) X dX0_sticking_21 rfl ?_
    exact r_iret X h (Nat.le_of_ble_eq_true rfl) (Nat.le_of_ble_eq_true rfl) dX0_sticking_22
  · replace h := h.2 c4
    refine r_aload_n X 0 dX0_sticking_9 rfl rfl ?_
    refine r_ca X (r_okVL (As := []) (rest := []) X (m_X0_rules (xl x) G X.2.2.2.2.1 hph s1 _ h) (cl_X0_167 X ⟨(Nat.le_of_ble_eq_true rfl), (Nat.le_of_ble_eq_true rfl)⟩) hph 0 ly_0 rfl rfl rfl rfl (Nat.le_of_ble_eq_true rfl) dX0_sticking_10 ⟨Nat.le_of_ble_eq_true rfl, Nat.le_of_ble_eq_true rfl⟩) (fun r6 s5 h => ?_)
    obtain ⟨g7, h⟩ := h
    refine r_getLaw X g7 dX0_sticking_13 ?_
    obtain ⟨q8, g9, h⟩ := h
    refine r_top (show va_rf (gR s5 r6 0) = Value.ref q8 by rw [g9]; rfl) ?_
    refine r_iconst (v := 1) X dX0_sticking_16 rfl ?_
    obtain ⟨g10, h⟩ := h
    obtain ⟨g11, h⟩ := h
    refine r_aaldM X g10 (by decide) g11 dX0_sticking_17 ?_
    refine r_ifnull X 23 dX0_sticking_18 (by decide) (fun c13 => ?_) (fun q12 c13 => ?_)
    · replace h := h.1 c13
      refine r_aload_n X 0 dX0_sticking_23 rfl rfl ?_
      refine gr_X0_12 X hph 0 0 1 ly_0 rfl rfl dX0_sticking_24 ?_
      refine gr_X0_74 X hph 1 1 2 ly_1 rfl rfl dX0_sticking_27 ?_
      refine r_iconst (v := 3) X dX0_sticking_30 rfl ?_
      refine r_ialdL X hph 2 9 ly_2 tn_3 il_3_9 dX0_sticking_31 ?_
      refine r_nmI (fun y14 e15 => ?_)
      replace h := h y14 e15
      refine r_istore_n (lv' := [(2, .int y14), (0, .ref (kB G + 0)), (1, .int p1)]) X dX0_sticking_32 rfl (Nat.le_of_ble_eq_true rfl) rfl ?_
      refine r_iconst (v := (-1)) X dX0_sticking_33 rfl ?_
      refine r_istore_n (lv' := [(3, .int (-1)), (2, .int y14), (0, .ref (kB G + 0)), (1, .int p1)]) X dX0_sticking_34 rfl (Nat.le_of_ble_eq_true rfl) rfl ?_
      refine r_iconst (v := 1) X dX0_sticking_35 rfl ?_
      refine r_istore (lv' := [(4, .int 1), (3, .int (-1)), (2, .int y14), (0, .ref (kB G + 0)), (1, .int p1)]) X dX0_sticking_36 (Nat.le_of_ble_eq_true rfl) rfl ?_
      refine r_sub [3, 4, 2, 1, 0] rfl ?_
      obtain ⟨n16, h⟩ := h
      exact tl_X0_sticking_38 X hph Q p1 y14 n16 (-1) 1 s5 h
    · replace h := h.2 q12 c13
      refine r_iconst (v := (-1)) X dX0_sticking_21 rfl ?_
      exact r_iret X h (Nat.le_of_ble_eq_true rfl) (Nat.le_of_ble_eq_true rfl) dX0_sticking_22
theorem m_X0_sticking (l : Launch) (G : GT) (g : GK G) (hph : kP G = 1) (p1 : Int32) (s : PS) (Q : Int32 → PS → Prop) (h : w_X0_sticking G p1 s Q) : Met l yX0_sticking (ws_ yX0_sticking cX0_sticking 5 (some .int)) rm_X0_sticking (va_Pc [.ref (kB G + 0), .int p1] (Wr G s)) (va_Qi Q (fun u t => Wr G u t) (kF G)) 0 0 (kF G) := by
  refine Met.ofW (cc := cX0_sticking) (maxL := 5) (ret := (some .int)) (by decide) rfl ?_
  intro p e s0 m args below meth c s₁ B hml hv
  obtain ⟨rfl, hw⟩ := hv
  exact wb_of [.ref (kB G + 0), .int p1] (Nat.le_of_ble_eq_true rfl) hw.1 rfl (e_X0_sticking (cx_of g B hml rfl hw) hph p1 s Q h)
theorem tl_X0_truly_14 {x : CT} {G : GT} (X : Cx x G cX0_truly 4 RX0 (some .int) rm_X0_truly) (hph : kP G = 1) (Q : Int32 → PS → Prop) (v1 : Int32) : ∀ (n : Nat) (v2 : Int32) (v3 : Int32) (s : PS) (h : l_X0_truly_14 G Q v1 n v2 v3 s), WB x G 4 (QfI x G 0 0 Q) 0 0 s 14 [(0, .ref (kB G + 0)), (1, .int v1), (2, .int v2), (3, .int v3)] [] := by
  intro n
  induction n with
  | zero =>
    intro v2 v3 s h
    exact False.elim h
  | succ n ih =>
    intro v2 v3 s h
    unfold l_X0_truly_14 at h
    refine r_iload_n X 3 dX0_truly_14 rfl rfl ?_
    refine r_aload_n X 0 dX0_truly_15 rfl rfl ?_
    refine gr_X0_12 X hph 0 0 1 ly_0 rfl rfl dX0_truly_16 ?_
    refine gr_X0_74 X hph 1 1 2 ly_1 rfl rfl dX0_truly_19 ?_
    refine r_iconst (v := 2) X dX0_truly_22 rfl ?_
    refine r_ialdL X hph 2 9 ly_2 tn_2 il_2_9 dX0_truly_23 ?_
    refine r_ic_ge X 52 dX0_truly_24 (by decide) (fun c1 => ?_) (fun c1 => ?_)
    · replace h := h.1 c1
      refine r_iload_n X 2 dX0_truly_52 rfl rfl ?_
      exact r_iret X h (Nat.le_of_ble_eq_true rfl) (Nat.le_of_ble_eq_true rfl) dX0_truly_53
    · replace h := h.2 c1
      refine r_iload_n X 2 dX0_truly_27 rfl rfl ?_
      refine r_aload_n X 0 dX0_truly_28 rfl rfl ?_
      refine r_iload_n X 3 dX0_truly_29 rfl rfl ?_
      refine r_iload_n X 1 dX0_truly_30 rfl rfl ?_
      refine r_ci X (r_okVL (As := [.int v3, .int v1]) (rest := [.int v2]) X (m_X0_isSoOf (xl x) G X.2.2.2.2.1 hph v3 v1 s _ h) (cl_X0_316 X ⟨(Nat.le_of_ble_eq_true rfl), (Nat.le_of_ble_eq_true rfl)⟩) hph 0 ly_0 rfl rfl rfl rfl (Nat.le_of_ble_eq_true rfl) dX0_truly_31 ⟨Nat.le_of_ble_eq_true rfl, Nat.le_of_ble_eq_true rfl⟩) (fun r3 s2 h => ?_)
      obtain ⟨z4, h⟩ := h
      have hJ : WB x G 4 (QfI x G 0 0 Q) 0 0 s2 44 [(0, .ref (kB G + 0)), (1, .int v1), (2, .int v2), (3, .int v3)] [.int (if r3 = 0 then ((1 : Int32) <<< (v3 &&& 31)) else 0 : Int32), .int v2] := by
        refine r_ior X dX0_truly_44 ?_
        refine r_nmI (fun y6 e7 => ?_)
        replace h := h y6 e7
        refine r_istore_n (lv' := [(2, .int y6), (0, .ref (kB G + 0)), (1, .int v1), (3, .int v3)]) X dX0_truly_45 rfl (Nat.le_of_ble_eq_true rfl) rfl ?_
        refine r_iinc (lv' := [(3, .int (v3 + 1)), (2, .int y6), (0, .ref (kB G + 0)), (1, .int v1)]) X 3 dX0_truly_46 rfl rfl (Nat.le_of_ble_eq_true rfl) rfl ?_
        refine r_goto X 14 dX0_truly_49 (by decide) ?_
        refine r_sub [2, 3, 1, 0] rfl ?_
        exact ih y6 (v3 + 1) s2 h
      refine r_if_eq X 41 dX0_truly_34 (by decide) (fun c5 => ?_) (fun c5 => ?_)
      · rw [if_pos c5] at hJ
        refine r_iconst (v := 1) X dX0_truly_41 rfl ?_
        refine r_iload_n X 3 dX0_truly_42 rfl rfl ?_
        refine r_ishl X dX0_truly_43 ?_
        exact hJ
      · rw [if_neg c5] at hJ
        refine r_iconst (v := 0) X dX0_truly_37 rfl ?_
        refine r_goto X 44 dX0_truly_38 (by decide) ?_
        exact hJ
theorem e_X0_truly {x : CT} {G : GT} (X : Cx x G cX0_truly 4 RX0 (some .int) rm_X0_truly) (hph : kP G = 1) (p1 : Int32) (s : PS) (Q : Int32 → PS → Prop) (h : w_X0_truly G p1 s Q) : WB x G 4 (QfI x G 0 0 Q) 0 0 s 0 [(0, .ref (kB G + 0)), (1, .int p1)] [] := by
  unfold w_X0_truly at h
  refine r_aload_n X 0 dX0_truly_0 rfl rfl ?_
  refine r_iload_n X 1 dX0_truly_1 rfl rfl ?_
  refine r_ci X (r_okVL (As := [.int p1]) (rest := []) X (m_X0_isHeart (xl x) G X.2.2.2.2.1 hph p1 s _ h) (cl_X0_84 X ⟨(Nat.le_of_ble_eq_true rfl), (Nat.le_of_ble_eq_true rfl)⟩) hph 0 ly_0 rfl rfl rfl rfl (Nat.le_of_ble_eq_true rfl) dX0_truly_2 ⟨Nat.le_of_ble_eq_true rfl, Nat.le_of_ble_eq_true rfl⟩) (fun r2 s1 h => ?_)
  obtain ⟨z3, h⟩ := h
  refine r_if_ne X 10 dX0_truly_5 (by decide) (fun c4 => ?_) (fun c4 => ?_)
  · replace h := h.2 c4
    refine r_iconst (v := 0) X dX0_truly_10 rfl ?_
    refine r_istore_n (lv' := [(2, .int 0), (0, .ref (kB G + 0)), (1, .int p1)]) X dX0_truly_11 rfl (Nat.le_of_ble_eq_true rfl) rfl ?_
    refine r_iconst (v := 0) X dX0_truly_12 rfl ?_
    refine r_istore_n (lv' := [(3, .int 0), (2, .int 0), (0, .ref (kB G + 0)), (1, .int p1)]) X dX0_truly_13 rfl (Nat.le_of_ble_eq_true rfl) rfl ?_
    refine r_sub [2, 3, 1, 0] rfl ?_
    obtain ⟨n5, h⟩ := h
    exact tl_X0_truly_14 X hph Q p1 n5 0 0 s1 h
  · replace h := h.1 c4
    refine r_iconst (v := (-1)) X dX0_truly_8 rfl ?_
    exact r_iret X h (Nat.le_of_ble_eq_true rfl) (Nat.le_of_ble_eq_true rfl) dX0_truly_9
theorem m_X0_truly (l : Launch) (G : GT) (g : GK G) (hph : kP G = 1) (p1 : Int32) (s : PS) (Q : Int32 → PS → Prop) (h : w_X0_truly G p1 s Q) : Met l yX0_truly (ws_ yX0_truly cX0_truly 4 (some .int)) rm_X0_truly (va_Pc [.ref (kB G + 0), .int p1] (Wr G s)) (va_Qi Q (fun u t => Wr G u t) (kF G)) 0 0 (kF G) := by
  refine Met.ofW (cc := cX0_truly) (maxL := 4) (ret := (some .int)) (by decide) rfl ?_
  intro p e s0 m args below meth c s₁ B hml hv
  obtain ⟨rfl, hw⟩ := hv
  exact wb_of [.ref (kB G + 0), .int p1] (Nat.le_of_ble_eq_true rfl) hw.1 rfl (e_X0_truly (cx_of g B hml rfl hw) hph p1 s Q h)
theorem tl_X0_getsBy_42 {x : CT} {G : GT} (X : Cx x G cX0_getsBy 5 RX0 (some .boolean) rm_X0_getsBy) (hph : kP G = 1) (Q : Int32 → PS → Prop) (v1 : Int32) (v2 : Int32) (v3 : Nat) : ∀ (n : Nat) (v4 : Int32) (s : PS) (h : l_X0_getsBy_42 G Q v1 v2 v3 n v4 s), WB x G 5 (QfI x G 1 6 (fun r u => (r = 0 ∨ r = 1) ∧ Q r u)) 1 6 s 42 [(0, .ref (kB G + 0)), (1, .int v1), (2, .int v2), (3, .ref v3), (4, .int v4)] [] := by
  intro n
  induction n with
  | zero =>
    intro v4 s h
    exact False.elim h
  | succ n ih =>
    intro v4 s h
    unfold l_X0_getsBy_42 at h
    refine r_iload X 4 dX0_getsBy_42 rfl ?_
    refine r_aload_n X 0 dX0_getsBy_44 rfl rfl ?_
    refine gr_X0_12 X hph 0 0 1 ly_0 rfl rfl dX0_getsBy_45 ?_
    refine gr_X0_74 X hph 1 1 2 ly_1 rfl rfl dX0_getsBy_48 ?_
    refine r_iconst (v := 2) X dX0_getsBy_51 rfl ?_
    refine r_ialdL X hph 2 9 ly_2 tn_2 il_2_9 dX0_getsBy_52 ?_
    refine r_ic_ge X 82 dX0_getsBy_53 (by decide) (fun c1 => ?_) (fun c1 => ?_)
    · replace h := h.1 c1
      refine r_aload_n X 0 dX0_getsBy_82 rfl rfl ?_
      refine r_iload_n X 1 dX0_getsBy_83 rfl rfl ?_
      refine r_aload_n X 3 dX0_getsBy_84 rfl rfl ?_
      obtain ⟨g2, h⟩ := h
      refine gf_X0_375 X g2 dX0_getsBy_85 ?_
      refine r_ci X (r_okVL (As := [.int v1, .int (gI s v3 2)]) (rest := []) X (m_X0_judgedAt (xl x) G X.2.2.2.2.1 hph v1 (gI s v3 2) s _ h) (cl_X0_235 X ⟨(Nat.le_of_ble_eq_true rfl), (Nat.le_of_ble_eq_true rfl)⟩) hph 0 ly_0 rfl rfl rfl rfl (Nat.le_of_ble_eq_true rfl) dX0_getsBy_88 ⟨Nat.le_of_ble_eq_true rfl, Nat.le_of_ble_eq_true rfl⟩) (fun r4 s3 h => ?_)
      have hJ : WB x G 5 (QfI x G 1 6 (fun r u => (r = 0 ∨ r = 1) ∧ Q r u)) 1 6 s3 99 [(0, .ref (kB G + 0)), (1, .int v1), (2, .int v2), (3, .ref v3), (4, .int v4)] [.int (if r4 = 0 then 0 else 1 : Int32)] := by
        exact r_zret X (by (repeat' split) <;> first | exact Or.inl rfl | exact Or.inr rfl) h (Nat.le_of_ble_eq_true rfl) (Nat.le_of_ble_eq_true rfl) dX0_getsBy_99
      refine r_if_eq X 98 dX0_getsBy_91 (by decide) (fun c5 => ?_) (fun c5 => ?_)
      · rw [if_pos c5] at hJ
        refine r_iconst (v := 0) X dX0_getsBy_98 rfl ?_
        exact hJ
      · rw [if_neg c5] at hJ
        refine r_iconst (v := 1) X dX0_getsBy_94 rfl ?_
        refine r_goto X 99 dX0_getsBy_95 (by decide) ?_
        exact hJ
    · replace h := h.2 c1
      refine r_iload_n X 2 dX0_getsBy_56 rfl rfl ?_
      refine r_iload X 4 dX0_getsBy_57 rfl ?_
      refine r_ci X (r_okS (As := [.int v2, .int v4]) (rest := []) X (m_X0_has (xl x) G X.2.2.2.2.1 v2 v4 s _ h) (cl_X0_174 X ⟨(Nat.le_of_ble_eq_true rfl), (Nat.le_of_ble_eq_true rfl)⟩) rfl rfl (Nat.le_of_ble_eq_true rfl) dX0_getsBy_59 ⟨Nat.le_of_ble_eq_true rfl, Nat.le_of_ble_eq_true rfl⟩) (fun r7 s6 h => ?_)
      obtain ⟨z8, h⟩ := h
      refine r_if_ne X 68 dX0_getsBy_62 (by decide) (fun c9 => ?_) (fun c9 => ?_)
      · replace h := h.2 c9
        refine r_aload_n X 3 dX0_getsBy_68 rfl rfl ?_
        refine r_iload X 4 dX0_getsBy_69 rfl ?_
        refine r_iconst (v := 0) X dX0_getsBy_71 rfl ?_
        obtain ⟨g10, h⟩ := h
        refine r_ci X (r_okV (As := [.int v4, .int 0]) (rest := []) X (m_X12_hears (xl x) G X.2.2.2.2.1 hph v3 v4 0 s6 _ h) (cl_X0_227 X ⟨(Nat.le_of_ble_eq_true rfl), (Nat.le_of_ble_eq_true rfl)⟩) 12 g10 rfl rfl rfl rfl (Nat.le_of_ble_eq_true rfl) dX0_getsBy_72 ⟨Nat.le_of_ble_eq_true rfl, Nat.le_of_ble_eq_true rfl⟩) (fun r12 s11 h => ?_)
        obtain ⟨z13, h⟩ := h
        refine r_pop X dX0_getsBy_75 rfl ?_
        refine r_iinc (lv' := [(4, .int (v4 + 1)), (0, .ref (kB G + 0)), (1, .int v1), (2, .int v2), (3, .ref v3)]) X 4 dX0_getsBy_76 rfl rfl (Nat.le_of_ble_eq_true rfl) rfl ?_
        refine r_goto X 42 dX0_getsBy_79 (by decide) ?_
        refine r_sub [1, 2, 3, 4, 0] rfl ?_
        exact ih (v4 + 1) s11 h
      · replace h := h.1 c9
        refine r_goto X 76 dX0_getsBy_65 (by decide) ?_
        refine r_iinc (lv' := [(4, .int (v4 + 1)), (0, .ref (kB G + 0)), (1, .int v1), (2, .int v2), (3, .ref v3)]) X 4 dX0_getsBy_76 rfl rfl (Nat.le_of_ble_eq_true rfl) rfl ?_
        refine r_goto X 42 dX0_getsBy_79 (by decide) ?_
        refine r_sub [1, 2, 3, 4, 0] rfl ?_
        exact ih (v4 + 1) s6 h
theorem tl_X0_getsBy_13 {x : CT} {G : GT} (X : Cx x G cX0_getsBy 5 RX0 (some .boolean) rm_X0_getsBy) (hph : kP G = 1) (Q : Int32 → PS → Prop) (v1 : Int32) (v2 : Int32) (v3 : Nat) : ∀ (n : Nat) (v4 : Int32) (s : PS) (h : l_X0_getsBy_13 G Q v1 v2 v3 n v4 s), WB x G 5 (QfI x G 1 6 (fun r u => (r = 0 ∨ r = 1) ∧ Q r u)) 1 6 s 13 [(0, .ref (kB G + 0)), (1, .int v1), (2, .int v2), (3, .ref v3), (4, .int v4)] [] := by
  intro n
  induction n with
  | zero =>
    intro v4 s h
    exact False.elim h
  | succ n ih =>
    intro v4 s h
    unfold l_X0_getsBy_13 at h
    refine r_iload X 4 dX0_getsBy_13 rfl ?_
    refine r_aload_n X 0 dX0_getsBy_15 rfl rfl ?_
    refine gl_X0_307 X hph 0 ly_0 dX0_getsBy_16 ?_
    refine r_ic_ge X 39 dX0_getsBy_19 (by decide) (fun c1 => ?_) (fun c1 => ?_)
    · replace h := h.1 c1
      refine r_iconst (v := 0) X dX0_getsBy_39 rfl ?_
      refine r_istore (lv' := [(4, .int 0), (0, .ref (kB G + 0)), (1, .int v1), (2, .int v2), (3, .ref v3)]) X dX0_getsBy_40 (Nat.le_of_ble_eq_true rfl) rfl ?_
      refine r_sub [1, 2, 3, 4, 0] rfl ?_
      obtain ⟨n2, h⟩ := h
      exact tl_X0_getsBy_42 X hph Q v1 v2 v3 n2 0 s h
    · replace h := h.2 c1
      refine r_aload_n X 3 dX0_getsBy_22 rfl rfl ?_
      refine r_aload_n X 0 dX0_getsBy_23 rfl rfl ?_
      refine gr_X0_34 X hph 0 0 159 ly_0 rfl rfl dX0_getsBy_24 ?_
      refine r_iload X 4 dX0_getsBy_27 rfl ?_
      obtain ⟨g3, h⟩ := h
      refine r_ialdL X hph 159 24 ly_159 rfl g3 dX0_getsBy_29 ?_
      obtain ⟨g4, h⟩ := h
      refine r_cv X (r_okV (As := [.int (gI s (kB G + 159) v4.toNatClampNeg)]) (rest := []) X (m_X12_lays (xl x) G X.2.2.2.2.1 hph v3 (gI s (kB G + 159) v4.toNatClampNeg) s _ h) (cl_X0_219 X ⟨(Nat.le_of_ble_eq_true rfl), (Nat.le_of_ble_eq_true rfl)⟩) 12 g4 rfl rfl rfl rfl (Nat.le_of_ble_eq_true rfl) dX0_getsBy_30 ⟨Nat.le_of_ble_eq_true rfl, Nat.le_of_ble_eq_true rfl⟩) (fun s5 h => ?_)
      refine r_iinc (lv' := [(4, .int (v4 + 1)), (0, .ref (kB G + 0)), (1, .int v1), (2, .int v2), (3, .ref v3)]) X 4 dX0_getsBy_33 rfl rfl (Nat.le_of_ble_eq_true rfl) rfl ?_
      refine r_goto X 13 dX0_getsBy_36 (by decide) ?_
      refine r_sub [1, 2, 3, 4, 0] rfl ?_
      exact ih (v4 + 1) s5 h
theorem e_X0_getsBy {x : CT} {G : GT} (X : Cx x G cX0_getsBy 5 RX0 (some .boolean) rm_X0_getsBy) (hph : kP G = 1) (p1 : Int32) (p2 : Int32) (s : PS) (Q : Int32 → PS → Prop) (h : w_X0_getsBy G p1 p2 s Q) : WB x G 5 (QfI x G 1 6 (fun r u => (r = 0 ∨ r = 1) ∧ Q r u)) 0 0 s 0 [(0, .ref (kB G + 0)), (1, .int p1), (2, .int p2)] [] := by
  unfold w_X0_getsBy at h
  refine r_new X 12 in_X12 tyX12_ok rfl q847 q848 q166 (df_of df_X12) ⟨Nat.le_of_ble_eq_true rfl, Nat.le_of_ble_eq_true rfl⟩ dX0_getsBy_0 (fun z1 e2 w3 u4 s5 e6 => ?_)
  replace h := h z1 e2 w3 u4 s5 e6
  have g7 : gT s5 z1 = 112 := by rw [e6, gT_pNew, if_pos e2]
  refine r_dup X dX0_getsBy_3 rfl ?_
  refine r_aload_n X 0 dX0_getsBy_4 rfl rfl ?_
  refine r_iload_n X 1 dX0_getsBy_5 rfl rfl ?_
  refine r_cv X (r_okI (As := [.ref (kB G + 0), .int p1]) (rest := [.ref z1]) X (m_X12_init (xl x) G X.2.2.2.2.1 hph z1 (kB G + 0) p1 s5 _ h) (cl_X0_208 X ⟨(Nat.le_of_ble_eq_true rfl), (Nat.le_of_ble_eq_true rfl)⟩) rfl rfl (Nat.le_of_ble_eq_true rfl) dX0_getsBy_6 ⟨Nat.le_of_ble_eq_true rfl, Nat.le_of_ble_eq_true rfl⟩) (fun s8 h => ?_)
  refine r_astore_n (lv' := [(3, .ref z1), (0, .ref (kB G + 0)), (1, .int p1), (2, .int p2)]) X dX0_getsBy_9 rfl (Nat.le_of_ble_eq_true rfl) rfl ?_
  refine r_iconst (v := 0) X dX0_getsBy_10 rfl ?_
  refine r_istore (lv' := [(4, .int 0), (3, .ref z1), (0, .ref (kB G + 0)), (1, .int p1), (2, .int p2)]) X dX0_getsBy_11 (Nat.le_of_ble_eq_true rfl) rfl ?_
  refine r_sub [2, 3, 4, 1, 0] rfl ?_
  obtain ⟨n9, h⟩ := h
  exact tl_X0_getsBy_13 X hph Q p1 p2 z1 n9 0 s8 h
theorem m_X0_getsBy (l : Launch) (G : GT) (g : GK G) (hph : kP G = 1) (p1 : Int32) (p2 : Int32) (s : PS) (Q : Int32 → PS → Prop) (h : w_X0_getsBy G p1 p2 s Q) : Met l yX0_getsBy (ws_ yX0_getsBy cX0_getsBy 5 (some .boolean)) rm_X0_getsBy (va_Pc [.ref (kB G + 0), .int p1, .int p2] (Wr G s)) (va_Qi (fun r u => (r = 0 ∨ r = 1) ∧ Q r u) (fun u t => Wr G u t) (kF G)) 1 6 (kF G) := by
  refine Met.ofW (cc := cX0_getsBy) (maxL := 5) (ret := (some .boolean)) (by decide) rfl ?_
  intro p e s0 m args below meth c s₁ B hml hv
  obtain ⟨rfl, hw⟩ := hv
  exact wb_of [.ref (kB G + 0), .int p1, .int p2] (Nat.le_of_ble_eq_true rfl) hw.1 rfl (e_X0_getsBy (cx_of g B hml rfl hw) hph p1 p2 s Q h)
theorem tb_X0_lies_113 {x : CT} {G : GT} {MC MS : Nat} (X : Cx x G cX0_lies 6 RX0 (some .int) (rm_X0_lies MC MS)) (hph : kP G = 1) (Q : Int32 → PS → Prop) (K53 : Int32 → Int32 → Nat → Nat → PS → Prop) (v1 : Int32) (v2 : Int32) (v3 : Int32) (v4 : Int32) (v5 : Int32) (ce sl : Nat) (s : PS) (hK53 : ∀ (v4' : Int32) (v5' : Int32) (ce' : Nat) (sl' : Nat) (s' : PS), K53 v4' v5' ce' sl' s' → WB x G 6 (QfI x G MC MS Q) ce' sl' s' 53 [(0, .ref (kB G + 0)), (1, .int v1), (2, .int v2), (3, .int v3), (4, .int v4'), (5, .int v5')] []) (h : b_X0_lies_113 G MC MS Q K53 v1 v2 v3 v4 v5 ce sl s) : WB x G 6 (QfI x G MC MS Q) ce sl s 113 [(0, .ref (kB G + 0)), (1, .int v1), (2, .int v2), (3, .int v3), (4, .int v4), (5, .int v5)] [] := by
  unfold b_X0_lies_113 at h
  refine r_aload_n X 0 dX0_lies_113 rfl rfl ?_
  refine r_iload_n X 1 dX0_lies_114 rfl rfl ?_
  refine r_iload X 5 dX0_lies_115 rfl ?_
  obtain ⟨g1, h⟩ := h
  refine r_ci X (r_okVL (As := [.int v1, .int v5]) (rest := []) X (m_X0_getsBy (xl x) G X.2.2.2.2.1 hph v1 v5 s _ h) (cl_X0_381 X ⟨(Nat.le_of_ble_eq_true rfl), (Nat.le_of_ble_eq_true rfl)⟩) hph 0 ly_0 rfl rfl rfl rfl (Nat.le_of_ble_eq_true rfl) dX0_lies_117 g1) (fun r3 s2 h => ?_)
  obtain ⟨z4, h⟩ := h
  refine r_if_eq X 127 dX0_lies_120 (by decide) (fun c5 => ?_) (fun c5 => ?_)
  · replace h := h.1 c5
    refine r_iinc (lv' := [(5, .int (v5 + 1)), (0, .ref (kB G + 0)), (1, .int v1), (2, .int v2), (3, .int v3), (4, .int v4)]) X 5 dX0_lies_127 rfl rfl (Nat.le_of_ble_eq_true rfl) rfl ?_
    refine r_goto X 53 dX0_lies_130 (by decide) ?_
    refine r_sub [1, 2, 3, 4, 5, 0] rfl ?_
    exact hK53 v4 (v5 + 1) (ce + 1) (sl + 6) s2 h
  · replace h := h.2 c5
    refine r_iload X 5 dX0_lies_123 rfl ?_
    refine r_istore (lv' := [(4, .int v5), (0, .ref (kB G + 0)), (1, .int v1), (2, .int v2), (3, .int v3), (5, .int v5)]) X dX0_lies_125 (Nat.le_of_ble_eq_true rfl) rfl ?_
    refine r_iinc (lv' := [(5, .int (v5 + 1)), (4, .int v5), (0, .ref (kB G + 0)), (1, .int v1), (2, .int v2), (3, .int v3)]) X 5 dX0_lies_127 rfl rfl (Nat.le_of_ble_eq_true rfl) rfl ?_
    refine r_goto X 53 dX0_lies_130 (by decide) ?_
    refine r_sub [2, 3, 4, 5, 1, 0] rfl ?_
    exact hK53 v5 (v5 + 1) (ce + 1) (sl + 6) s2 h
theorem tl_X0_lies_53 {x : CT} {G : GT} {MC MS : Nat} (X : Cx x G cX0_lies 6 RX0 (some .int) (rm_X0_lies MC MS)) (hph : kP G = 1) (Q : Int32 → PS → Prop) (v1 : Int32) (v2 : Int32) (v3 : Int32) : ∀ (n : Nat) (v4 : Int32) (v5 : Int32) (ce : Nat) (sl : Nat) (s : PS) (h : l_X0_lies_53 G MC MS Q v1 v2 v3 n v4 v5 ce sl s), WB x G 6 (QfI x G MC MS Q) ce sl s 53 [(0, .ref (kB G + 0)), (1, .int v1), (2, .int v2), (3, .int v3), (4, .int v4), (5, .int v5)] [] := by
  intro n
  induction n with
  | zero =>
    intro v4 v5 ce sl s h
    exact False.elim h
  | succ n ih =>
    intro v4 v5 ce sl s h
    unfold l_X0_lies_53 at h
    refine r_iload X 5 dX0_lies_53 rfl ?_
    refine r_iconst (v := 1) X dX0_lies_55 rfl ?_
    refine r_aload_n X 0 dX0_lies_56 rfl rfl ?_
    refine gr_X0_12 X hph 0 0 1 ly_0 rfl rfl dX0_lies_57 ?_
    refine gr_X0_74 X hph 1 1 2 ly_1 rfl rfl dX0_lies_60 ?_
    refine r_iconst (v := 2) X dX0_lies_63 rfl ?_
    refine r_ialdL X hph 2 9 ly_2 tn_2 il_2_9 dX0_lies_64 ?_
    refine r_ishl X dX0_lies_65 ?_
    refine r_ic_ge X 133 dX0_lies_66 (by decide) (fun c1 => ?_) (fun c1 => ?_)
    · replace h := h.1 c1
      refine r_iload X 4 dX0_lies_133 rfl ?_
      obtain ⟨g2, h⟩ := h
      exact r_iret X h g2.1 g2.2 dX0_lies_135
    · replace h := h.2 c1
      refine r_iload X 5 dX0_lies_69 rfl ?_
      refine r_iload_n X 3 dX0_lies_71 rfl rfl ?_
      refine r_iconst (v := (-1)) X dX0_lies_72 rfl ?_
      refine r_ixor X dX0_lies_73 ?_
      refine r_iand X dX0_lies_74 ?_
      refine r_if_ne X 127 dX0_lies_75 (by decide) (fun c3 => ?_) (fun c3 => ?_)
      · replace h := h.2 c3
        refine r_iinc (lv' := [(5, .int (v5 + 1)), (0, .ref (kB G + 0)), (1, .int v1), (2, .int v2), (3, .int v3), (4, .int v4)]) X 5 dX0_lies_127 rfl rfl (Nat.le_of_ble_eq_true rfl) rfl ?_
        refine r_goto X 53 dX0_lies_130 (by decide) ?_
        refine r_sub [1, 2, 3, 4, 5, 0] rfl ?_
        exact ih v4 (v5 + 1) ce sl s h
      · replace h := h.1 c3
        refine r_iload_n X 3 dX0_lies_78 rfl rfl ?_
        refine r_iload X 5 dX0_lies_79 rfl ?_
        refine r_iconst (v := (-1)) X dX0_lies_81 rfl ?_
        refine r_ixor X dX0_lies_82 ?_
        refine r_iand X dX0_lies_83 ?_
        obtain ⟨g4, h⟩ := h
        refine r_ci X (r_okS (As := [.int (v3 &&& (v5 ^^^ (-1)))]) (rest := []) X (m_J12_bitCount (xl x) G X.2.2.2.2.1 (v3 &&& (v5 ^^^ (-1))) s _ h) (cl_X0_185 X ⟨(Nat.le_of_ble_eq_true rfl), (Nat.le_of_ble_eq_true rfl)⟩) rfl rfl (Nat.le_of_ble_eq_true rfl) dX0_lies_84 g4) (fun r6 s5 h => ?_)
        refine r_iload_n X 2 dX0_lies_87 rfl rfl ?_
        refine r_ic_gt X 127 dX0_lies_88 (by decide) (fun c7 => ?_) (fun c7 => ?_)
        · replace h := h.1 c7
          refine r_iinc (lv' := [(5, .int (v5 + 1)), (0, .ref (kB G + 0)), (1, .int v1), (2, .int v2), (3, .int v3), (4, .int v4)]) X 5 dX0_lies_127 rfl rfl (Nat.le_of_ble_eq_true rfl) rfl ?_
          refine r_goto X 53 dX0_lies_130 (by decide) ?_
          refine r_sub [1, 2, 3, 4, 5, 0] rfl ?_
          exact ih v4 (v5 + 1) (ce + 0) (sl + 0) s5 h
        · replace h := h.2 c7
          refine r_iload X 4 dX0_lies_91 rfl ?_
          refine r_iconst (v := (-1)) X dX0_lies_93 rfl ?_
          refine r_ic_eq X 113 dX0_lies_94 (by decide) (fun c8 => ?_) (fun c8 => ?_)
          · replace h := h.1 c8
            exact tb_X0_lies_113 X hph Q (l_X0_lies_53 G MC MS Q v1 v2 v3 n) v1 v2 v3 v4 v5 (ce + 0) (sl + 0) s5 ih h
          · replace h := h.2 c8
            refine r_iload X 5 dX0_lies_97 rfl ?_
            obtain ⟨g9, h⟩ := h
            refine r_ci X (r_okS (As := [.int v5]) (rest := []) X (m_J12_bitCount (xl x) G X.2.2.2.2.1 v5 s5 _ h) (cl_X0_185 X ⟨(Nat.le_of_ble_eq_true rfl), (Nat.le_of_ble_eq_true rfl)⟩) rfl rfl (Nat.le_of_ble_eq_true rfl) dX0_lies_99 g9) (fun r11 s10 h => ?_)
            refine r_iload X 4 dX0_lies_102 rfl ?_
            obtain ⟨g12, h⟩ := h
            refine r_ci X (r_okS (As := [.int v4]) (rest := [.int r11]) X (m_J12_bitCount (xl x) G X.2.2.2.2.1 v4 s10 _ h) (cl_X0_185 X ⟨(Nat.le_of_ble_eq_true rfl), (Nat.le_of_ble_eq_true rfl)⟩) rfl rfl (Nat.le_of_ble_eq_true rfl) dX0_lies_104 g12) (fun r14 s13 h => ?_)
            refine r_ic_lt X 113 dX0_lies_107 (by decide) (fun c15 => ?_) (fun c15 => ?_)
            · replace h := h.1 c15
              exact tb_X0_lies_113 X hph Q (l_X0_lies_53 G MC MS Q v1 v2 v3 n) v1 v2 v3 v4 v5 (((ce + 0) + 0) + 0) (((sl + 0) + 0) + 0) s13 ih h
            · replace h := h.2 c15
              refine r_goto X 127 dX0_lies_110 (by decide) ?_
              refine r_iinc (lv' := [(5, .int (v5 + 1)), (0, .ref (kB G + 0)), (1, .int v1), (2, .int v2), (3, .int v3), (4, .int v4)]) X 5 dX0_lies_127 rfl rfl (Nat.le_of_ble_eq_true rfl) rfl ?_
              refine r_goto X 53 dX0_lies_130 (by decide) ?_
              refine r_sub [1, 2, 3, 4, 5, 0] rfl ?_
              exact ih v4 (v5 + 1) (((ce + 0) + 0) + 0) (((sl + 0) + 0) + 0) s13 h
theorem e_X0_lies {x : CT} {G : GT} {MC MS : Nat} (X : Cx x G cX0_lies 6 RX0 (some .int) (rm_X0_lies MC MS)) (hph : kP G = 1) (p1 : Int32) (p2 : Int32) (s : PS) (Q : Int32 → PS → Prop) (h : w_X0_lies G MC MS p1 p2 s Q) : WB x G 6 (QfI x G MC MS Q) 0 0 s 0 [(0, .ref (kB G + 0)), (1, .int p1), (2, .int p2)] [] := by
  unfold w_X0_lies at h
  refine r_aload_n X 0 dX0_lies_0 rfl rfl ?_
  refine r_iload_n X 1 dX0_lies_1 rfl rfl ?_
  obtain ⟨g1, h⟩ := h
  refine r_ci X (r_okVL (As := [.int p1]) (rest := []) X (m_X0_isHeart (xl x) G X.2.2.2.2.1 hph p1 s _ h) (cl_X0_84 X ⟨(Nat.le_of_ble_eq_true rfl), (Nat.le_of_ble_eq_true rfl)⟩) hph 0 ly_0 rfl rfl rfl rfl (Nat.le_of_ble_eq_true rfl) dX0_lies_2 g1) (fun r3 s2 h => ?_)
  obtain ⟨z4, h⟩ := h
  refine r_if_eq X 18 dX0_lies_5 (by decide) (fun c5 => ?_) (fun c5 => ?_)
  · replace h := h.1 c5
    refine r_iconst (v := (-1)) X dX0_lies_18 rfl ?_
    obtain ⟨g6, h⟩ := h
    exact r_iret X h g6.1 g6.2 dX0_lies_19
  · replace h := h.2 c5
    refine r_iload_n X 2 dX0_lies_8 rfl rfl ?_
    refine r_iconst (v := 0) X dX0_lies_9 rfl ?_
    refine r_bipush (v := 8) X dX0_lies_10 rfl ?_
    obtain ⟨g7, h⟩ := h
    refine r_ci X (r_okS (As := [.int p2, .int 0, .int 8]) (rest := []) X (m_X0_in (xl x) G X.2.2.2.2.1 p2 0 8 s2 _ h) (cl_X0_77 X ⟨(Nat.le_of_ble_eq_true rfl), (Nat.le_of_ble_eq_true rfl)⟩) rfl rfl (Nat.le_of_ble_eq_true rfl) dX0_lies_12 g7) (fun r9 s8 h => ?_)
    obtain ⟨z10, h⟩ := h
    refine r_if_ne X 20 dX0_lies_15 (by decide) (fun c11 => ?_) (fun c11 => ?_)
    · replace h := h.2 c11
      refine r_aload_n X 0 dX0_lies_20 rfl rfl ?_
      refine r_iload_n X 1 dX0_lies_21 rfl rfl ?_
      obtain ⟨g13, h⟩ := h
      refine r_cv X (r_okVL (As := [.int p1]) (rest := []) X (m_X0_laysMine (xl x) G X.2.2.2.2.1 hph p1 s8 _ h) (cl_X0_313 X ⟨(Nat.le_of_ble_eq_true rfl), (Nat.le_of_ble_eq_true rfl)⟩) hph 0 ly_0 rfl rfl rfl rfl (Nat.le_of_ble_eq_true rfl) dX0_lies_22 g13) (fun s14 h => ?_)
      refine r_iconst (v := 1) X dX0_lies_25 rfl ?_
      refine r_aload_n X 0 dX0_lies_26 rfl rfl ?_
      refine gr_X0_12 X hph 0 0 1 ly_0 rfl rfl dX0_lies_27 ?_
      refine gr_X0_74 X hph 1 1 2 ly_1 rfl rfl dX0_lies_30 ?_
      refine r_iconst (v := 2) X dX0_lies_33 rfl ?_
      refine r_ialdL X hph 2 9 ly_2 tn_2 il_2_9 dX0_lies_34 ?_
      refine r_ishl X dX0_lies_35 ?_
      refine r_iconst (v := 1) X dX0_lies_36 rfl ?_
      refine r_isub X dX0_lies_37 ?_
      refine r_aload_n X 0 dX0_lies_38 rfl rfl ?_
      refine r_iload_n X 1 dX0_lies_39 rfl rfl ?_
      obtain ⟨g15, h⟩ := h
      refine r_ci X (r_okVL (As := [.int p1]) (rest := [.int (((1 : Int32) <<< ((gI s14 (kB G + 2) 2) &&& 31)) - 1)]) X (m_X0_truly (xl x) G X.2.2.2.2.1 hph p1 s14 _ h) (cl_X0_378 X ⟨(Nat.le_of_ble_eq_true rfl), (Nat.le_of_ble_eq_true rfl)⟩) hph 0 ly_0 rfl rfl rfl rfl (Nat.le_of_ble_eq_true rfl) dX0_lies_40 g15) (fun r17 s16 h => ?_)
      refine r_iconst (v := (-1)) X dX0_lies_43 rfl ?_
      refine r_ixor X dX0_lies_44 ?_
      refine r_iand X dX0_lies_45 ?_
      refine r_nmI (fun y18 e19 => ?_)
      replace h := h y18 e19
      refine r_istore_n (lv' := [(3, .int y18), (0, .ref (kB G + 0)), (1, .int p1), (2, .int p2)]) X dX0_lies_46 rfl (Nat.le_of_ble_eq_true rfl) rfl ?_
      refine r_iconst (v := (-1)) X dX0_lies_47 rfl ?_
      refine r_istore (lv' := [(4, .int (-1)), (3, .int y18), (0, .ref (kB G + 0)), (1, .int p1), (2, .int p2)]) X dX0_lies_48 (Nat.le_of_ble_eq_true rfl) rfl ?_
      refine r_iconst (v := 0) X dX0_lies_50 rfl ?_
      refine r_istore (lv' := [(5, .int 0), (4, .int (-1)), (3, .int y18), (0, .ref (kB G + 0)), (1, .int p1), (2, .int p2)]) X dX0_lies_51 (Nat.le_of_ble_eq_true rfl) rfl ?_
      refine r_sub [3, 4, 5, 2, 1, 0] rfl ?_
      obtain ⟨n20, h⟩ := h
      exact tl_X0_lies_53 X hph Q p1 p2 y18 n20 (-1) 0 ((((0 + 0) + 0) + 0) + 0) ((((0 + 0) + 0) + 0) + 0) s16 h
    · replace h := h.1 c11
      refine r_iconst (v := (-1)) X dX0_lies_18 rfl ?_
      obtain ⟨g12, h⟩ := h
      exact r_iret X h g12.1 g12.2 dX0_lies_19
theorem m_X0_lies (l : Launch) (G : GT) (g : GK G) (hph : kP G = 1) (MC MS : Nat) (p1 : Int32) (p2 : Int32) (s : PS) (Q : Int32 → PS → Prop) (h : w_X0_lies G MC MS p1 p2 s Q) : Met l yX0_lies (ws_ yX0_lies cX0_lies 6 (some .int)) (rm_X0_lies MC MS) (va_Pc [.ref (kB G + 0), .int p1, .int p2] (Wr G s)) (va_Qi Q (fun u t => Wr G u t) (kF G)) MC MS (kF G) := by
  refine Met.ofW (cc := cX0_lies) (maxL := 6) (ret := (some .int)) (by decide) rfl ?_
  intro p e s0 m args below meth c s₁ B hml hv
  obtain ⟨rfl, hw⟩ := hv
  exact wb_of [.ref (kB G + 0), .int p1, .int p2] (Nat.le_of_ble_eq_true rfl) hw.1 rfl (e_X0_lies (cx_of g B hml rfl hw) hph p1 p2 s Q h)
theorem tl_X0_laysLending_46 {x : CT} {G : GT} (X : Cx x G cX0_laysLending 4 RX0 none rm_X0_laysLending) (hph : kP G = 1) (Q : PS → Prop) (K2 : Int32 → PS → Prop) (v1 : Int32) (hK2 : ∀ (v1' : Int32) (s' : PS), K2 v1' s' → WB x G 4 (QfV x G 0 0 Q) 0 0 s' 2 [(0, .ref (kB G + 0)), (1, .int v1')] []) : ∀ (n : Nat) (v3 : Int32) (s : PS) (h : l_X0_laysLending_46 G Q K2 v1 n v3 s), WB x G 4 (QfV x G 0 0 Q) 0 0 s 46 [(0, .ref (kB G + 0)), (1, .int v1), (3, .int v3)] [] := by
  intro n
  induction n with
  | zero =>
    intro v3 s h
    exact False.elim h
  | succ n ih =>
    intro v3 s h
    unfold l_X0_laysLending_46 at h
    refine r_iload_n X 2 dX0_laysLending_46 rfl rfl ?_
    refine r_aload_n X 0 dX0_laysLending_47 rfl rfl ?_
    refine gr_X0_12 X hph 0 0 1 ly_0 rfl rfl dX0_laysLending_48 ?_
    refine gr_X0_74 X hph 1 1 2 ly_1 rfl rfl dX0_laysLending_51 ?_
    refine r_iconst (v := 0) X dX0_laysLending_54 rfl ?_
    refine r_ialdL X hph 2 9 ly_2 tn_0 il_0_9 dX0_laysLending_55 ?_
    refine r_ic_ge X 93 dX0_laysLending_56 (by decide) (fun c1 => ?_) (fun c1 => ?_)
    · replace h := h.1 c1
      refine r_iinc (lv' := [(1, .int (v1 + 1)), (0, .ref (kB G + 0)), (3, .int v3)]) X 1 dX0_laysLending_93 rfl rfl (Nat.le_of_ble_eq_true rfl) rfl ?_
      refine r_goto X 2 dX0_laysLending_96 (by decide) ?_
      refine r_sub [1, 0] rfl ?_
      exact hK2 (v1 + 1) s h
    · replace h := h.2 c1
      refine r_aload_n X 0 dX0_laysLending_59 rfl rfl ?_
      refine gr_X0_54 X hph 0 0 165 ly_0 rfl rfl dX0_laysLending_60 ?_
      refine r_iload_n X 1 dX0_laysLending_63 rfl rfl ?_
      obtain ⟨g2, h⟩ := h
      refine r_aaldG X hph 11 165 6 166 ly_165 rfl lr_11 rfl g2 dX0_laysLending_64 ?_
      refine r_iload_n X 2 dX0_laysLending_65 rfl rfl ?_
      refine r_aload_n X 0 dX0_laysLending_66 rfl rfl ?_
      refine gr_X0_12 X hph 0 0 1 ly_0 rfl rfl dX0_laysLending_67 ?_
      refine gr_X0_105 X hph 1 1 31 ly_1 rfl rfl dX0_laysLending_70 ?_
      refine r_iload_n X 1 dX0_laysLending_73 rfl rfl ?_
      refine r_aaldG X hph 3 31 6 32 ly_31 rfl lr_3 rfl g2 dX0_laysLending_74 ?_
      refine r_iload_n X 2 dX0_laysLending_75 rfl rfl ?_
      obtain ⟨g3, h⟩ := h
      refine r_ialdL X hph (32 + v1.toNatClampNeg) 6 (lg_3 _ (lt_in g2)) rfl g3 dX0_laysLending_76 ?_
      refine r_iastL X hph (166 + v1.toNatClampNeg) 6 (lg_11 _ (lt_in g2)) rfl g3 dX0_laysLending_77 (fun s4 e5 => ?_)
      replace h := h s4 e5
      refine r_aload_n X 0 dX0_laysLending_78 rfl rfl ?_
      refine gr_X0_57 X hph 0 0 172 ly_0 rfl rfl dX0_laysLending_79 ?_
      refine r_iload_n X 1 dX0_laysLending_82 rfl rfl ?_
      refine r_aaldG X hph 12 172 6 173 ly_172 rfl lr_12 rfl g2 dX0_laysLending_83 ?_
      refine r_iload_n X 2 dX0_laysLending_84 rfl rfl ?_
      refine r_iconst (v := 0) X dX0_laysLending_85 rfl ?_
      refine r_iastL X hph (173 + v1.toNatClampNeg) 6 (lg_12 _ (lt_in g2)) rfl g3 dX0_laysLending_86 (fun s6 e7 => ?_)
      replace h := h s6 e7
      refine r_iinc (lv' := [(3, .int (v3 + 1)), (0, .ref (kB G + 0)), (1, .int v1)]) X 2 dX0_laysLending_87 rfl rfl (Nat.le_of_ble_eq_true rfl) rfl ?_
      refine r_goto X 46 dX0_laysLending_90 (by decide) ?_
      refine r_sub [1, 2, 0] rfl ?_
      exact ih (v3 + 1) s6 h
theorem tl_X0_laysLending_2 {x : CT} {G : GT} (X : Cx x G cX0_laysLending 4 RX0 none rm_X0_laysLending) (hph : kP G = 1) (Q : PS → Prop) : ∀ (n : Nat) (v1 : Int32) (s : PS) (h : l_X0_laysLending_2 G Q n v1 s), WB x G 4 (QfV x G 0 0 Q) 0 0 s 2 [(0, .ref (kB G + 0)), (1, .int v1)] [] := by
  intro n
  induction n with
  | zero =>
    intro v1 s h
    exact False.elim h
  | succ n ih =>
    intro v1 s h
    unfold l_X0_laysLending_2 at h
    refine r_iload_n X 1 dX0_laysLending_2 rfl rfl ?_
    refine r_aload_n X 0 dX0_laysLending_3 rfl rfl ?_
    refine gr_X0_12 X hph 0 0 1 ly_0 rfl rfl dX0_laysLending_4 ?_
    refine gr_X0_74 X hph 1 1 2 ly_1 rfl rfl dX0_laysLending_7 ?_
    refine r_iconst (v := 0) X dX0_laysLending_10 rfl ?_
    refine r_ialdL X hph 2 9 ly_2 tn_0 il_0_9 dX0_laysLending_11 ?_
    refine r_ic_ge X 99 dX0_laysLending_12 (by decide) (fun c1 => ?_) (fun c1 => ?_)
    · replace h := h.1 c1
      exact r_vret X h (Nat.le_of_ble_eq_true rfl) (Nat.le_of_ble_eq_true rfl) dX0_laysLending_99
    · replace h := h.2 c1
      refine r_aload_n X 0 dX0_laysLending_15 rfl rfl ?_
      refine r_iload_n X 1 dX0_laysLending_16 rfl rfl ?_
      refine r_ci X (r_okVL (As := [.int v1]) (rest := []) X (m_X0_balanceOf (xl x) G X.2.2.2.2.1 hph v1 s _ h) (cl_X0_325 X ⟨(Nat.le_of_ble_eq_true rfl), (Nat.le_of_ble_eq_true rfl)⟩) hph 0 ly_0 rfl rfl rfl rfl (Nat.le_of_ble_eq_true rfl) dX0_laysLending_17 ⟨Nat.le_of_ble_eq_true rfl, Nat.le_of_ble_eq_true rfl⟩) (fun r3 s2 h => ?_)
      refine r_istore_n (lv' := [(2, .int r3), (0, .ref (kB G + 0)), (1, .int v1)]) X dX0_laysLending_20 rfl (Nat.le_of_ble_eq_true rfl) rfl ?_
      refine r_aload_n X 1 dX0_laysLending_21 rfl rfl ?_
      refine gr_X0_46 X hph 0 0 163 ly_0 rfl rfl dX0_laysLending_22 ?_
      refine r_iload_n X 2 dX0_laysLending_25 rfl rfl ?_
      refine r_iconst (v := 0) X dX0_laysLending_26 rfl ?_
      refine r_iload_n X 0 dX0_laysLending_27 rfl rfl ?_
      refine r_ineg X dX0_laysLending_28 ?_
      refine r_mmax X q1182 q726 q150 q727 (Nat.le_of_ble_eq_true rfl) (Nat.le_of_ble_eq_true rfl) (Nat.le_of_ble_eq_true rfl) ⟨Nat.le_of_ble_eq_true rfl, Nat.le_of_ble_eq_true rfl⟩ dX0_laysLending_29 ?_
      obtain ⟨g4, h⟩ := h
      refine r_iastL X hph 163 6 ly_163 rfl g4 dX0_laysLending_32 (fun s5 e6 => ?_)
      replace h := h s5 e6
      refine r_aload_n X 1 dX0_laysLending_33 rfl rfl ?_
      refine gr_X0_49 X hph 0 0 164 ly_0 rfl rfl dX0_laysLending_34 ?_
      refine r_iload_n X 2 dX0_laysLending_37 rfl rfl ?_
      refine r_iconst (v := 0) X dX0_laysLending_38 rfl ?_
      refine r_iload_n X 0 dX0_laysLending_39 rfl rfl ?_
      refine r_mmax X q1182 q726 q150 q727 (Nat.le_of_ble_eq_true rfl) (Nat.le_of_ble_eq_true rfl) (Nat.le_of_ble_eq_true rfl) ⟨Nat.le_of_ble_eq_true rfl, Nat.le_of_ble_eq_true rfl⟩ dX0_laysLending_40 ?_
      refine r_iastL X hph 164 6 ly_164 rfl g4 dX0_laysLending_43 (fun s7 e8 => ?_)
      replace h := h s7 e8
      refine r_iconst (v := 0) X dX0_laysLending_44 rfl ?_
      refine r_istore_n (lv' := [(3, .int 0), (2, .int r3), (0, .ref (kB G + 0)), (1, .int v1)]) X dX0_laysLending_45 rfl (Nat.le_of_ble_eq_true rfl) rfl ?_
      refine r_sub [2, 3, 0] rfl ?_
      obtain ⟨n9, h⟩ := h
      exact tl_X0_laysLending_46 X hph Q (l_X0_laysLending_2 G Q n) v1 ih n9 0 s7 h
theorem e_X0_laysLending {x : CT} {G : GT} (X : Cx x G cX0_laysLending 4 RX0 none rm_X0_laysLending) (hph : kP G = 1) (s : PS) (Q : PS → Prop) (h : w_X0_laysLending G s Q) : WB x G 4 (QfV x G 0 0 Q) 0 0 s 0 [(0, .ref (kB G + 0))] [] := by
  unfold w_X0_laysLending at h
  refine r_iconst (v := 0) X dX0_laysLending_0 rfl ?_
  refine r_istore_n (lv' := [(1, .int 0), (0, .ref (kB G + 0))]) X dX0_laysLending_1 rfl (Nat.le_of_ble_eq_true rfl) rfl ?_
  refine r_sub [1, 0] rfl ?_
  obtain ⟨n1, h⟩ := h
  exact tl_X0_laysLending_2 X hph Q n1 0 s h
theorem m_X0_laysLending (l : Launch) (G : GT) (g : GK G) (hph : kP G = 1) (s : PS) (Q : PS → Prop) (h : w_X0_laysLending G s Q) : Met l yX0_laysLending (ws_ yX0_laysLending cX0_laysLending 4 none) rm_X0_laysLending (va_Pc [.ref (kB G + 0)] (Wr G s)) (va_Qv Q (fun u t => Wr G u t) (kF G)) 0 0 (kF G) := by
  refine Met.ofW (cc := cX0_laysLending) (maxL := 4) (ret := none) (by decide) rfl ?_
  intro p e s0 m args below meth c s₁ B hml hv
  obtain ⟨rfl, hw⟩ := hv
  exact wb_of [.ref (kB G + 0)] (Nat.le_of_ble_eq_true rfl) hw.1 rfl (e_X0_laysLending (cx_of g B hml rfl hw) hph s Q h)
theorem tl_X0_takenOf_23 {x : CT} {G : GT} (X : Cx x G cX0_takenOf 6 RX0 (some .int) rm_X0_takenOf) (hph : kP G = 1) (Q : Int32 → PS → Prop) (K4 : Int32 → Int32 → PS → Prop) (v1 : Int32) (v2 : Int32) (v3 : Int32) (hK4 : ∀ (v2' : Int32) (v3' : Int32) (s' : PS), K4 v2' v3' s' → WB x G 6 (QfI x G 0 0 Q) 0 0 s' 4 [(0, .ref (kB G + 0)), (1, .int v1), (2, .int v2'), (3, .int v3')] []) : ∀ (n : Nat) (v4 : Int32) (v5 : Int32) (s : PS) (h : l_X0_takenOf_23 G Q K4 v1 v2 v3 n v4 v5 s), WB x G 6 (QfI x G 0 0 Q) 0 0 s 23 [(0, .ref (kB G + 0)), (1, .int v1), (2, .int v2), (3, .int v3), (4, .int v4), (5, .int v5)] [] := by
  intro n
  induction n with
  | zero =>
    intro v4 v5 s h
    exact False.elim h
  | succ n ih =>
    intro v4 v5 s h
    unfold l_X0_takenOf_23 at h
    refine r_iload X 5 dX0_takenOf_23 rfl ?_
    refine r_aload_n X 0 dX0_takenOf_25 rfl rfl ?_
    refine gr_X0_12 X hph 0 0 1 ly_0 rfl rfl dX0_takenOf_26 ?_
    refine gr_X0_74 X hph 1 1 2 ly_1 rfl rfl dX0_takenOf_29 ?_
    refine r_iconst (v := 0) X dX0_takenOf_32 rfl ?_
    refine r_ialdL X hph 2 9 ly_2 tn_0 il_0_9 dX0_takenOf_33 ?_
    refine r_ic_ge X 70 dX0_takenOf_34 (by decide) (fun c1 => ?_) (fun c1 => ?_)
    · replace h := h.1 c1
      refine r_iload_n X 2 dX0_takenOf_70 rfl rfl ?_
      refine r_aload_n X 0 dX0_takenOf_71 rfl rfl ?_
      refine gr_X0_49 X hph 0 0 164 ly_0 rfl rfl dX0_takenOf_72 ?_
      refine r_iload_n X 3 dX0_takenOf_75 rfl rfl ?_
      obtain ⟨g2, h⟩ := h
      refine r_ialdL X hph 164 6 ly_164 rfl g2 dX0_takenOf_76 ?_
      refine r_iload X 4 dX0_takenOf_77 rfl ?_
      refine r_mmin X q1068 q518 q150 q519 (Nat.le_of_ble_eq_true rfl) (Nat.le_of_ble_eq_true rfl) (Nat.le_of_ble_eq_true rfl) ⟨Nat.le_of_ble_eq_true rfl, Nat.le_of_ble_eq_true rfl⟩ dX0_takenOf_79 ?_
      refine r_iadd X dX0_takenOf_82 ?_
      refine r_nmI (fun y3 e4 => ?_)
      replace h := h y3 e4
      refine r_istore_n (lv' := [(2, .int y3), (0, .ref (kB G + 0)), (1, .int v1), (3, .int v3), (4, .int v4), (5, .int v5)]) X dX0_takenOf_83 rfl (Nat.le_of_ble_eq_true rfl) rfl ?_
      refine r_iinc (lv' := [(3, .int (v3 + 1)), (2, .int y3), (0, .ref (kB G + 0)), (1, .int v1), (4, .int v4), (5, .int v5)]) X 3 dX0_takenOf_84 rfl rfl (Nat.le_of_ble_eq_true rfl) rfl ?_
      refine r_goto X 4 dX0_takenOf_87 (by decide) ?_
      refine r_sub [2, 3, 1, 0] rfl ?_
      exact hK4 y3 (v3 + 1) s h
    · replace h := h.2 c1
      refine r_iload X 4 dX0_takenOf_37 rfl ?_
      refine r_iload_n X 1 dX0_takenOf_39 rfl rfl ?_
      refine r_iload X 5 dX0_takenOf_40 rfl ?_
      refine r_ci X (r_okS (As := [.int v1, .int v5]) (rest := [.int v4]) X (m_X0_has (xl x) G X.2.2.2.2.1 v1 v5 s _ h) (cl_X0_174 X ⟨(Nat.le_of_ble_eq_true rfl), (Nat.le_of_ble_eq_true rfl)⟩) rfl rfl (Nat.le_of_ble_eq_true rfl) dX0_takenOf_42 ⟨Nat.le_of_ble_eq_true rfl, Nat.le_of_ble_eq_true rfl⟩) (fun r6 s5 h => ?_)
      obtain ⟨z7, h⟩ := h
      refine r_if_eq X 60 dX0_takenOf_45 (by decide) (fun c8 => ?_) (fun c8 => ?_)
      · replace h := h.1 c8
        refine r_iconst (v := 0) X dX0_takenOf_60 rfl ?_
        refine r_iadd X dX0_takenOf_61 ?_
        refine r_nmI (fun y9 e10 => ?_)
        replace h := h y9 e10
        refine r_istore (lv' := [(4, .int y9), (0, .ref (kB G + 0)), (1, .int v1), (2, .int v2), (3, .int v3), (5, .int v5)]) X dX0_takenOf_62 (Nat.le_of_ble_eq_true rfl) rfl ?_
        refine r_iinc (lv' := [(5, .int (v5 + 1)), (4, .int y9), (0, .ref (kB G + 0)), (1, .int v1), (2, .int v2), (3, .int v3)]) X 5 dX0_takenOf_64 rfl rfl (Nat.le_of_ble_eq_true rfl) rfl ?_
        refine r_goto X 23 dX0_takenOf_67 (by decide) ?_
        refine r_sub [2, 3, 4, 5, 1, 0] rfl ?_
        exact ih y9 (v5 + 1) s5 h
      · replace h := h.2 c8
        refine r_aload_n X 0 dX0_takenOf_48 rfl rfl ?_
        refine gr_X0_54 X hph 0 0 165 ly_0 rfl rfl dX0_takenOf_49 ?_
        refine r_iload X 5 dX0_takenOf_52 rfl ?_
        obtain ⟨g11, h⟩ := h
        refine r_aaldG X hph 11 165 6 166 ly_165 rfl lr_11 rfl g11 dX0_takenOf_54 ?_
        refine r_iload_n X 3 dX0_takenOf_55 rfl rfl ?_
        obtain ⟨g12, h⟩ := h
        refine r_ialdL X hph (166 + v5.toNatClampNeg) 6 (lg_11 _ (lt_in g11)) rfl g12 dX0_takenOf_56 ?_
        refine r_goto X 61 dX0_takenOf_57 (by decide) ?_
        refine r_iadd X dX0_takenOf_61 ?_
        refine r_nmI (fun y13 e14 => ?_)
        replace h := h y13 e14
        refine r_istore (lv' := [(4, .int y13), (0, .ref (kB G + 0)), (1, .int v1), (2, .int v2), (3, .int v3), (5, .int v5)]) X dX0_takenOf_62 (Nat.le_of_ble_eq_true rfl) rfl ?_
        refine r_iinc (lv' := [(5, .int (v5 + 1)), (4, .int y13), (0, .ref (kB G + 0)), (1, .int v1), (2, .int v2), (3, .int v3)]) X 5 dX0_takenOf_64 rfl rfl (Nat.le_of_ble_eq_true rfl) rfl ?_
        refine r_goto X 23 dX0_takenOf_67 (by decide) ?_
        refine r_sub [2, 3, 4, 5, 1, 0] rfl ?_
        exact ih y13 (v5 + 1) s5 h
theorem tl_X0_takenOf_4 {x : CT} {G : GT} (X : Cx x G cX0_takenOf 6 RX0 (some .int) rm_X0_takenOf) (hph : kP G = 1) (Q : Int32 → PS → Prop) (v1 : Int32) : ∀ (n : Nat) (v2 : Int32) (v3 : Int32) (s : PS) (h : l_X0_takenOf_4 G Q v1 n v2 v3 s), WB x G 6 (QfI x G 0 0 Q) 0 0 s 4 [(0, .ref (kB G + 0)), (1, .int v1), (2, .int v2), (3, .int v3)] [] := by
  intro n
  induction n with
  | zero =>
    intro v2 v3 s h
    exact False.elim h
  | succ n ih =>
    intro v2 v3 s h
    unfold l_X0_takenOf_4 at h
    refine r_iload_n X 3 dX0_takenOf_4 rfl rfl ?_
    refine r_aload_n X 0 dX0_takenOf_5 rfl rfl ?_
    refine gr_X0_12 X hph 0 0 1 ly_0 rfl rfl dX0_takenOf_6 ?_
    refine gr_X0_74 X hph 1 1 2 ly_1 rfl rfl dX0_takenOf_9 ?_
    refine r_iconst (v := 0) X dX0_takenOf_12 rfl ?_
    refine r_ialdL X hph 2 9 ly_2 tn_0 il_0_9 dX0_takenOf_13 ?_
    refine r_ic_ge X 90 dX0_takenOf_14 (by decide) (fun c1 => ?_) (fun c1 => ?_)
    · replace h := h.1 c1
      refine r_iload_n X 2 dX0_takenOf_90 rfl rfl ?_
      exact r_iret X h (Nat.le_of_ble_eq_true rfl) (Nat.le_of_ble_eq_true rfl) dX0_takenOf_91
    · replace h := h.2 c1
      refine r_iconst (v := 0) X dX0_takenOf_17 rfl ?_
      refine r_istore (lv' := [(4, .int 0), (0, .ref (kB G + 0)), (1, .int v1), (2, .int v2), (3, .int v3)]) X dX0_takenOf_18 (Nat.le_of_ble_eq_true rfl) rfl ?_
      refine r_iconst (v := 0) X dX0_takenOf_20 rfl ?_
      refine r_istore (lv' := [(5, .int 0), (4, .int 0), (0, .ref (kB G + 0)), (1, .int v1), (2, .int v2), (3, .int v3)]) X dX0_takenOf_21 (Nat.le_of_ble_eq_true rfl) rfl ?_
      refine r_sub [2, 3, 4, 5, 1, 0] rfl ?_
      obtain ⟨n2, h⟩ := h
      exact tl_X0_takenOf_23 X hph Q (l_X0_takenOf_4 G Q v1 n) v1 v2 v3 ih n2 0 0 s h
theorem e_X0_takenOf {x : CT} {G : GT} (X : Cx x G cX0_takenOf 6 RX0 (some .int) rm_X0_takenOf) (hph : kP G = 1) (p1 : Int32) (s : PS) (Q : Int32 → PS → Prop) (h : w_X0_takenOf G p1 s Q) : WB x G 6 (QfI x G 0 0 Q) 0 0 s 0 [(0, .ref (kB G + 0)), (1, .int p1)] [] := by
  unfold w_X0_takenOf at h
  refine r_iconst (v := 0) X dX0_takenOf_0 rfl ?_
  refine r_istore_n (lv' := [(2, .int 0), (0, .ref (kB G + 0)), (1, .int p1)]) X dX0_takenOf_1 rfl (Nat.le_of_ble_eq_true rfl) rfl ?_
  refine r_iconst (v := 0) X dX0_takenOf_2 rfl ?_
  refine r_istore_n (lv' := [(3, .int 0), (2, .int 0), (0, .ref (kB G + 0)), (1, .int p1)]) X dX0_takenOf_3 rfl (Nat.le_of_ble_eq_true rfl) rfl ?_
  refine r_sub [2, 3, 1, 0] rfl ?_
  obtain ⟨n1, h⟩ := h
  exact tl_X0_takenOf_4 X hph Q p1 n1 0 0 s h
theorem m_X0_takenOf (l : Launch) (G : GT) (g : GK G) (hph : kP G = 1) (p1 : Int32) (s : PS) (Q : Int32 → PS → Prop) (h : w_X0_takenOf G p1 s Q) : Met l yX0_takenOf (ws_ yX0_takenOf cX0_takenOf 6 (some .int)) rm_X0_takenOf (va_Pc [.ref (kB G + 0), .int p1] (Wr G s)) (va_Qi Q (fun u t => Wr G u t) (kF G)) 0 0 (kF G) := by
  refine Met.ofW (cc := cX0_takenOf) (maxL := 6) (ret := (some .int)) (by decide) rfl ?_
  intro p e s0 m args below meth c s₁ B hml hv
  obtain ⟨rfl, hw⟩ := hv
  exact wb_of [.ref (kB G + 0), .int p1] (Nat.le_of_ble_eq_true rfl) hw.1 rfl (e_X0_takenOf (cx_of g B hml rfl hw) hph p1 s Q h)
theorem tl_X0_tooHeavy_17 {x : CT} {G : GT} (X : Cx x G cX0_tooHeavy 5 RX0 (some .int) rm_X0_tooHeavy) (hph : kP G = 1) (Q : Int32 → PS → Prop) (K2 : Int32 → PS → Prop) (v1 : Int32) (hK2 : ∀ (v1' : Int32) (s' : PS), K2 v1' s' → WB x G 5 (QfI x G 0 0 Q) 0 0 s' 2 [(0, .ref (kB G + 0)), (1, .int v1')] []) : ∀ (n : Nat) (v2 : Int32) (v3 : Int32) (v4 : Int32) (s : PS) (h : l_X0_tooHeavy_17 G Q K2 v1 n v2 v3 v4 s), WB x G 5 (QfI x G 0 0 Q) 0 0 s 17 [(0, .ref (kB G + 0)), (1, .int v1), (2, .int v2), (3, .int v3), (4, .int v4)] [] := by
  intro n
  induction n with
  | zero =>
    intro v2 v3 v4 s h
    exact False.elim h
  | succ n ih =>
    intro v2 v3 v4 s h
    unfold l_X0_tooHeavy_17 at h
    refine r_iload X 4 dX0_tooHeavy_17 rfl ?_
    refine r_aload_n X 0 dX0_tooHeavy_19 rfl rfl ?_
    refine gr_X0_12 X hph 0 0 1 ly_0 rfl rfl dX0_tooHeavy_20 ?_
    refine gr_X0_74 X hph 1 1 2 ly_1 rfl rfl dX0_tooHeavy_23 ?_
    refine r_iconst (v := 0) X dX0_tooHeavy_26 rfl ?_
    refine r_ialdL X hph 2 9 ly_2 tn_0 il_0_9 dX0_tooHeavy_27 ?_
    refine r_ic_ge X 77 dX0_tooHeavy_28 (by decide) (fun c1 => ?_) (fun c1 => ?_)
    · replace h := h.1 c1
      refine r_iload_n X 3 dX0_tooHeavy_77 rfl rfl ?_
      refine r_if_eq X 92 dX0_tooHeavy_78 (by decide) (fun c2 => ?_) (fun c2 => ?_)
      · replace h := h.1 c2
        refine r_iinc (lv' := [(1, .int (v1 + 1)), (0, .ref (kB G + 0)), (2, .int v2), (3, .int v3), (4, .int v4)]) X 1 dX0_tooHeavy_92 rfl rfl (Nat.le_of_ble_eq_true rfl) rfl ?_
        refine r_goto X 2 dX0_tooHeavy_95 (by decide) ?_
        refine r_sub [1, 0] rfl ?_
        exact hK2 (v1 + 1) s h
      · replace h := h.2 c2
        refine r_iload_n X 2 dX0_tooHeavy_81 rfl rfl ?_
        refine r_aload_n X 0 dX0_tooHeavy_82 rfl rfl ?_
        refine r_iload_n X 1 dX0_tooHeavy_83 rfl rfl ?_
        refine r_ci X (r_okVL (As := [.int v1]) (rest := [.int v2]) X (m_X0_takenOf (xl x) G X.2.2.2.2.1 hph v1 s _ h) (cl_X0_384 X ⟨(Nat.le_of_ble_eq_true rfl), (Nat.le_of_ble_eq_true rfl)⟩) hph 0 ly_0 rfl rfl rfl rfl (Nat.le_of_ble_eq_true rfl) dX0_tooHeavy_84 ⟨Nat.le_of_ble_eq_true rfl, Nat.le_of_ble_eq_true rfl⟩) (fun r4 s3 h => ?_)
        refine r_ic_le X 92 dX0_tooHeavy_87 (by decide) (fun c5 => ?_) (fun c5 => ?_)
        · replace h := h.1 c5
          refine r_iinc (lv' := [(1, .int (v1 + 1)), (0, .ref (kB G + 0)), (2, .int v2), (3, .int v3), (4, .int v4)]) X 1 dX0_tooHeavy_92 rfl rfl (Nat.le_of_ble_eq_true rfl) rfl ?_
          refine r_goto X 2 dX0_tooHeavy_95 (by decide) ?_
          refine r_sub [1, 0] rfl ?_
          exact hK2 (v1 + 1) s3 h
        · replace h := h.2 c5
          refine r_iload_n X 1 dX0_tooHeavy_90 rfl rfl ?_
          exact r_iret X h (Nat.le_of_ble_eq_true rfl) (Nat.le_of_ble_eq_true rfl) dX0_tooHeavy_91
    · replace h := h.2 c1
      refine r_iload_n X 1 dX0_tooHeavy_31 rfl rfl ?_
      refine r_iload X 4 dX0_tooHeavy_32 rfl ?_
      refine r_ci X (r_okS (As := [.int v1, .int v4]) (rest := []) X (m_X0_has (xl x) G X.2.2.2.2.1 v1 v4 s _ h) (cl_X0_174 X ⟨(Nat.le_of_ble_eq_true rfl), (Nat.le_of_ble_eq_true rfl)⟩) rfl rfl (Nat.le_of_ble_eq_true rfl) dX0_tooHeavy_34 ⟨Nat.le_of_ble_eq_true rfl, Nat.le_of_ble_eq_true rfl⟩) (fun r7 s6 h => ?_)
      obtain ⟨z8, h⟩ := h
      refine r_if_ne X 43 dX0_tooHeavy_37 (by decide) (fun c9 => ?_) (fun c9 => ?_)
      · replace h := h.2 c9
        refine r_iload_n X 2 dX0_tooHeavy_43 rfl rfl ?_
        refine r_aload_n X 0 dX0_tooHeavy_44 rfl rfl ?_
        refine gr_X0_46 X hph 0 0 163 ly_0 rfl rfl dX0_tooHeavy_45 ?_
        refine r_iload X 4 dX0_tooHeavy_48 rfl ?_
        obtain ⟨g10, h⟩ := h
        refine r_ialdL X hph 163 6 ly_163 rfl g10 dX0_tooHeavy_50 ?_
        refine r_iadd X dX0_tooHeavy_51 ?_
        refine r_nmI (fun y11 e12 => ?_)
        replace h := h y11 e12
        refine r_istore_n (lv' := [(2, .int y11), (0, .ref (kB G + 0)), (1, .int v1), (3, .int v3), (4, .int v4)]) X dX0_tooHeavy_52 rfl (Nat.le_of_ble_eq_true rfl) rfl ?_
        refine r_iload_n X 3 dX0_tooHeavy_53 rfl rfl ?_
        refine r_aload_n X 1 dX0_tooHeavy_54 rfl rfl ?_
        refine gr_X0_46 X hph 0 0 163 ly_0 rfl rfl dX0_tooHeavy_55 ?_
        refine r_iload X 4 dX0_tooHeavy_58 rfl ?_
        refine r_ialdL X hph 163 6 ly_163 rfl g10 dX0_tooHeavy_60 ?_
        have hJ : WB x G 5 (QfI x G 0 0 Q) 0 0 s6 69 [(2, .int y11), (0, .ref (kB G + 0)), (1, .int v1), (3, .int v3), (4, .int v4)] [.int (if (gI s6 (kB G + 163) v4.toNatClampNeg) ≤ 0 then 0 else 1 : Int32), .int v3] := by
          refine r_iand X dX0_tooHeavy_69 ?_
          refine r_nmI (fun y14 e15 => ?_)
          replace h := h y14 e15
          refine r_istore_n (lv' := [(3, .int y14), (2, .int y11), (0, .ref (kB G + 0)), (1, .int v1), (4, .int v4)]) X dX0_tooHeavy_70 rfl (Nat.le_of_ble_eq_true rfl) rfl ?_
          refine r_iinc (lv' := [(4, .int (v4 + 1)), (3, .int y14), (2, .int y11), (0, .ref (kB G + 0)), (1, .int v1)]) X 4 dX0_tooHeavy_71 rfl rfl (Nat.le_of_ble_eq_true rfl) rfl ?_
          refine r_goto X 17 dX0_tooHeavy_74 (by decide) ?_
          refine r_sub [3, 4, 2, 1, 0] rfl ?_
          exact ih y11 y14 (v4 + 1) s6 h
        refine r_if_le X 68 dX0_tooHeavy_61 (by decide) (fun c13 => ?_) (fun c13 => ?_)
        · rw [if_pos c13] at hJ
          refine r_iconst (v := 0) X dX0_tooHeavy_68 rfl ?_
          exact hJ
        · rw [if_neg c13] at hJ
          refine r_iconst (v := 1) X dX0_tooHeavy_64 rfl ?_
          refine r_goto X 69 dX0_tooHeavy_65 (by decide) ?_
          exact hJ
      · replace h := h.1 c9
        refine r_goto X 71 dX0_tooHeavy_40 (by decide) ?_
        refine r_iinc (lv' := [(4, .int (v4 + 1)), (0, .ref (kB G + 0)), (1, .int v1), (2, .int v2), (3, .int v3)]) X 4 dX0_tooHeavy_71 rfl rfl (Nat.le_of_ble_eq_true rfl) rfl ?_
        refine r_goto X 17 dX0_tooHeavy_74 (by decide) ?_
        refine r_sub [1, 2, 3, 4, 0] rfl ?_
        exact ih v2 v3 (v4 + 1) s6 h
theorem tl_X0_tooHeavy_2 {x : CT} {G : GT} (X : Cx x G cX0_tooHeavy 5 RX0 (some .int) rm_X0_tooHeavy) (hph : kP G = 1) (Q : Int32 → PS → Prop) : ∀ (n : Nat) (v1 : Int32) (s : PS) (h : l_X0_tooHeavy_2 G Q n v1 s), WB x G 5 (QfI x G 0 0 Q) 0 0 s 2 [(0, .ref (kB G + 0)), (1, .int v1)] [] := by
  intro n
  induction n with
  | zero =>
    intro v1 s h
    exact False.elim h
  | succ n ih =>
    intro v1 s h
    unfold l_X0_tooHeavy_2 at h
    refine r_iload_n X 1 dX0_tooHeavy_2 rfl rfl ?_
    refine r_aload_n X 0 dX0_tooHeavy_3 rfl rfl ?_
    refine r_ci X (r_okVL (As := []) (rest := [.int v1]) X (m_X0_allHearts (xl x) G X.2.2.2.2.1 hph s _ h) (cl_X0_98 X ⟨(Nat.le_of_ble_eq_true rfl), (Nat.le_of_ble_eq_true rfl)⟩) hph 0 ly_0 rfl rfl rfl rfl (Nat.le_of_ble_eq_true rfl) dX0_tooHeavy_4 ⟨Nat.le_of_ble_eq_true rfl, Nat.le_of_ble_eq_true rfl⟩) (fun r2 s1 h => ?_)
    refine r_ic_gt X 98 dX0_tooHeavy_7 (by decide) (fun c3 => ?_) (fun c3 => ?_)
    · replace h := h.1 c3
      refine r_iconst (v := (-1)) X dX0_tooHeavy_98 rfl ?_
      exact r_iret X h (Nat.le_of_ble_eq_true rfl) (Nat.le_of_ble_eq_true rfl) dX0_tooHeavy_99
    · replace h := h.2 c3
      refine r_iconst (v := 0) X dX0_tooHeavy_10 rfl ?_
      refine r_istore_n (lv' := [(2, .int 0), (0, .ref (kB G + 0)), (1, .int v1)]) X dX0_tooHeavy_11 rfl (Nat.le_of_ble_eq_true rfl) rfl ?_
      refine r_iconst (v := 1) X dX0_tooHeavy_12 rfl ?_
      refine r_istore_n (lv' := [(3, .int 1), (2, .int 0), (0, .ref (kB G + 0)), (1, .int v1)]) X dX0_tooHeavy_13 rfl (Nat.le_of_ble_eq_true rfl) rfl ?_
      refine r_iconst (v := 0) X dX0_tooHeavy_14 rfl ?_
      refine r_istore (lv' := [(4, .int 0), (3, .int 1), (2, .int 0), (0, .ref (kB G + 0)), (1, .int v1)]) X dX0_tooHeavy_15 (Nat.le_of_ble_eq_true rfl) rfl ?_
      refine r_sub [3, 4, 2, 1, 0] rfl ?_
      obtain ⟨n4, h⟩ := h
      exact tl_X0_tooHeavy_17 X hph Q (l_X0_tooHeavy_2 G Q n) v1 ih n4 0 1 0 s1 h
theorem e_X0_tooHeavy {x : CT} {G : GT} (X : Cx x G cX0_tooHeavy 5 RX0 (some .int) rm_X0_tooHeavy) (hph : kP G = 1) (s : PS) (Q : Int32 → PS → Prop) (h : w_X0_tooHeavy G s Q) : WB x G 5 (QfI x G 0 0 Q) 0 0 s 0 [(0, .ref (kB G + 0))] [] := by
  unfold w_X0_tooHeavy at h
  refine r_iconst (v := 1) X dX0_tooHeavy_0 rfl ?_
  refine r_istore_n (lv' := [(1, .int 1), (0, .ref (kB G + 0))]) X dX0_tooHeavy_1 rfl (Nat.le_of_ble_eq_true rfl) rfl ?_
  refine r_sub [1, 0] rfl ?_
  obtain ⟨n1, h⟩ := h
  exact tl_X0_tooHeavy_2 X hph Q n1 1 s h
theorem m_X0_tooHeavy (l : Launch) (G : GT) (g : GK G) (hph : kP G = 1) (s : PS) (Q : Int32 → PS → Prop) (h : w_X0_tooHeavy G s Q) : Met l yX0_tooHeavy (ws_ yX0_tooHeavy cX0_tooHeavy 5 (some .int)) rm_X0_tooHeavy (va_Pc [.ref (kB G + 0)] (Wr G s)) (va_Qi Q (fun u t => Wr G u t) (kF G)) 0 0 (kF G) := by
  refine Met.ofW (cc := cX0_tooHeavy) (maxL := 5) (ret := (some .int)) (by decide) rfl ?_
  intro p e s0 m args below meth c s₁ B hml hv
  obtain ⟨rfl, hw⟩ := hv
  exact wb_of [.ref (kB G + 0)] (Nat.le_of_ble_eq_true rfl) hw.1 rfl (e_X0_tooHeavy (cx_of g B hml rfl hw) hph s Q h)
theorem tl_X0_lendsLeast_37 {x : CT} {G : GT} (X : Cx x G cX0_lendsLeast 7 RX0 none rm_X0_lendsLeast) (hph : kP G = 1) (Q : PS → Prop) (v1 : Int32) (v2 : Int32) (v3 : Int32) (v4 : Int32) (v5 : Int32) : ∀ (n : Nat) (v6 : Int32) (s : PS) (h : l_X0_lendsLeast_37 G Q v1 v2 v3 v4 v5 n v6 s), WB x G 7 (QfV x G 0 0 Q) 0 0 s 37 [(0, .ref (kB G + 0)), (1, .int v1), (2, .int v2), (3, .int v3), (4, .int v4), (5, .int v5), (6, .int v6)] [] := by
  intro n
  induction n with
  | zero =>
    intro v6 s h
    exact False.elim h
  | succ n ih =>
    intro v6 s h
    unfold l_X0_lendsLeast_37 at h
    refine r_aload_n X 0 dX0_lendsLeast_37 rfl rfl ?_
    refine r_ci X (r_okVL (As := []) (rest := []) X (m_X0_tooHeavy (xl x) G X.2.2.2.2.1 hph s _ h) (cl_X0_387 X ⟨(Nat.le_of_ble_eq_true rfl), (Nat.le_of_ble_eq_true rfl)⟩) hph 0 ly_0 rfl rfl rfl rfl (Nat.le_of_ble_eq_true rfl) dX0_lendsLeast_38 ⟨Nat.le_of_ble_eq_true rfl, Nat.le_of_ble_eq_true rfl⟩) (fun r2 s1 h => ?_)
    refine r_iconst (v := (-1)) X dX0_lendsLeast_41 rfl ?_
    refine r_ic_eq X 77 dX0_lendsLeast_42 (by decide) (fun c3 => ?_) (fun c3 => ?_)
    · replace h := h.1 c3
      refine r_aload_n X 0 dX0_lendsLeast_77 rfl rfl ?_
      refine gr_X0_57 X hph 0 0 172 ly_0 rfl rfl dX0_lendsLeast_78 ?_
      refine r_iload_n X 1 dX0_lendsLeast_81 rfl rfl ?_
      obtain ⟨g4, h⟩ := h
      refine r_aaldG X hph 12 172 6 173 ly_172 rfl lr_12 rfl g4 dX0_lendsLeast_82 ?_
      refine r_iload_n X 2 dX0_lendsLeast_83 rfl rfl ?_
      refine r_iload X 6 dX0_lendsLeast_84 rfl ?_
      refine r_iload_n X 3 dX0_lendsLeast_86 rfl rfl ?_
      refine r_mmin X q1068 q518 q150 q519 (Nat.le_of_ble_eq_true rfl) (Nat.le_of_ble_eq_true rfl) (Nat.le_of_ble_eq_true rfl) ⟨Nat.le_of_ble_eq_true rfl, Nat.le_of_ble_eq_true rfl⟩ dX0_lendsLeast_87 ?_
      obtain ⟨g5, h⟩ := h
      refine r_iastL X hph (173 + v1.toNatClampNeg) 6 (lg_12 _ (lt_in g4)) rfl g5 dX0_lendsLeast_90 (fun s6 e7 => ?_)
      replace h := h s6 e7
      exact r_vret X h (Nat.le_of_ble_eq_true rfl) (Nat.le_of_ble_eq_true rfl) dX0_lendsLeast_91
    · replace h := h.2 c3
      refine r_iinc (lv' := [(6, .int (v6 + 1)), (0, .ref (kB G + 0)), (1, .int v1), (2, .int v2), (3, .int v3), (4, .int v4), (5, .int v5)]) X 6 dX0_lendsLeast_45 rfl rfl (Nat.le_of_ble_eq_true rfl) rfl ?_
      refine r_aload_n X 1 dX0_lendsLeast_48 rfl rfl ?_
      refine gr_X0_46 X hph 0 0 163 ly_0 rfl rfl dX0_lendsLeast_49 ?_
      refine r_iload_n X 2 dX0_lendsLeast_52 rfl rfl ?_
      refine r_iconst (v := 0) X dX0_lendsLeast_53 rfl ?_
      refine r_iload X 5 dX0_lendsLeast_54 rfl ?_
      refine r_iload X 0 dX0_lendsLeast_56 rfl ?_
      refine r_isub X dX0_lendsLeast_58 ?_
      refine r_mmax X q1182 q726 q150 q727 (Nat.le_of_ble_eq_true rfl) (Nat.le_of_ble_eq_true rfl) (Nat.le_of_ble_eq_true rfl) ⟨Nat.le_of_ble_eq_true rfl, Nat.le_of_ble_eq_true rfl⟩ dX0_lendsLeast_59 ?_
      obtain ⟨g8, h⟩ := h
      refine r_iastL X hph 163 6 ly_163 rfl g8 dX0_lendsLeast_62 (fun s9 e10 => ?_)
      replace h := h s9 e10
      refine r_aload_n X 1 dX0_lendsLeast_63 rfl rfl ?_
      refine gr_X0_49 X hph 0 0 164 ly_0 rfl rfl dX0_lendsLeast_64 ?_
      refine r_iload_n X 3 dX0_lendsLeast_67 rfl rfl ?_
      refine r_iload X 6 dX0_lendsLeast_68 rfl ?_
      refine r_iload X 0 dX0_lendsLeast_70 rfl ?_
      refine r_isub X dX0_lendsLeast_72 ?_
      obtain ⟨g11, h⟩ := h
      refine r_iastL X hph 164 6 ly_164 rfl g11 dX0_lendsLeast_73 (fun s12 e13 => ?_)
      replace h := h s12 e13
      refine r_goto X 37 dX0_lendsLeast_74 (by decide) ?_
      refine r_sub [1, 2, 3, 4, 5, 6, 0] rfl ?_
      exact ih (v6 + 1) s12 h
theorem e_X0_lendsLeast {x : CT} {G : GT} (X : Cx x G cX0_lendsLeast 7 RX0 none rm_X0_lendsLeast) (hph : kP G = 1) (p1 : Int32) (p2 : Int32) (s : PS) (Q : PS → Prop) (h : w_X0_lendsLeast G p1 p2 s Q) : WB x G 7 (QfV x G 0 0 Q) 0 0 s 0 [(0, .ref (kB G + 0)), (1, .int p1), (2, .int p2)] [] := by
  unfold w_X0_lendsLeast at h
  refine r_aload_n X 0 dX0_lendsLeast_0 rfl rfl ?_
  refine gr_X0_54 X hph 0 0 165 ly_0 rfl rfl dX0_lendsLeast_1 ?_
  refine r_iload_n X 1 dX0_lendsLeast_4 rfl rfl ?_
  obtain ⟨g1, h⟩ := h
  refine r_aaldG X hph 11 165 6 166 ly_165 rfl lr_11 rfl g1 dX0_lendsLeast_5 ?_
  refine r_iload_n X 2 dX0_lendsLeast_6 rfl rfl ?_
  obtain ⟨g2, h⟩ := h
  refine r_ialdL X hph (166 + p1.toNatClampNeg) 6 (lg_11 _ (lt_in g1)) rfl g2 dX0_lendsLeast_7 ?_
  refine r_nmI (fun y3 e4 => ?_)
  replace h := h y3 e4
  refine r_istore_n (lv' := [(3, .int y3), (0, .ref (kB G + 0)), (1, .int p1), (2, .int p2)]) X dX0_lendsLeast_8 rfl (Nat.le_of_ble_eq_true rfl) rfl ?_
  refine r_aload_n X 1 dX0_lendsLeast_9 rfl rfl ?_
  refine gr_X0_46 X hph 0 0 163 ly_0 rfl rfl dX0_lendsLeast_10 ?_
  refine r_iload_n X 2 dX0_lendsLeast_13 rfl rfl ?_
  refine r_ialdL X hph 163 6 ly_163 rfl g1 dX0_lendsLeast_14 ?_
  refine r_nmI (fun y5 e6 => ?_)
  replace h := h y5 e6
  refine r_istore (lv' := [(4, .int y5), (3, .int y3), (0, .ref (kB G + 0)), (1, .int p1), (2, .int p2)]) X dX0_lendsLeast_15 (Nat.le_of_ble_eq_true rfl) rfl ?_
  refine r_aload_n X 2 dX0_lendsLeast_17 rfl rfl ?_
  refine gr_X0_49 X hph 0 0 164 ly_0 rfl rfl dX0_lendsLeast_18 ?_
  refine r_iload_n X 4 dX0_lendsLeast_21 rfl rfl ?_
  refine r_ialdL X hph 164 6 ly_164 rfl g2 dX0_lendsLeast_22 ?_
  refine r_nmI (fun y7 e8 => ?_)
  replace h := h y7 e8
  refine r_istore (lv' := [(5, .int y7), (4, .int y5), (3, .int y3), (0, .ref (kB G + 0)), (1, .int p1), (2, .int p2)]) X dX0_lendsLeast_23 (Nat.le_of_ble_eq_true rfl) rfl ?_
  refine r_aload_n X 3 dX0_lendsLeast_25 rfl rfl ?_
  refine gr_X0_54 X hph 0 0 165 ly_0 rfl rfl dX0_lendsLeast_26 ?_
  refine r_iload_n X 4 dX0_lendsLeast_29 rfl rfl ?_
  refine r_aaldG X hph 11 165 6 166 ly_165 rfl lr_11 rfl g1 dX0_lendsLeast_30 ?_
  refine r_iload_n X 5 dX0_lendsLeast_31 rfl rfl ?_
  refine r_iconst (v := 0) X dX0_lendsLeast_32 rfl ?_
  refine r_iastL X hph (166 + p1.toNatClampNeg) 6 (lg_11 _ (lt_in g1)) rfl g2 dX0_lendsLeast_33 (fun s9 e10 => ?_)
  replace h := h s9 e10
  refine r_iconst (v := 0) X dX0_lendsLeast_34 rfl ?_
  refine r_istore (lv' := [(6, .int 0), (5, .int y7), (4, .int y5), (3, .int y3), (0, .ref (kB G + 0)), (1, .int p1), (2, .int p2)]) X dX0_lendsLeast_35 (Nat.le_of_ble_eq_true rfl) rfl ?_
  refine r_sub [4, 5, 6, 3, 2, 1, 0] rfl ?_
  obtain ⟨n11, h⟩ := h
  exact tl_X0_lendsLeast_37 X hph Q p1 p2 y3 y5 y7 n11 0 s9 h
theorem m_X0_lendsLeast (l : Launch) (G : GT) (g : GK G) (hph : kP G = 1) (p1 : Int32) (p2 : Int32) (s : PS) (Q : PS → Prop) (h : w_X0_lendsLeast G p1 p2 s Q) : Met l yX0_lendsLeast (ws_ yX0_lendsLeast cX0_lendsLeast 7 none) rm_X0_lendsLeast (va_Pc [.ref (kB G + 0), .int p1, .int p2] (Wr G s)) (va_Qv Q (fun u t => Wr G u t) (kF G)) 0 0 (kF G) := by
  refine Met.ofW (cc := cX0_lendsLeast) (maxL := 7) (ret := none) (by decide) rfl ?_
  intro p e s0 m args below meth c s₁ B hml hv
  obtain ⟨rfl, hw⟩ := hv
  exact wb_of [.ref (kB G + 0), .int p1, .int p2] (Nat.le_of_ble_eq_true rfl) hw.1 rfl (e_X0_lendsLeast (cx_of g B hml rfl hw) hph p1 p2 s Q h)
theorem tl_X0_lendsAll_31 {x : CT} {G : GT} (X : Cx x G cX0_lendsAll 3 RX0 (some .boolean) rm_X0_lendsAll) (hph : kP G = 1) (Q : Int32 → PS → Prop) (K16 : Int32 → PS → Prop) (v1 : Int32) (hK16 : ∀ (v1' : Int32) (s' : PS), K16 v1' s' → WB x G 3 (QfI x G 0 0 (fun r u => (r = 0 ∨ r = 1) ∧ Q r u)) 0 0 s' 16 [(0, .ref (kB G + 0)), (1, .int v1')] []) : ∀ (n : Nat) (v2 : Int32) (s : PS) (h : l_X0_lendsAll_31 G Q K16 v1 n v2 s), WB x G 3 (QfI x G 0 0 (fun r u => (r = 0 ∨ r = 1) ∧ Q r u)) 0 0 s 31 [(0, .ref (kB G + 0)), (1, .int v1), (2, .int v2)] [] := by
  intro n
  induction n with
  | zero =>
    intro v2 s h
    exact False.elim h
  | succ n ih =>
    intro v2 s h
    unfold l_X0_lendsAll_31 at h
    refine r_iload_n X 2 dX0_lendsAll_31 rfl rfl ?_
    refine r_aload_n X 0 dX0_lendsAll_32 rfl rfl ?_
    refine gr_X0_12 X hph 0 0 1 ly_0 rfl rfl dX0_lendsAll_33 ?_
    refine gr_X0_74 X hph 1 1 2 ly_1 rfl rfl dX0_lendsAll_36 ?_
    refine r_iconst (v := 0) X dX0_lendsAll_39 rfl ?_
    refine r_ialdL X hph 2 9 ly_2 tn_0 il_0_9 dX0_lendsAll_40 ?_
    refine r_ic_ge X 74 dX0_lendsAll_41 (by decide) (fun c1 => ?_) (fun c1 => ?_)
    · replace h := h.1 c1
      refine r_iinc (lv' := [(1, .int (v1 + 1)), (0, .ref (kB G + 0)), (2, .int v2)]) X 1 dX0_lendsAll_74 rfl rfl (Nat.le_of_ble_eq_true rfl) rfl ?_
      refine r_goto X 16 dX0_lendsAll_77 (by decide) ?_
      refine r_sub [1, 0] rfl ?_
      exact hK16 (v1 + 1) s h
    · replace h := h.2 c1
      refine r_aload_n X 0 dX0_lendsAll_44 rfl rfl ?_
      refine gr_X0_46 X hph 0 0 163 ly_0 rfl rfl dX0_lendsAll_45 ?_
      refine r_iload_n X 1 dX0_lendsAll_48 rfl rfl ?_
      obtain ⟨g2, h⟩ := h
      refine r_ialdL X hph 163 6 ly_163 rfl g2 dX0_lendsAll_49 ?_
      refine r_if_le X 68 dX0_lendsAll_50 (by decide) (fun c3 => ?_) (fun c3 => ?_)
      · replace h := h.1 c3
        refine r_iinc (lv' := [(2, .int (v2 + 1)), (0, .ref (kB G + 0)), (1, .int v1)]) X 2 dX0_lendsAll_68 rfl rfl (Nat.le_of_ble_eq_true rfl) rfl ?_
        refine r_goto X 31 dX0_lendsAll_71 (by decide) ?_
        refine r_sub [1, 2, 0] rfl ?_
        exact ih (v2 + 1) s h
      · replace h := h.2 c3
        refine r_aload_n X 0 dX0_lendsAll_53 rfl rfl ?_
        refine gr_X0_49 X hph 0 0 164 ly_0 rfl rfl dX0_lendsAll_54 ?_
        refine r_iload_n X 2 dX0_lendsAll_57 rfl rfl ?_
        obtain ⟨g4, h⟩ := h
        refine r_ialdL X hph 164 6 ly_164 rfl g4 dX0_lendsAll_58 ?_
        refine r_if_le X 68 dX0_lendsAll_59 (by decide) (fun c5 => ?_) (fun c5 => ?_)
        · replace h := h.1 c5
          refine r_iinc (lv' := [(2, .int (v2 + 1)), (0, .ref (kB G + 0)), (1, .int v1)]) X 2 dX0_lendsAll_68 rfl rfl (Nat.le_of_ble_eq_true rfl) rfl ?_
          refine r_goto X 31 dX0_lendsAll_71 (by decide) ?_
          refine r_sub [1, 2, 0] rfl ?_
          exact ih (v2 + 1) s h
        · replace h := h.2 c5
          refine r_aload_n X 0 dX0_lendsAll_62 rfl rfl ?_
          refine r_iload_n X 1 dX0_lendsAll_63 rfl rfl ?_
          refine r_iload_n X 2 dX0_lendsAll_64 rfl rfl ?_
          refine r_cv X (r_okVL (As := [.int v1, .int v2]) (rest := []) X (m_X0_lendsLeast (xl x) G X.2.2.2.2.1 hph v1 v2 s _ h) (cl_X0_393 X ⟨(Nat.le_of_ble_eq_true rfl), (Nat.le_of_ble_eq_true rfl)⟩) hph 0 ly_0 rfl rfl rfl rfl (Nat.le_of_ble_eq_true rfl) dX0_lendsAll_65 ⟨Nat.le_of_ble_eq_true rfl, Nat.le_of_ble_eq_true rfl⟩) (fun s6 h => ?_)
          refine r_iinc (lv' := [(2, .int (v2 + 1)), (0, .ref (kB G + 0)), (1, .int v1)]) X 2 dX0_lendsAll_68 rfl rfl (Nat.le_of_ble_eq_true rfl) rfl ?_
          refine r_goto X 31 dX0_lendsAll_71 (by decide) ?_
          refine r_sub [1, 2, 0] rfl ?_
          exact ih (v2 + 1) s6 h
theorem tl_X0_lendsAll_16 {x : CT} {G : GT} (X : Cx x G cX0_lendsAll 3 RX0 (some .boolean) rm_X0_lendsAll) (hph : kP G = 1) (Q : Int32 → PS → Prop) : ∀ (n : Nat) (v1 : Int32) (s : PS) (h : l_X0_lendsAll_16 G Q n v1 s), WB x G 3 (QfI x G 0 0 (fun r u => (r = 0 ∨ r = 1) ∧ Q r u)) 0 0 s 16 [(0, .ref (kB G + 0)), (1, .int v1)] [] := by
  intro n
  induction n with
  | zero =>
    intro v1 s h
    exact False.elim h
  | succ n ih =>
    intro v1 s h
    unfold l_X0_lendsAll_16 at h
    refine r_iload_n X 1 dX0_lendsAll_16 rfl rfl ?_
    refine r_aload_n X 0 dX0_lendsAll_17 rfl rfl ?_
    refine gr_X0_12 X hph 0 0 1 ly_0 rfl rfl dX0_lendsAll_18 ?_
    refine gr_X0_74 X hph 1 1 2 ly_1 rfl rfl dX0_lendsAll_21 ?_
    refine r_iconst (v := 0) X dX0_lendsAll_24 rfl ?_
    refine r_ialdL X hph 2 9 ly_2 tn_0 il_0_9 dX0_lendsAll_25 ?_
    refine r_ic_ge X 80 dX0_lendsAll_26 (by decide) (fun c1 => ?_) (fun c1 => ?_)
    · replace h := h.1 c1
      refine r_iconst (v := 1) X dX0_lendsAll_80 rfl ?_
      exact r_zret X (Or.inr rfl) h (Nat.le_of_ble_eq_true rfl) (Nat.le_of_ble_eq_true rfl) dX0_lendsAll_81
    · replace h := h.2 c1
      refine r_iconst (v := 0) X dX0_lendsAll_29 rfl ?_
      refine r_istore_n (lv' := [(2, .int 0), (0, .ref (kB G + 0)), (1, .int v1)]) X dX0_lendsAll_30 rfl (Nat.le_of_ble_eq_true rfl) rfl ?_
      refine r_sub [1, 2, 0] rfl ?_
      obtain ⟨n2, h⟩ := h
      exact tl_X0_lendsAll_31 X hph Q (l_X0_lendsAll_16 G Q n) v1 ih n2 0 s h
theorem e_X0_lendsAll {x : CT} {G : GT} (X : Cx x G cX0_lendsAll 3 RX0 (some .boolean) rm_X0_lendsAll) (hph : kP G = 1) (s : PS) (Q : Int32 → PS → Prop) (h : w_X0_lendsAll G s Q) : WB x G 3 (QfI x G 0 0 (fun r u => (r = 0 ∨ r = 1) ∧ Q r u)) 0 0 s 0 [(0, .ref (kB G + 0))] [] := by
  unfold w_X0_lendsAll at h
  refine r_aload_n X 0 dX0_lendsAll_0 rfl rfl ?_
  refine r_cv X (r_okVL (As := []) (rest := []) X (m_X0_laysLending (xl x) G X.2.2.2.2.1 hph s _ h) (cl_X0_390 X ⟨(Nat.le_of_ble_eq_true rfl), (Nat.le_of_ble_eq_true rfl)⟩) hph 0 ly_0 rfl rfl rfl rfl (Nat.le_of_ble_eq_true rfl) dX0_lendsAll_1 ⟨Nat.le_of_ble_eq_true rfl, Nat.le_of_ble_eq_true rfl⟩) (fun s1 h => ?_)
  refine r_aload_n X 0 dX0_lendsAll_4 rfl rfl ?_
  refine r_ci X (r_okVL (As := []) (rest := []) X (m_X0_tooHeavy (xl x) G X.2.2.2.2.1 hph s1 _ h) (cl_X0_387 X ⟨(Nat.le_of_ble_eq_true rfl), (Nat.le_of_ble_eq_true rfl)⟩) hph 0 ly_0 rfl rfl rfl rfl (Nat.le_of_ble_eq_true rfl) dX0_lendsAll_5 ⟨Nat.le_of_ble_eq_true rfl, Nat.le_of_ble_eq_true rfl⟩) (fun r3 s2 h => ?_)
  refine r_iconst (v := (-1)) X dX0_lendsAll_8 rfl ?_
  refine r_ic_eq X 14 dX0_lendsAll_9 (by decide) (fun c4 => ?_) (fun c4 => ?_)
  · replace h := h.1 c4
    refine r_iconst (v := 0) X dX0_lendsAll_14 rfl ?_
    refine r_istore_n (lv' := [(1, .int 0), (0, .ref (kB G + 0))]) X dX0_lendsAll_15 rfl (Nat.le_of_ble_eq_true rfl) rfl ?_
    refine r_sub [1, 0] rfl ?_
    obtain ⟨n5, h⟩ := h
    exact tl_X0_lendsAll_16 X hph Q n5 0 s2 h
  · replace h := h.2 c4
    refine r_iconst (v := 0) X dX0_lendsAll_12 rfl ?_
    exact r_zret X (Or.inl rfl) h (Nat.le_of_ble_eq_true rfl) (Nat.le_of_ble_eq_true rfl) dX0_lendsAll_13
theorem m_X0_lendsAll (l : Launch) (G : GT) (g : GK G) (hph : kP G = 1) (s : PS) (Q : Int32 → PS → Prop) (h : w_X0_lendsAll G s Q) : Met l yX0_lendsAll (ws_ yX0_lendsAll cX0_lendsAll 3 (some .boolean)) rm_X0_lendsAll (va_Pc [.ref (kB G + 0)] (Wr G s)) (va_Qi (fun r u => (r = 0 ∨ r = 1) ∧ Q r u) (fun u t => Wr G u t) (kF G)) 0 0 (kF G) := by
  refine Met.ofW (cc := cX0_lendsAll) (maxL := 3) (ret := (some .boolean)) (by decide) rfl ?_
  intro p e s0 m args below meth c s₁ B hml hv
  obtain ⟨rfl, hw⟩ := hv
  exact wb_of [.ref (kB G + 0)] (Nat.le_of_ble_eq_true rfl) hw.1 rfl (e_X0_lendsAll (cx_of g B hml rfl hw) hph s Q h)
theorem e_X0_lending {x : CT} {G : GT} (X : Cx x G cX0_lending 3 RX0 (some .int) rm_X0_lending) (hph : kP G = 1) (p1 : Int32) (p2 : Int32) (s : PS) (Q : Int32 → PS → Prop) (h : w_X0_lending G p1 p2 s Q) : WB x G 3 (QfI x G 0 0 Q) 0 0 s 0 [(0, .ref (kB G + 0)), (1, .int p1), (2, .int p2)] [] := by
  unfold w_X0_lending at h
  refine r_iload_n X 1 dX0_lending_0 rfl rfl ?_
  refine r_iconst (v := (-1)) X dX0_lending_1 rfl ?_
  refine r_ic_ne X 18 dX0_lending_2 (by decide) (fun c1 => ?_) (fun c1 => ?_)
  · replace h := h.2 c1
    refine r_aload_n X 0 dX0_lending_18 rfl rfl ?_
    refine r_iload_n X 1 dX0_lending_19 rfl rfl ?_
    refine r_ci X (r_okVL (As := [.int p1]) (rest := []) X (m_X0_isHeart (xl x) G X.2.2.2.2.1 hph p1 s _ h) (cl_X0_84 X ⟨(Nat.le_of_ble_eq_true rfl), (Nat.le_of_ble_eq_true rfl)⟩) hph 0 ly_0 rfl rfl rfl rfl (Nat.le_of_ble_eq_true rfl) dX0_lending_20 ⟨Nat.le_of_ble_eq_true rfl, Nat.le_of_ble_eq_true rfl⟩) (fun r7 s6 h => ?_)
    obtain ⟨z8, h⟩ := h
    refine r_if_eq X 57 dX0_lending_23 (by decide) (fun c9 => ?_) (fun c9 => ?_)
    · replace h := h.1 c9
      refine r_iconst (v := (-1)) X dX0_lending_57 rfl ?_
      exact r_iret X h (Nat.le_of_ble_eq_true rfl) (Nat.le_of_ble_eq_true rfl) dX0_lending_58
    · replace h := h.2 c9
      refine r_aload_n X 0 dX0_lending_26 rfl rfl ?_
      refine r_iload_n X 2 dX0_lending_27 rfl rfl ?_
      refine r_ci X (r_okVL (As := [.int p2]) (rest := []) X (m_X0_isHeart (xl x) G X.2.2.2.2.1 hph p2 s6 _ h) (cl_X0_84 X ⟨(Nat.le_of_ble_eq_true rfl), (Nat.le_of_ble_eq_true rfl)⟩) hph 0 ly_0 rfl rfl rfl rfl (Nat.le_of_ble_eq_true rfl) dX0_lending_28 ⟨Nat.le_of_ble_eq_true rfl, Nat.le_of_ble_eq_true rfl⟩) (fun r11 s10 h => ?_)
      obtain ⟨z12, h⟩ := h
      refine r_if_eq X 57 dX0_lending_31 (by decide) (fun c13 => ?_) (fun c13 => ?_)
      · replace h := h.1 c13
        refine r_iconst (v := (-1)) X dX0_lending_57 rfl ?_
        exact r_iret X h (Nat.le_of_ble_eq_true rfl) (Nat.le_of_ble_eq_true rfl) dX0_lending_58
      · replace h := h.2 c13
        refine r_iload_n X 1 dX0_lending_34 rfl rfl ?_
        refine r_iload_n X 2 dX0_lending_35 rfl rfl ?_
        refine r_ic_eq X 57 dX0_lending_36 (by decide) (fun c14 => ?_) (fun c14 => ?_)
        · replace h := h.1 c14
          refine r_iconst (v := (-1)) X dX0_lending_57 rfl ?_
          exact r_iret X h (Nat.le_of_ble_eq_true rfl) (Nat.le_of_ble_eq_true rfl) dX0_lending_58
        · replace h := h.2 c14
          refine r_aload_n X 0 dX0_lending_39 rfl rfl ?_
          refine r_ci X (r_okVL (As := []) (rest := []) X (m_X0_lendsAll (xl x) G X.2.2.2.2.1 hph s10 _ h) (cl_X0_396 X ⟨(Nat.le_of_ble_eq_true rfl), (Nat.le_of_ble_eq_true rfl)⟩) hph 0 ly_0 rfl rfl rfl rfl (Nat.le_of_ble_eq_true rfl) dX0_lending_40 ⟨Nat.le_of_ble_eq_true rfl, Nat.le_of_ble_eq_true rfl⟩) (fun r16 s15 h => ?_)
          obtain ⟨z17, h⟩ := h
          refine r_if_eq X 57 dX0_lending_43 (by decide) (fun c18 => ?_) (fun c18 => ?_)
          · replace h := h.1 c18
            refine r_iconst (v := (-1)) X dX0_lending_57 rfl ?_
            exact r_iret X h (Nat.le_of_ble_eq_true rfl) (Nat.le_of_ble_eq_true rfl) dX0_lending_58
          · replace h := h.2 c18
            refine r_aload_n X 0 dX0_lending_46 rfl rfl ?_
            refine gr_X0_57 X hph 0 0 172 ly_0 rfl rfl dX0_lending_47 ?_
            refine r_iload_n X 1 dX0_lending_50 rfl rfl ?_
            obtain ⟨g19, h⟩ := h
            refine r_aaldG X hph 12 172 6 173 ly_172 rfl lr_12 rfl g19 dX0_lending_51 ?_
            refine r_iload_n X 2 dX0_lending_52 rfl rfl ?_
            obtain ⟨g20, h⟩ := h
            refine r_ialdL X hph (173 + p1.toNatClampNeg) 6 (lg_12 _ (lt_in g19)) rfl g20 dX0_lending_53 ?_
            refine r_goto X 58 dX0_lending_54 (by decide) ?_
            exact r_iret X h (Nat.le_of_ble_eq_true rfl) (Nat.le_of_ble_eq_true rfl) dX0_lending_58
  · replace h := h.1 c1
    refine r_aload_n X 0 dX0_lending_5 rfl rfl ?_
    refine r_ci X (r_okVL (As := []) (rest := []) X (m_X0_lendsAll (xl x) G X.2.2.2.2.1 hph s _ h) (cl_X0_396 X ⟨(Nat.le_of_ble_eq_true rfl), (Nat.le_of_ble_eq_true rfl)⟩) hph 0 ly_0 rfl rfl rfl rfl (Nat.le_of_ble_eq_true rfl) dX0_lending_6 ⟨Nat.le_of_ble_eq_true rfl, Nat.le_of_ble_eq_true rfl⟩) (fun r3 s2 h => ?_)
    obtain ⟨z4, h⟩ := h
    have hJ : WB x G 3 (QfI x G 0 0 Q) 0 0 s2 17 [(0, .ref (kB G + 0)), (1, .int p1), (2, .int p2)] [.int (if r3 = 0 then 0 else 1 : Int32)] := by
      exact r_iret X h (Nat.le_of_ble_eq_true rfl) (Nat.le_of_ble_eq_true rfl) dX0_lending_17
    refine r_if_eq X 16 dX0_lending_9 (by decide) (fun c5 => ?_) (fun c5 => ?_)
    · rw [if_pos c5] at hJ
      refine r_iconst (v := 0) X dX0_lending_16 rfl ?_
      exact hJ
    · rw [if_neg c5] at hJ
      refine r_iconst (v := 1) X dX0_lending_12 rfl ?_
      refine r_goto X 17 dX0_lending_13 (by decide) ?_
      exact hJ
theorem m_X0_lending (l : Launch) (G : GT) (g : GK G) (hph : kP G = 1) (p1 : Int32) (p2 : Int32) (s : PS) (Q : Int32 → PS → Prop) (h : w_X0_lending G p1 p2 s Q) : Met l yX0_lending (ws_ yX0_lending cX0_lending 3 (some .int)) rm_X0_lending (va_Pc [.ref (kB G + 0), .int p1, .int p2] (Wr G s)) (va_Qi Q (fun u t => Wr G u t) (kF G)) 0 0 (kF G) := by
  refine Met.ofW (cc := cX0_lending) (maxL := 3) (ret := (some .int)) (by decide) rfl ?_
  intro p e s0 m args below meth c s₁ B hml hv
  obtain ⟨rfl, hw⟩ := hv
  exact wb_of [.ref (kB G + 0), .int p1, .int p2] (Nat.le_of_ble_eq_true rfl) hw.1 rfl (e_X0_lending (cx_of g B hml rfl hw) hph p1 p2 s Q h)
theorem e_X0_whoCannot {x : CT} {G : GT} (X : Cx x G cX0_whoCannot 1 RX0 (some .int) rm_X0_whoCannot) (hph : kP G = 1) (s : PS) (Q : Int32 → PS → Prop) (h : w_X0_whoCannot G s Q) : WB x G 1 (QfI x G 0 0 Q) 0 0 s 0 [(0, .ref (kB G + 0))] [] := by
  unfold w_X0_whoCannot at h
  refine r_aload_n X 0 dX0_whoCannot_0 rfl rfl ?_
  refine r_cv X (r_okVL (As := []) (rest := []) X (m_X0_laysLending (xl x) G X.2.2.2.2.1 hph s _ h) (cl_X0_390 X ⟨(Nat.le_of_ble_eq_true rfl), (Nat.le_of_ble_eq_true rfl)⟩) hph 0 ly_0 rfl rfl rfl rfl (Nat.le_of_ble_eq_true rfl) dX0_whoCannot_1 ⟨Nat.le_of_ble_eq_true rfl, Nat.le_of_ble_eq_true rfl⟩) (fun s1 h => ?_)
  refine r_aload_n X 0 dX0_whoCannot_4 rfl rfl ?_
  refine r_ci X (r_okVL (As := []) (rest := []) X (m_X0_tooHeavy (xl x) G X.2.2.2.2.1 hph s1 _ h) (cl_X0_387 X ⟨(Nat.le_of_ble_eq_true rfl), (Nat.le_of_ble_eq_true rfl)⟩) hph 0 ly_0 rfl rfl rfl rfl (Nat.le_of_ble_eq_true rfl) dX0_whoCannot_5 ⟨Nat.le_of_ble_eq_true rfl, Nat.le_of_ble_eq_true rfl⟩) (fun r3 s2 h => ?_)
  exact r_iret X h (Nat.le_of_ble_eq_true rfl) (Nat.le_of_ble_eq_true rfl) dX0_whoCannot_8
theorem m_X0_whoCannot (l : Launch) (G : GT) (g : GK G) (hph : kP G = 1) (s : PS) (Q : Int32 → PS → Prop) (h : w_X0_whoCannot G s Q) : Met l yX0_whoCannot (ws_ yX0_whoCannot cX0_whoCannot 1 (some .int)) rm_X0_whoCannot (va_Pc [.ref (kB G + 0)] (Wr G s)) (va_Qi Q (fun u t => Wr G u t) (kF G)) 0 0 (kF G) := by
  refine Met.ofW (cc := cX0_whoCannot) (maxL := 1) (ret := (some .int)) (by decide) rfl ?_
  intro p e s0 m args below meth c s₁ B hml hv
  obtain ⟨rfl, hw⟩ := hv
  exact wb_of [.ref (kB G + 0)] (Nat.le_of_ble_eq_true rfl) hw.1 rfl (e_X0_whoCannot (cx_of g B hml rfl hw) hph s Q h)
theorem e_X0_isRemembered {x : CT} {G : GT} (X : Cx x G cX0_isRemembered 3 RX0 (some .boolean) rm_X0_isRemembered) (hph : kP G = 1) (p1 : Int32) (p2 : Int32) (s : PS) (Q : Int32 → PS → Prop) (h : w_X0_isRemembered G p1 p2 s Q) : WB x G 3 (QfI x G 0 0 (fun r u => (r = 0 ∨ r = 1) ∧ Q r u)) 0 0 s 0 [(0, .ref (kB G + 0)), (1, .int p1), (2, .int p2)] [] := by
  unfold w_X0_isRemembered at h
  refine r_aload_n X 0 dX0_isRemembered_0 rfl rfl ?_
  refine gr_X0_12 X hph 0 0 1 ly_0 rfl rfl dX0_isRemembered_1 ?_
  refine gr_X0_88 X hph 1 1 6 ly_1 rfl rfl dX0_isRemembered_4 ?_
  refine r_iload_n X 1 dX0_isRemembered_7 rfl rfl ?_
  obtain ⟨g1, h⟩ := h
  refine r_aaldG X hph 2 6 24 7 ly_6 rfl lr_2 rfl g1 dX0_isRemembered_8 ?_
  refine r_iconst (v := 5) X dX0_isRemembered_9 rfl ?_
  refine r_ialdL X hph (7 + p1.toNatClampNeg) 6 (lg_2 _ (lt_in g1)) tn_5 il_5_6 dX0_isRemembered_10 ?_
  refine r_iload_n X 2 dX0_isRemembered_11 rfl rfl ?_
  refine r_iand X dX0_isRemembered_12 ?_
  refine r_iconst (v := 1) X dX0_isRemembered_13 rfl ?_
  refine r_aload_n X 0 dX0_isRemembered_14 rfl rfl ?_
  refine gr_X0_12 X hph 0 0 1 ly_0 rfl rfl dX0_isRemembered_15 ?_
  refine gr_X0_88 X hph 1 1 6 ly_1 rfl rfl dX0_isRemembered_18 ?_
  refine r_iload_n X 1 dX0_isRemembered_21 rfl rfl ?_
  refine r_aaldG X hph 2 6 24 7 ly_6 rfl lr_2 rfl g1 dX0_isRemembered_22 ?_
  refine r_iconst (v := 0) X dX0_isRemembered_23 rfl ?_
  refine r_ialdL X hph (7 + p1.toNatClampNeg) 6 (lg_2 _ (lt_in g1)) tn_0 il_0_6 dX0_isRemembered_24 ?_
  refine r_ishl X dX0_isRemembered_25 ?_
  refine r_iconst (v := (-1)) X dX0_isRemembered_26 rfl ?_
  refine r_ixor X dX0_isRemembered_27 ?_
  refine r_iand X dX0_isRemembered_28 ?_
  have hJ : WB x G 3 (QfI x G 0 0 (fun r u => (r = 0 ∨ r = 1) ∧ Q r u)) 0 0 s 37 [(0, .ref (kB G + 0)), (1, .int p1), (2, .int p2)] [.int (if (((gI s (kB G + (7 + p1.toNatClampNeg)) 5) &&& p2) &&& (((1 : Int32) <<< ((gI s (kB G + (7 + p1.toNatClampNeg)) 0) &&& 31)) ^^^ (-1))) = 0 then 0 else 1 : Int32)] := by
    exact r_zret X (by (repeat' split) <;> first | exact Or.inl rfl | exact Or.inr rfl) h (Nat.le_of_ble_eq_true rfl) (Nat.le_of_ble_eq_true rfl) dX0_isRemembered_37
  refine r_if_eq X 36 dX0_isRemembered_29 (by decide) (fun c2 => ?_) (fun c2 => ?_)
  · rw [if_pos c2] at hJ
    refine r_iconst (v := 0) X dX0_isRemembered_36 rfl ?_
    exact hJ
  · rw [if_neg c2] at hJ
    refine r_iconst (v := 1) X dX0_isRemembered_32 rfl ?_
    refine r_goto X 37 dX0_isRemembered_33 (by decide) ?_
    exact hJ
theorem m_X0_isRemembered (l : Launch) (G : GT) (g : GK G) (hph : kP G = 1) (p1 : Int32) (p2 : Int32) (s : PS) (Q : Int32 → PS → Prop) (h : w_X0_isRemembered G p1 p2 s Q) : Met l yX0_isRemembered (ws_ yX0_isRemembered cX0_isRemembered 3 (some .boolean)) rm_X0_isRemembered (va_Pc [.ref (kB G + 0), .int p1, .int p2] (Wr G s)) (va_Qi (fun r u => (r = 0 ∨ r = 1) ∧ Q r u) (fun u t => Wr G u t) (kF G)) 0 0 (kF G) := by
  refine Met.ofW (cc := cX0_isRemembered) (maxL := 3) (ret := (some .boolean)) (by decide) rfl ?_
  intro p e s0 m args below meth c s₁ B hml hv
  obtain ⟨rfl, hw⟩ := hv
  exact wb_of [.ref (kB G + 0), .int p1, .int p2] (Nat.le_of_ble_eq_true rfl) hw.1 rfl (e_X0_isRemembered (cx_of g B hml rfl hw) hph p1 p2 s Q h)
theorem tb_X0_kindness_112 {x : CT} {G : GT} (X : Cx x G cX0_kindness 6 RX0 (some .int) rm_X0_kindness) (hph : kP G = 1) (Q : Int32 → PS → Prop) (K27 : Int32 → Int32 → PS → Prop) (v1 : Int32) (v2 : Int32) (v3 : Int32) (v4 : Int32) (s : PS) (hK27 : ∀ (v2' : Int32) (v3' : Int32) (s' : PS), K27 v2' v3' s' → WB x G 6 (QfI x G 0 0 Q) 0 0 s' 27 [(0, .ref (kB G + 0)), (1, .int v1), (2, .int v2'), (3, .int v3')] []) (h : b_X0_kindness_112 G Q K27 v1 v2 v3 v4 s) : WB x G 6 (QfI x G 0 0 Q) 0 0 s 112 [(0, .ref (kB G + 0)), (1, .int v1), (2, .int v2), (3, .int v3), (4, .int v4)] [] := by
  unfold b_X0_kindness_112 at h
  refine r_iload X 4 dX0_kindness_112 rfl ?_
  refine r_if_eq X 119 dX0_kindness_114 (by decide) (fun c1 => ?_) (fun c1 => ?_)
  · replace h := h.1 c1
    refine r_iinc (lv' := [(3, .int (v3 + 1)), (0, .ref (kB G + 0)), (1, .int v1), (2, .int v2), (4, .int v4)]) X 3 dX0_kindness_119 rfl rfl (Nat.le_of_ble_eq_true rfl) rfl ?_
    refine r_goto X 27 dX0_kindness_122 (by decide) ?_
    refine r_sub [1, 2, 3, 0] rfl ?_
    exact hK27 v2 (v3 + 1) s h
  · replace h := h.2 c1
    refine r_iload_n X 3 dX0_kindness_117 rfl rfl ?_
    refine r_istore_n (lv' := [(2, .int v3), (0, .ref (kB G + 0)), (1, .int v1), (3, .int v3), (4, .int v4)]) X dX0_kindness_118 rfl (Nat.le_of_ble_eq_true rfl) rfl ?_
    refine r_iinc (lv' := [(3, .int (v3 + 1)), (2, .int v3), (0, .ref (kB G + 0)), (1, .int v1), (4, .int v4)]) X 3 dX0_kindness_119 rfl rfl (Nat.le_of_ble_eq_true rfl) rfl ?_
    refine r_goto X 27 dX0_kindness_122 (by decide) ?_
    refine r_sub [2, 3, 1, 0] rfl ?_
    exact hK27 v3 (v3 + 1) s h
theorem tl_X0_kindness_61 {x : CT} {G : GT} (X : Cx x G cX0_kindness 6 RX0 (some .int) rm_X0_kindness) (hph : kP G = 1) (Q : Int32 → PS → Prop) (K27 : Int32 → Int32 → PS → Prop) (v1 : Int32) (v2 : Int32) (v3 : Int32) (hK27 : ∀ (v2' : Int32) (v3' : Int32) (s' : PS), K27 v2' v3' s' → WB x G 6 (QfI x G 0 0 Q) 0 0 s' 27 [(0, .ref (kB G + 0)), (1, .int v1), (2, .int v2'), (3, .int v3')] []) : ∀ (n : Nat) (v4 : Int32) (v5 : Int32) (s : PS) (h : l_X0_kindness_61 G Q K27 v1 v2 v3 n v4 v5 s), WB x G 6 (QfI x G 0 0 Q) 0 0 s 61 [(0, .ref (kB G + 0)), (1, .int v1), (2, .int v2), (3, .int v3), (4, .int v4), (5, .int v5)] [] := by
  intro n
  induction n with
  | zero =>
    intro v4 v5 s h
    exact False.elim h
  | succ n ih =>
    intro v4 v5 s h
    unfold l_X0_kindness_61 at h
    refine r_iload X 5 dX0_kindness_61 rfl ?_
    refine r_aload_n X 0 dX0_kindness_63 rfl rfl ?_
    refine gr_X0_12 X hph 0 0 1 ly_0 rfl rfl dX0_kindness_64 ?_
    refine gr_X0_74 X hph 1 1 2 ly_1 rfl rfl dX0_kindness_67 ?_
    refine r_iconst (v := 1) X dX0_kindness_70 rfl ?_
    refine r_ialdL X hph 2 9 ly_2 tn_1 il_1_9 dX0_kindness_71 ?_
    refine r_ic_ge X 112 dX0_kindness_72 (by decide) (fun c1 => ?_) (fun c1 => ?_)
    · replace h := h.1 c1
      refine r_sub [0, 1, 2, 3, 4] rfl ?_
      exact tb_X0_kindness_112 X hph Q K27 v1 v2 v3 v4 s hK27 h
    · replace h := h.2 c1
      refine r_iload X 4 dX0_kindness_75 rfl ?_
      refine r_if_eq X 112 dX0_kindness_77 (by decide) (fun c2 => ?_) (fun c2 => ?_)
      · replace h := h.1 c2
        refine r_sub [0, 1, 2, 3, 4] rfl ?_
        exact tb_X0_kindness_112 X hph Q K27 v1 v2 v3 v4 s hK27 h
      · replace h := h.2 c2
        refine r_iload_n X 1 dX0_kindness_80 rfl rfl ?_
        refine r_iload X 5 dX0_kindness_81 rfl ?_
        refine r_ci X (r_okS (As := [.int v1, .int v5]) (rest := []) X (m_X0_has (xl x) G X.2.2.2.2.1 v1 v5 s _ h) (cl_X0_174 X ⟨(Nat.le_of_ble_eq_true rfl), (Nat.le_of_ble_eq_true rfl)⟩) rfl rfl (Nat.le_of_ble_eq_true rfl) dX0_kindness_83 ⟨Nat.le_of_ble_eq_true rfl, Nat.le_of_ble_eq_true rfl⟩) (fun r4 s3 h => ?_)
        obtain ⟨z5, h⟩ := h
        refine r_if_eq X 99 dX0_kindness_86 (by decide) (fun c6 => ?_) (fun c6 => ?_)
        · replace h := h.1 c6
          refine r_iconst (v := 1) X dX0_kindness_99 rfl ?_
          refine r_goto X 104 dX0_kindness_100 (by decide) ?_
          refine r_istore (lv' := [(4, .int 1), (0, .ref (kB G + 0)), (1, .int v1), (2, .int v2), (3, .int v3), (5, .int v5)]) X dX0_kindness_104 (Nat.le_of_ble_eq_true rfl) rfl ?_
          refine r_iinc (lv' := [(5, .int (v5 + 1)), (4, .int 1), (0, .ref (kB G + 0)), (1, .int v1), (2, .int v2), (3, .int v3)]) X 5 dX0_kindness_106 rfl rfl (Nat.le_of_ble_eq_true rfl) rfl ?_
          refine r_goto X 61 dX0_kindness_109 (by decide) ?_
          refine r_sub [2, 3, 4, 5, 1, 0] rfl ?_
          exact ih 1 (v5 + 1) s3 h
        · replace h := h.2 c6
          refine r_aload_n X 0 dX0_kindness_89 rfl rfl ?_
          refine r_iload X 5 dX0_kindness_90 rfl ?_
          refine r_iload_n X 3 dX0_kindness_92 rfl rfl ?_
          refine r_ci X (r_okVL (As := [.int v5, .int v3]) (rest := []) X (m_X0_isRemembered (xl x) G X.2.2.2.2.1 hph v5 v3 s3 _ h) (cl_X0_399 X ⟨(Nat.le_of_ble_eq_true rfl), (Nat.le_of_ble_eq_true rfl)⟩) hph 0 ly_0 rfl rfl rfl rfl (Nat.le_of_ble_eq_true rfl) dX0_kindness_93 ⟨Nat.le_of_ble_eq_true rfl, Nat.le_of_ble_eq_true rfl⟩) (fun r8 s7 h => ?_)
          obtain ⟨z9, h⟩ := h
          have hJ : WB x G 6 (QfI x G 0 0 Q) 0 0 s7 104 [(0, .ref (kB G + 0)), (1, .int v1), (2, .int v2), (3, .int v3), (4, .int v4), (5, .int v5)] [.int (if r8 = 0 then 0 else 1 : Int32)] := by
            refine r_nmI (fun y11 e12 => ?_)
            replace h := h y11 e12
            refine r_istore (lv' := [(4, .int y11), (0, .ref (kB G + 0)), (1, .int v1), (2, .int v2), (3, .int v3), (5, .int v5)]) X dX0_kindness_104 (Nat.le_of_ble_eq_true rfl) rfl ?_
            refine r_iinc (lv' := [(5, .int (v5 + 1)), (4, .int y11), (0, .ref (kB G + 0)), (1, .int v1), (2, .int v2), (3, .int v3)]) X 5 dX0_kindness_106 rfl rfl (Nat.le_of_ble_eq_true rfl) rfl ?_
            refine r_goto X 61 dX0_kindness_109 (by decide) ?_
            refine r_sub [2, 3, 4, 5, 1, 0] rfl ?_
            exact ih y11 (v5 + 1) s7 h
          refine r_if_eq X 103 dX0_kindness_96 (by decide) (fun c10 => ?_) (fun c10 => ?_)
          · rw [if_pos c10] at hJ
            refine r_iconst (v := 0) X dX0_kindness_103 rfl ?_
            exact hJ
          · rw [if_neg c10] at hJ
            refine r_iconst (v := 1) X dX0_kindness_99 rfl ?_
            refine r_goto X 104 dX0_kindness_100 (by decide) ?_
            exact hJ
theorem tl_X0_kindness_27 {x : CT} {G : GT} (X : Cx x G cX0_kindness 6 RX0 (some .int) rm_X0_kindness) (hph : kP G = 1) (Q : Int32 → PS → Prop) (v1 : Int32) : ∀ (n : Nat) (v2 : Int32) (v3 : Int32) (s : PS) (h : l_X0_kindness_27 G Q v1 n v2 v3 s), WB x G 6 (QfI x G 0 0 Q) 0 0 s 27 [(0, .ref (kB G + 0)), (1, .int v1), (2, .int v2), (3, .int v3)] [] := by
  intro n
  induction n with
  | zero =>
    intro v2 v3 s h
    exact False.elim h
  | succ n ih =>
    intro v2 v3 s h
    unfold l_X0_kindness_27 at h
    refine r_iload_n X 3 dX0_kindness_27 rfl rfl ?_
    refine r_aload_n X 0 dX0_kindness_28 rfl rfl ?_
    refine r_ci X (r_okVL (As := []) (rest := [.int v3]) X (m_X0_allHearts (xl x) G X.2.2.2.2.1 hph s _ h) (cl_X0_98 X ⟨(Nat.le_of_ble_eq_true rfl), (Nat.le_of_ble_eq_true rfl)⟩) hph 0 ly_0 rfl rfl rfl rfl (Nat.le_of_ble_eq_true rfl) dX0_kindness_29 ⟨Nat.le_of_ble_eq_true rfl, Nat.le_of_ble_eq_true rfl⟩) (fun r2 s1 h => ?_)
    refine r_ic_gt X 125 dX0_kindness_32 (by decide) (fun c3 => ?_) (fun c3 => ?_)
    · replace h := h.1 c3
      refine r_iload_n X 2 dX0_kindness_125 rfl rfl ?_
      exact r_iret X h (Nat.le_of_ble_eq_true rfl) (Nat.le_of_ble_eq_true rfl) dX0_kindness_126
    · replace h := h.2 c3
      refine r_iload_n X 2 dX0_kindness_35 rfl rfl ?_
      refine r_iconst (v := (-1)) X dX0_kindness_36 rfl ?_
      refine r_ic_eq X 51 dX0_kindness_37 (by decide) (fun c4 => ?_) (fun c4 => ?_)
      · replace h := h.1 c4
        refine r_iconst (v := 1) X dX0_kindness_51 rfl ?_
        refine r_goto X 56 dX0_kindness_52 (by decide) ?_
        refine r_istore (lv' := [(4, .int 1), (0, .ref (kB G + 0)), (1, .int v1), (2, .int v2), (3, .int v3)]) X dX0_kindness_56 (Nat.le_of_ble_eq_true rfl) rfl ?_
        refine r_iconst (v := 0) X dX0_kindness_58 rfl ?_
        refine r_istore (lv' := [(5, .int 0), (4, .int 1), (0, .ref (kB G + 0)), (1, .int v1), (2, .int v2), (3, .int v3)]) X dX0_kindness_59 (Nat.le_of_ble_eq_true rfl) rfl ?_
        refine r_sub [2, 3, 4, 5, 1, 0] rfl ?_
        obtain ⟨n5, h⟩ := h
        exact tl_X0_kindness_61 X hph Q (l_X0_kindness_27 G Q v1 n) v1 v2 v3 ih n5 1 0 s1 h
      · replace h := h.2 c4
        refine r_iload_n X 3 dX0_kindness_40 rfl rfl ?_
        refine r_ci X (r_okS (As := [.int v3]) (rest := []) X (m_J12_bitCount (xl x) G X.2.2.2.2.1 v3 s1 _ h) (cl_X0_185 X ⟨(Nat.le_of_ble_eq_true rfl), (Nat.le_of_ble_eq_true rfl)⟩) rfl rfl (Nat.le_of_ble_eq_true rfl) dX0_kindness_41 ⟨Nat.le_of_ble_eq_true rfl, Nat.le_of_ble_eq_true rfl⟩) (fun r7 s6 h => ?_)
        refine r_iload_n X 2 dX0_kindness_44 rfl rfl ?_
        refine r_ci X (r_okS (As := [.int v2]) (rest := [.int r7]) X (m_J12_bitCount (xl x) G X.2.2.2.2.1 v2 s6 _ h) (cl_X0_185 X ⟨(Nat.le_of_ble_eq_true rfl), (Nat.le_of_ble_eq_true rfl)⟩) rfl rfl (Nat.le_of_ble_eq_true rfl) dX0_kindness_45 ⟨Nat.le_of_ble_eq_true rfl, Nat.le_of_ble_eq_true rfl⟩) (fun r9 s8 h => ?_)
        have hJ : WB x G 6 (QfI x G 0 0 Q) 0 0 s8 56 [(0, .ref (kB G + 0)), (1, .int v1), (2, .int v2), (3, .int v3)] [.int (if r9 ≤ r7 then 0 else 1 : Int32)] := by
          refine r_nmI (fun y11 e12 => ?_)
          replace h := h y11 e12
          refine r_istore (lv' := [(4, .int y11), (0, .ref (kB G + 0)), (1, .int v1), (2, .int v2), (3, .int v3)]) X dX0_kindness_56 (Nat.le_of_ble_eq_true rfl) rfl ?_
          refine r_iconst (v := 0) X dX0_kindness_58 rfl ?_
          refine r_istore (lv' := [(5, .int 0), (4, .int y11), (0, .ref (kB G + 0)), (1, .int v1), (2, .int v2), (3, .int v3)]) X dX0_kindness_59 (Nat.le_of_ble_eq_true rfl) rfl ?_
          refine r_sub [2, 3, 4, 5, 1, 0] rfl ?_
          obtain ⟨n13, h⟩ := h
          exact tl_X0_kindness_61 X hph Q (l_X0_kindness_27 G Q v1 n) v1 v2 v3 ih n13 y11 0 s8 h
        refine r_ic_ge X 55 dX0_kindness_48 (by decide) (fun c10 => ?_) (fun c10 => ?_)
        · rw [if_pos c10] at hJ
          refine r_iconst (v := 0) X dX0_kindness_55 rfl ?_
          exact hJ
        · rw [if_neg c10] at hJ
          refine r_iconst (v := 1) X dX0_kindness_51 rfl ?_
          refine r_goto X 56 dX0_kindness_52 (by decide) ?_
          exact hJ
theorem e_X0_kindness {x : CT} {G : GT} (X : Cx x G cX0_kindness 6 RX0 (some .int) rm_X0_kindness) (hph : kP G = 1) (p1 : Int32) (s : PS) (Q : Int32 → PS → Prop) (h : w_X0_kindness G p1 s Q) : WB x G 6 (QfI x G 0 0 Q) 0 0 s 0 [(0, .ref (kB G + 0)), (1, .int p1)] [] := by
  unfold w_X0_kindness at h
  refine r_iload_n X 1 dX0_kindness_0 rfl rfl ?_
  refine r_iconst (v := 1) X dX0_kindness_1 rfl ?_
  refine r_iconst (v := 1) X dX0_kindness_2 rfl ?_
  refine r_aload_n X 0 dX0_kindness_3 rfl rfl ?_
  refine gr_X0_12 X hph 0 0 1 ly_0 rfl rfl dX0_kindness_4 ?_
  refine gr_X0_74 X hph 1 1 2 ly_1 rfl rfl dX0_kindness_7 ?_
  refine r_iconst (v := 1) X dX0_kindness_10 rfl ?_
  refine r_ialdL X hph 2 9 ly_2 tn_1 il_1_9 dX0_kindness_11 ?_
  refine r_ishl X dX0_kindness_12 ?_
  refine r_iconst (v := 1) X dX0_kindness_13 rfl ?_
  refine r_isub X dX0_kindness_14 ?_
  refine r_ci X (r_okS (As := [.int p1, .int 1, .int (((1 : Int32) <<< ((gI s (kB G + 2) 1) &&& 31)) - 1)]) (rest := []) X (m_X0_in (xl x) G X.2.2.2.2.1 p1 1 (((1 : Int32) <<< ((gI s (kB G + 2) 1) &&& 31)) - 1) s _ h) (cl_X0_77 X ⟨(Nat.le_of_ble_eq_true rfl), (Nat.le_of_ble_eq_true rfl)⟩) rfl rfl (Nat.le_of_ble_eq_true rfl) dX0_kindness_15 ⟨Nat.le_of_ble_eq_true rfl, Nat.le_of_ble_eq_true rfl⟩) (fun r2 s1 h => ?_)
  obtain ⟨z3, h⟩ := h
  refine r_if_ne X 23 dX0_kindness_18 (by decide) (fun c4 => ?_) (fun c4 => ?_)
  · replace h := h.2 c4
    refine r_iconst (v := (-1)) X dX0_kindness_23 rfl ?_
    refine r_istore_n (lv' := [(2, .int (-1)), (0, .ref (kB G + 0)), (1, .int p1)]) X dX0_kindness_24 rfl (Nat.le_of_ble_eq_true rfl) rfl ?_
    refine r_iconst (v := 0) X dX0_kindness_25 rfl ?_
    refine r_istore_n (lv' := [(3, .int 0), (2, .int (-1)), (0, .ref (kB G + 0)), (1, .int p1)]) X dX0_kindness_26 rfl (Nat.le_of_ble_eq_true rfl) rfl ?_
    refine r_sub [2, 3, 1, 0] rfl ?_
    obtain ⟨n5, h⟩ := h
    exact tl_X0_kindness_27 X hph Q p1 n5 (-1) 0 s1 h
  · replace h := h.1 c4
    refine r_iconst (v := (-1)) X dX0_kindness_21 rfl ?_
    exact r_iret X h (Nat.le_of_ble_eq_true rfl) (Nat.le_of_ble_eq_true rfl) dX0_kindness_22
theorem m_X0_kindness (l : Launch) (G : GT) (g : GK G) (hph : kP G = 1) (p1 : Int32) (s : PS) (Q : Int32 → PS → Prop) (h : w_X0_kindness G p1 s Q) : Met l yX0_kindness (ws_ yX0_kindness cX0_kindness 6 (some .int)) rm_X0_kindness (va_Pc [.ref (kB G + 0), .int p1] (Wr G s)) (va_Qi Q (fun u t => Wr G u t) (kF G)) 0 0 (kF G) := by
  refine Met.ofW (cc := cX0_kindness) (maxL := 6) (ret := (some .int)) (by decide) rfl ?_
  intro p e s0 m args below meth c s₁ B hml hv
  obtain ⟨rfl, hw⟩ := hv
  exact wb_of [.ref (kB G + 0), .int p1] (Nat.le_of_ble_eq_true rfl) hw.1 rfl (e_X0_kindness (cx_of g B hml rfl hw) hph p1 s Q h)
theorem e_X0_known {x : CT} {G : GT} (X : Cx x G cX0_known 3 RX0 (some .int) rm_X0_known) (hph : kP G = 1) (p1 : Int32) (p2 : Int32) (s : PS) (Q : Int32 → PS → Prop) (h : w_X0_known G p1 p2 s Q) : WB x G 3 (QfI x G 0 0 Q) 0 0 s 0 [(0, .ref (kB G + 0)), (1, .int p1), (2, .int p2)] [] := by
  unfold w_X0_known at h
  refine r_iload_n X 1 dX0_known_0 rfl rfl ?_
  refine r_iconst (v := (-1)) X dX0_known_1 rfl ?_
  refine r_ic_ne X 18 dX0_known_2 (by decide) (fun c1 => ?_) (fun c1 => ?_)
  · replace h := h.2 c1
    refine r_aload_n X 0 dX0_known_18 rfl rfl ?_
    refine r_iload_n X 1 dX0_known_19 rfl rfl ?_
    refine r_ci X (r_okVL (As := [.int p1]) (rest := []) X (m_X0_isHeart (xl x) G X.2.2.2.2.1 hph p1 s _ h) (cl_X0_84 X ⟨(Nat.le_of_ble_eq_true rfl), (Nat.le_of_ble_eq_true rfl)⟩) hph 0 ly_0 rfl rfl rfl rfl (Nat.le_of_ble_eq_true rfl) dX0_known_20 ⟨Nat.le_of_ble_eq_true rfl, Nat.le_of_ble_eq_true rfl⟩) (fun r5 s4 h => ?_)
    obtain ⟨z6, h⟩ := h
    refine r_if_eq X 54 dX0_known_23 (by decide) (fun c7 => ?_) (fun c7 => ?_)
    · replace h := h.1 c7
      refine r_bipush (v := (-2)) X dX0_known_54 rfl ?_
      exact r_iret X h (Nat.le_of_ble_eq_true rfl) (Nat.le_of_ble_eq_true rfl) dX0_known_56
    · replace h := h.2 c7
      refine r_iload_n X 2 dX0_known_26 rfl rfl ?_
      refine r_sipush (v := (-9999)) X dX0_known_27 rfl ?_
      refine r_sipush (v := 9999) X dX0_known_30 rfl ?_
      refine r_ci X (r_okS (As := [.int p2, .int (-9999), .int 9999]) (rest := []) X (m_X0_in (xl x) G X.2.2.2.2.1 p2 (-9999) 9999 s4 _ h) (cl_X0_77 X ⟨(Nat.le_of_ble_eq_true rfl), (Nat.le_of_ble_eq_true rfl)⟩) rfl rfl (Nat.le_of_ble_eq_true rfl) dX0_known_33 ⟨Nat.le_of_ble_eq_true rfl, Nat.le_of_ble_eq_true rfl⟩) (fun r9 s8 h => ?_)
      obtain ⟨z10, h⟩ := h
      refine r_if_eq X 54 dX0_known_36 (by decide) (fun c11 => ?_) (fun c11 => ?_)
      · replace h := h.1 c11
        refine r_bipush (v := (-2)) X dX0_known_54 rfl ?_
        exact r_iret X h (Nat.le_of_ble_eq_true rfl) (Nat.le_of_ble_eq_true rfl) dX0_known_56
      · replace h := h.2 c11
        refine r_aload_n X 0 dX0_known_39 rfl rfl ?_
        refine gr_X0_12 X hph 0 0 1 ly_0 rfl rfl dX0_known_40 ?_
        refine gr_X0_74 X hph 1 1 2 ly_1 rfl rfl dX0_known_43 ?_
        refine r_bipush (v := 7) X dX0_known_46 rfl ?_
        refine r_ialdL X hph 2 9 ly_2 tn_7 il_7_9 dX0_known_48 ?_
        refine r_bipush (v := 8) X dX0_known_49 rfl ?_
        refine r_ic_ne X 57 dX0_known_51 (by decide) (fun c12 => ?_) (fun c12 => ?_)
        · replace h := h.2 c12
          refine r_aload_n X 0 dX0_known_57 rfl rfl ?_
          refine gr_X0_12 X hph 0 0 1 ly_0 rfl rfl dX0_known_58 ?_
          refine gr_X0_402 X hph 1 1 38 ly_1 rfl rfl dX0_known_61 ?_
          refine r_aload_n X 0 dX0_known_64 rfl rfl ?_
          refine gr_X0_12 X hph 0 0 1 ly_0 rfl rfl dX0_known_65 ?_
          refine gr_X0_74 X hph 1 1 2 ly_1 rfl rfl dX0_known_68 ?_
          refine r_bipush (v := 7) X dX0_known_71 rfl ?_
          refine r_ialdL X hph 2 9 ly_2 tn_7 il_7_9 dX0_known_73 ?_
          obtain ⟨g13, h⟩ := h
          refine r_aaldG X hph 4 38 8 39 ly_38 rfl lr_4 rfl g13 dX0_known_74 ?_
          refine r_iconst (v := 0) X dX0_known_75 rfl ?_
          refine r_iload_n X 1 dX0_known_76 rfl rfl ?_
          refine r_iastL X hph (39 + (gI s8 (kB G + 2) 7).toNatClampNeg) 2 (lg_4 _ (lt_in g13)) tn_0 il_0_2 dX0_known_77 (fun s14 e15 => ?_)
          replace h := h s14 e15
          refine r_aload_n X 0 dX0_known_78 rfl rfl ?_
          refine gr_X0_12 X hph 0 0 1 ly_0 rfl rfl dX0_known_79 ?_
          refine gr_X0_402 X hph 1 1 38 ly_1 rfl rfl dX0_known_82 ?_
          refine r_aload_n X 0 dX0_known_85 rfl rfl ?_
          refine gr_X0_12 X hph 0 0 1 ly_0 rfl rfl dX0_known_86 ?_
          refine gr_X0_74 X hph 1 1 2 ly_1 rfl rfl dX0_known_89 ?_
          refine r_bipush (v := 7) X dX0_known_92 rfl ?_
          refine r_ialdL X hph 2 9 ly_2 tn_7 il_7_9 dX0_known_94 ?_
          obtain ⟨g16, h⟩ := h
          refine r_aaldG X hph 4 38 8 39 ly_38 rfl lr_4 rfl g16 dX0_known_95 ?_
          refine r_iconst (v := 1) X dX0_known_96 rfl ?_
          refine r_iload_n X 2 dX0_known_97 rfl rfl ?_
          refine r_iastL X hph (39 + (gI s14 (kB G + 2) 7).toNatClampNeg) 2 (lg_4 _ (lt_in g16)) tn_1 il_1_2 dX0_known_98 (fun s17 e18 => ?_)
          replace h := h s17 e18
          refine r_aload_n X 0 dX0_known_99 rfl rfl ?_
          refine gr_X0_12 X hph 0 0 1 ly_0 rfl rfl dX0_known_100 ?_
          refine gr_X0_74 X hph 1 1 2 ly_1 rfl rfl dX0_known_103 ?_
          refine r_bipush (v := 7) X dX0_known_106 rfl ?_
          refine r_dup2 X dX0_known_108 rfl rfl ?_
          refine r_ialdL X hph 2 9 ly_2 tn_7 il_7_9 dX0_known_109 ?_
          refine r_iconst (v := 1) X dX0_known_110 rfl ?_
          refine r_iadd X dX0_known_111 ?_
          refine r_iastL X hph 2 9 ly_2 tn_7 il_7_9 dX0_known_112 (fun s19 e20 => ?_)
          replace h := h s19 e20
          refine r_aload_n X 0 dX0_known_113 rfl rfl ?_
          refine gr_X0_12 X hph 0 0 1 ly_0 rfl rfl dX0_known_114 ?_
          refine gr_X0_74 X hph 1 1 2 ly_1 rfl rfl dX0_known_117 ?_
          refine r_bipush (v := 7) X dX0_known_120 rfl ?_
          refine r_ialdL X hph 2 9 ly_2 tn_7 il_7_9 dX0_known_122 ?_
          exact r_iret X h (Nat.le_of_ble_eq_true rfl) (Nat.le_of_ble_eq_true rfl) dX0_known_123
        · replace h := h.1 c12
          refine r_bipush (v := (-2)) X dX0_known_54 rfl ?_
          exact r_iret X h (Nat.le_of_ble_eq_true rfl) (Nat.le_of_ble_eq_true rfl) dX0_known_56
  · replace h := h.1 c1
    refine r_aload_n X 0 dX0_known_5 rfl rfl ?_
    refine gr_X0_12 X hph 0 0 1 ly_0 rfl rfl dX0_known_6 ?_
    refine gr_X0_74 X hph 1 1 2 ly_1 rfl rfl dX0_known_9 ?_
    refine r_bipush (v := 7) X dX0_known_12 rfl ?_
    refine r_iconst (v := 0) X dX0_known_14 rfl ?_
    refine r_iastL X hph 2 9 ly_2 tn_7 il_7_9 dX0_known_15 (fun s2 e3 => ?_)
    replace h := h s2 e3
    refine r_iconst (v := 0) X dX0_known_16 rfl ?_
    exact r_iret X h (Nat.le_of_ble_eq_true rfl) (Nat.le_of_ble_eq_true rfl) dX0_known_17
theorem m_X0_known (l : Launch) (G : GT) (g : GK G) (hph : kP G = 1) (p1 : Int32) (p2 : Int32) (s : PS) (Q : Int32 → PS → Prop) (h : w_X0_known G p1 p2 s Q) : Met l yX0_known (ws_ yX0_known cX0_known 3 (some .int)) rm_X0_known (va_Pc [.ref (kB G + 0), .int p1, .int p2] (Wr G s)) (va_Qi Q (fun u t => Wr G u t) (kF G)) 0 0 (kF G) := by
  refine Met.ofW (cc := cX0_known) (maxL := 3) (ret := (some .int)) (by decide) rfl ?_
  intro p e s0 m args below meth c s₁ B hml hv
  obtain ⟨rfl, hw⟩ := hv
  exact wb_of [.ref (kB G + 0), .int p1, .int p2] (Nat.le_of_ble_eq_true rfl) hw.1 rfl (e_X0_known (cx_of g B hml rfl hw) hph p1 p2 s Q h)
theorem tl_X0_fits_21 {x : CT} {G : GT} (X : Cx x G cX0_fits 5 RX0 (some .boolean) rm_X0_fits) (hph : kP G = 1) (Q : Int32 → PS → Prop) (K2 : Int32 → PS → Prop) (v1 : Nat) (v2 : Int32) (hK2 : ∀ (v2' : Int32) (s' : PS), K2 v2' s' → WB x G 5 (QfI x G 0 0 (fun r u => (r = 0 ∨ r = 1) ∧ Q r u)) 0 0 s' 2 [(0, .ref (kB G + 0)), (1, .ref v1), (2, .int v2')] []) : ∀ (n : Nat) (v3 : Int32) (v4 : Int32) (s : PS) (h : l_X0_fits_21 G Q K2 v1 v2 n v3 v4 s), WB x G 5 (QfI x G 0 0 (fun r u => (r = 0 ∨ r = 1) ∧ Q r u)) 0 0 s 21 [(0, .ref (kB G + 0)), (1, .ref v1), (2, .int v2), (3, .int v3), (4, .int v4)] [] := by
  intro n
  induction n with
  | zero =>
    intro v3 v4 s h
    exact False.elim h
  | succ n ih =>
    intro v3 v4 s h
    unfold l_X0_fits_21 at h
    refine r_iload X 4 dX0_fits_21 rfl ?_
    refine r_aload_n X 0 dX0_fits_23 rfl rfl ?_
    refine gr_X0_12 X hph 0 0 1 ly_0 rfl rfl dX0_fits_24 ?_
    refine gr_X0_74 X hph 1 1 2 ly_1 rfl rfl dX0_fits_27 ?_
    refine r_iconst (v := 1) X dX0_fits_30 rfl ?_
    refine r_ialdL X hph 2 9 ly_2 tn_1 il_1_9 dX0_fits_31 ?_
    refine r_ic_ge X 81 dX0_fits_32 (by decide) (fun c1 => ?_) (fun c1 => ?_)
    · replace h := h.1 c1
      refine r_iload_n X 3 dX0_fits_81 rfl rfl ?_
      refine r_aload_n X 0 dX0_fits_82 rfl rfl ?_
      refine gr_X0_12 X hph 0 0 1 ly_0 rfl rfl dX0_fits_83 ?_
      refine gr_X0_402 X hph 1 1 38 ly_1 rfl rfl dX0_fits_86 ?_
      refine r_iload_n X 2 dX0_fits_89 rfl rfl ?_
      obtain ⟨g2, h⟩ := h
      refine r_aaldG X hph 4 38 8 39 ly_38 rfl lr_4 rfl g2 dX0_fits_90 ?_
      refine r_iconst (v := 1) X dX0_fits_91 rfl ?_
      refine r_ialdL X hph (39 + v2.toNatClampNeg) 2 (lg_4 _ (lt_in g2)) tn_1 il_1_2 dX0_fits_92 ?_
      refine r_ic_eq X 98 dX0_fits_93 (by decide) (fun c3 => ?_) (fun c3 => ?_)
      · replace h := h.1 c3
        refine r_iinc (lv' := [(2, .int (v2 + 1)), (0, .ref (kB G + 0)), (1, .ref v1), (3, .int v3), (4, .int v4)]) X 2 dX0_fits_98 rfl rfl (Nat.le_of_ble_eq_true rfl) rfl ?_
        refine r_goto X 2 dX0_fits_101 (by decide) ?_
        refine r_sub [1, 2, 0] rfl ?_
        exact hK2 (v2 + 1) s h
      · replace h := h.2 c3
        refine r_iconst (v := 0) X dX0_fits_96 rfl ?_
        exact r_zret X (Or.inl rfl) h (Nat.le_of_ble_eq_true rfl) (Nat.le_of_ble_eq_true rfl) dX0_fits_97
    · replace h := h.2 c1
      refine r_iload_n X 3 dX0_fits_35 rfl rfl ?_
      refine r_aload_n X 0 dX0_fits_36 rfl rfl ?_
      refine gr_X0_12 X hph 0 0 1 ly_0 rfl rfl dX0_fits_37 ?_
      refine gr_X0_88 X hph 1 1 6 ly_1 rfl rfl dX0_fits_40 ?_
      refine r_iload X 4 dX0_fits_43 rfl ?_
      obtain ⟨g4, h⟩ := h
      refine r_aaldG X hph 2 6 24 7 ly_6 rfl lr_2 rfl g4 dX0_fits_45 ?_
      refine r_iconst (v := 0) X dX0_fits_46 rfl ?_
      refine r_ialdL X hph (7 + v4.toNatClampNeg) 6 (lg_2 _ (lt_in g4)) tn_0 il_0_6 dX0_fits_47 ?_
      refine r_aload_n X 0 dX0_fits_48 rfl rfl ?_
      refine gr_X0_12 X hph 0 0 1 ly_0 rfl rfl dX0_fits_49 ?_
      refine gr_X0_402 X hph 1 1 38 ly_1 rfl rfl dX0_fits_52 ?_
      refine r_iload_n X 2 dX0_fits_55 rfl rfl ?_
      obtain ⟨g5, h⟩ := h
      refine r_aaldG X hph 4 38 8 39 ly_38 rfl lr_4 rfl g5 dX0_fits_56 ?_
      refine r_iconst (v := 0) X dX0_fits_57 rfl ?_
      refine r_ialdL X hph (39 + v2.toNatClampNeg) 2 (lg_4 _ (lt_in g5)) tn_0 il_0_2 dX0_fits_58 ?_
      refine r_ic_ne X 72 dX0_fits_59 (by decide) (fun c6 => ?_) (fun c6 => ?_)
      · replace h := h.2 c6
        refine r_iconst (v := 0) X dX0_fits_72 rfl ?_
        refine r_iadd X dX0_fits_73 ?_
        refine r_nmI (fun y11 e12 => ?_)
        replace h := h y11 e12
        refine r_istore_n (lv' := [(3, .int y11), (0, .ref (kB G + 0)), (1, .ref v1), (2, .int v2), (4, .int v4)]) X dX0_fits_74 rfl (Nat.le_of_ble_eq_true rfl) rfl ?_
        refine r_iinc (lv' := [(4, .int (v4 + 1)), (3, .int y11), (0, .ref (kB G + 0)), (1, .ref v1), (2, .int v2)]) X 4 dX0_fits_75 rfl rfl (Nat.le_of_ble_eq_true rfl) rfl ?_
        refine r_goto X 21 dX0_fits_78 (by decide) ?_
        refine r_sub [2, 3, 4, 1, 0] rfl ?_
        exact ih y11 (v4 + 1) s h
      · replace h := h.1 c6
        refine r_aload_n X 0 dX0_fits_62 rfl rfl ?_
        refine r_aload_n X 1 dX0_fits_63 rfl rfl ?_
        refine r_iload X 4 dX0_fits_64 rfl ?_
        refine r_ci X (r_okVL (As := [.ref v1, .int v4]) (rest := [.int v3]) X (m_X0_weightBy (xl x) G X.2.2.2.2.1 hph v1 v4 s _ h) (cl_X0_170 X ⟨(Nat.le_of_ble_eq_true rfl), (Nat.le_of_ble_eq_true rfl)⟩) hph 0 ly_0 rfl rfl rfl rfl (Nat.le_of_ble_eq_true rfl) dX0_fits_66 ⟨Nat.le_of_ble_eq_true rfl, Nat.le_of_ble_eq_true rfl⟩) (fun r8 s7 h => ?_)
        refine r_goto X 73 dX0_fits_69 (by decide) ?_
        refine r_iadd X dX0_fits_73 ?_
        refine r_nmI (fun y9 e10 => ?_)
        replace h := h y9 e10
        refine r_istore_n (lv' := [(3, .int y9), (0, .ref (kB G + 0)), (1, .ref v1), (2, .int v2), (4, .int v4)]) X dX0_fits_74 rfl (Nat.le_of_ble_eq_true rfl) rfl ?_
        refine r_iinc (lv' := [(4, .int (v4 + 1)), (3, .int y9), (0, .ref (kB G + 0)), (1, .ref v1), (2, .int v2)]) X 4 dX0_fits_75 rfl rfl (Nat.le_of_ble_eq_true rfl) rfl ?_
        refine r_goto X 21 dX0_fits_78 (by decide) ?_
        refine r_sub [2, 3, 4, 1, 0] rfl ?_
        exact ih y9 (v4 + 1) s7 h
theorem tl_X0_fits_2 {x : CT} {G : GT} (X : Cx x G cX0_fits 5 RX0 (some .boolean) rm_X0_fits) (hph : kP G = 1) (Q : Int32 → PS → Prop) (v1 : Nat) : ∀ (n : Nat) (v2 : Int32) (s : PS) (h : l_X0_fits_2 G Q v1 n v2 s), WB x G 5 (QfI x G 0 0 (fun r u => (r = 0 ∨ r = 1) ∧ Q r u)) 0 0 s 2 [(0, .ref (kB G + 0)), (1, .ref v1), (2, .int v2)] [] := by
  intro n
  induction n with
  | zero =>
    intro v2 s h
    exact False.elim h
  | succ n ih =>
    intro v2 s h
    unfold l_X0_fits_2 at h
    refine r_iload_n X 2 dX0_fits_2 rfl rfl ?_
    refine r_aload_n X 0 dX0_fits_3 rfl rfl ?_
    refine gr_X0_12 X hph 0 0 1 ly_0 rfl rfl dX0_fits_4 ?_
    refine gr_X0_74 X hph 1 1 2 ly_1 rfl rfl dX0_fits_7 ?_
    refine r_bipush (v := 7) X dX0_fits_10 rfl ?_
    refine r_ialdL X hph 2 9 ly_2 tn_7 il_7_9 dX0_fits_12 ?_
    refine r_ic_ge X 104 dX0_fits_13 (by decide) (fun c1 => ?_) (fun c1 => ?_)
    · replace h := h.1 c1
      refine r_iconst (v := 1) X dX0_fits_104 rfl ?_
      exact r_zret X (Or.inr rfl) h (Nat.le_of_ble_eq_true rfl) (Nat.le_of_ble_eq_true rfl) dX0_fits_105
    · replace h := h.2 c1
      refine r_iconst (v := 0) X dX0_fits_16 rfl ?_
      refine r_istore_n (lv' := [(3, .int 0), (0, .ref (kB G + 0)), (1, .ref v1), (2, .int v2)]) X dX0_fits_17 rfl (Nat.le_of_ble_eq_true rfl) rfl ?_
      refine r_iconst (v := 0) X dX0_fits_18 rfl ?_
      refine r_istore (lv' := [(4, .int 0), (3, .int 0), (0, .ref (kB G + 0)), (1, .ref v1), (2, .int v2)]) X dX0_fits_19 (Nat.le_of_ble_eq_true rfl) rfl ?_
      refine r_sub [2, 3, 4, 1, 0] rfl ?_
      obtain ⟨n2, h⟩ := h
      exact tl_X0_fits_21 X hph Q (l_X0_fits_2 G Q v1 n) v1 v2 ih n2 0 0 s h
theorem e_X0_fits {x : CT} {G : GT} (X : Cx x G cX0_fits 5 RX0 (some .boolean) rm_X0_fits) (hph : kP G = 1) (p1 : Nat) (s : PS) (Q : Int32 → PS → Prop) (h : w_X0_fits G p1 s Q) : WB x G 5 (QfI x G 0 0 (fun r u => (r = 0 ∨ r = 1) ∧ Q r u)) 0 0 s 0 [(0, .ref (kB G + 0)), (1, .ref p1)] [] := by
  unfold w_X0_fits at h
  refine r_iconst (v := 0) X dX0_fits_0 rfl ?_
  refine r_istore_n (lv' := [(2, .int 0), (0, .ref (kB G + 0)), (1, .ref p1)]) X dX0_fits_1 rfl (Nat.le_of_ble_eq_true rfl) rfl ?_
  refine r_sub [1, 2, 0] rfl ?_
  obtain ⟨n1, h⟩ := h
  exact tl_X0_fits_2 X hph Q p1 n1 0 s h
theorem m_X0_fits (l : Launch) (G : GT) (g : GK G) (hph : kP G = 1) (p1 : Nat) (s : PS) (Q : Int32 → PS → Prop) (h : w_X0_fits G p1 s Q) : Met l yX0_fits (ws_ yX0_fits cX0_fits 5 (some .boolean)) rm_X0_fits (va_Pc [.ref (kB G + 0), .ref p1] (Wr G s)) (va_Qi (fun r u => (r = 0 ∨ r = 1) ∧ Q r u) (fun u t => Wr G u t) (kF G)) 0 0 (kF G) := by
  refine Met.ofW (cc := cX0_fits) (maxL := 5) (ret := (some .boolean)) (by decide) rfl ?_
  intro p e s0 m args below meth c s₁ B hml hv
  obtain ⟨rfl, hw⟩ := hv
  exact wb_of [.ref (kB G + 0), .ref p1] (Nat.le_of_ble_eq_true rfl) hw.1 rfl (e_X0_fits (cx_of g B hml rfl hw) hph p1 s Q h)
theorem tl_X0_fit_4 {x : CT} {G : GT} (X : Cx x G cX0_fit 3 RX0 (some .int) rm_X0_fit) (hph : kP G = 1) (Q : Int32 → PS → Prop) : ∀ (n : Nat) (v1 : Int32) (v2 : Int32) (s : PS) (h : l_X0_fit_4 G Q n v1 v2 s), WB x G 3 (QfI x G 0 0 Q) 0 0 s 4 [(0, .ref (kB G + 0)), (1, .int v1), (2, .int v2)] [] := by
  intro n
  induction n with
  | zero =>
    intro v1 v2 s h
    exact False.elim h
  | succ n ih =>
    intro v1 v2 s h
    unfold l_X0_fit_4 at h
    refine r_iload_n X 2 dX0_fit_4 rfl rfl ?_
    refine r_aload_n X 0 dX0_fit_5 rfl rfl ?_
    refine gr_X0_12 X hph 0 0 1 ly_0 rfl rfl dX0_fit_6 ?_
    refine gr_X0_74 X hph 1 1 2 ly_1 rfl rfl dX0_fit_9 ?_
    refine r_iconst (v := 4) X dX0_fit_12 rfl ?_
    refine r_ialdL X hph 2 9 ly_2 tn_4 il_4_9 dX0_fit_13 ?_
    refine r_ic_ge X 49 dX0_fit_14 (by decide) (fun c1 => ?_) (fun c1 => ?_)
    · replace h := h.1 c1
      refine r_iload_n X 1 dX0_fit_49 rfl rfl ?_
      exact r_iret X h (Nat.le_of_ble_eq_true rfl) (Nat.le_of_ble_eq_true rfl) dX0_fit_50
    · replace h := h.2 c1
      refine r_iload_n X 1 dX0_fit_17 rfl rfl ?_
      refine r_aload_n X 0 dX0_fit_18 rfl rfl ?_
      refine r_aload_n X 0 dX0_fit_19 rfl rfl ?_
      refine gr_X0_12 X hph 0 0 1 ly_0 rfl rfl dX0_fit_20 ?_
      refine gr_X0_115 X hph 1 1 78 ly_1 rfl rfl dX0_fit_23 ?_
      refine r_iload_n X 2 dX0_fit_26 rfl rfl ?_
      obtain ⟨g2, h⟩ := h
      refine r_aaldL X hph 78 5 4 ly_78 (by decide) rfl g2 dX0_fit_27 ?_
      obtain ⟨q3, g4, h⟩ := h
      refine r_top (show va_rf (gR s (kB G + 78) v2.toNatClampNeg) = Value.ref q3 by rw [g4]; rfl) ?_
      refine r_ci X (r_okVL (As := [.ref q3]) (rest := [.int v1]) X (m_X0_fits (xl x) G X.2.2.2.2.1 hph q3 s _ h) (cl_X0_405 X ⟨(Nat.le_of_ble_eq_true rfl), (Nat.le_of_ble_eq_true rfl)⟩) hph 0 ly_0 rfl rfl rfl rfl (Nat.le_of_ble_eq_true rfl) dX0_fit_28 ⟨Nat.le_of_ble_eq_true rfl, Nat.le_of_ble_eq_true rfl⟩) (fun r6 s5 h => ?_)
      obtain ⟨z7, h⟩ := h
      have hJ : WB x G 3 (QfI x G 0 0 Q) 0 0 s5 41 [(0, .ref (kB G + 0)), (1, .int v1), (2, .int v2)] [.int (if r6 = 0 then 0 else ((1 : Int32) <<< (v2 &&& 31)) : Int32), .int v1] := by
        refine r_ior X dX0_fit_41 ?_
        refine r_nmI (fun y9 e10 => ?_)
        replace h := h y9 e10
        refine r_istore_n (lv' := [(1, .int y9), (0, .ref (kB G + 0)), (2, .int v2)]) X dX0_fit_42 rfl (Nat.le_of_ble_eq_true rfl) rfl ?_
        refine r_iinc (lv' := [(2, .int (v2 + 1)), (1, .int y9), (0, .ref (kB G + 0))]) X 2 dX0_fit_43 rfl rfl (Nat.le_of_ble_eq_true rfl) rfl ?_
        refine r_goto X 4 dX0_fit_46 (by decide) ?_
        refine r_sub [2, 1, 0] rfl ?_
        exact ih y9 (v2 + 1) s5 h
      refine r_if_eq X 40 dX0_fit_31 (by decide) (fun c8 => ?_) (fun c8 => ?_)
      · rw [if_pos c8] at hJ
        refine r_iconst (v := 0) X dX0_fit_40 rfl ?_
        exact hJ
      · rw [if_neg c8] at hJ
        refine r_iconst (v := 1) X dX0_fit_34 rfl ?_
        refine r_iload_n X 2 dX0_fit_35 rfl rfl ?_
        refine r_ishl X dX0_fit_36 ?_
        refine r_goto X 41 dX0_fit_37 (by decide) ?_
        exact hJ
theorem e_X0_fit {x : CT} {G : GT} (X : Cx x G cX0_fit 3 RX0 (some .int) rm_X0_fit) (hph : kP G = 1) (s : PS) (Q : Int32 → PS → Prop) (h : w_X0_fit G s Q) : WB x G 3 (QfI x G 0 0 Q) 0 0 s 0 [(0, .ref (kB G + 0))] [] := by
  unfold w_X0_fit at h
  refine r_iconst (v := 0) X dX0_fit_0 rfl ?_
  refine r_istore_n (lv' := [(1, .int 0), (0, .ref (kB G + 0))]) X dX0_fit_1 rfl (Nat.le_of_ble_eq_true rfl) rfl ?_
  refine r_iconst (v := 0) X dX0_fit_2 rfl ?_
  refine r_istore_n (lv' := [(2, .int 0), (1, .int 0), (0, .ref (kB G + 0))]) X dX0_fit_3 rfl (Nat.le_of_ble_eq_true rfl) rfl ?_
  refine r_sub [2, 1, 0] rfl ?_
  obtain ⟨n1, h⟩ := h
  exact tl_X0_fit_4 X hph Q n1 0 0 s h
theorem m_X0_fit (l : Launch) (G : GT) (g : GK G) (hph : kP G = 1) (s : PS) (Q : Int32 → PS → Prop) (h : w_X0_fit G s Q) : Met l yX0_fit (ws_ yX0_fit cX0_fit 3 (some .int)) rm_X0_fit (va_Pc [.ref (kB G + 0)] (Wr G s)) (va_Qi Q (fun u t => Wr G u t) (kF G)) 0 0 (kF G) := by
  refine Met.ofW (cc := cX0_fit) (maxL := 3) (ret := (some .int)) (by decide) rfl ?_
  intro p e s0 m args below meth c s₁ B hml hv
  obtain ⟨rfl, hw⟩ := hv
  exact wb_of [.ref (kB G + 0)] (Nat.le_of_ble_eq_true rfl) hw.1 rfl (e_X0_fit (cx_of g B hml rfl hw) hph s Q h)
theorem e_X0_sizeOfFactors {x : CT} {G : GT} (X : Cx x G cX0_sizeOfFactors 1 RX0 (some .int) rm_X0_sizeOfFactors) (hph : kP G = 1) (s : PS) (Q : Int32 → PS → Prop) (h : w_X0_sizeOfFactors G s Q) : WB x G 1 (QfI x G 0 0 Q) 0 0 s 0 [(0, .ref (kB G + 0))] [] := by
  unfold w_X0_sizeOfFactors at h
  refine r_aload_n X 0 dX0_sizeOfFactors_0 rfl rfl ?_
  refine gr_X0_60 X hph 0 0 179 ly_0 rfl rfl dX0_sizeOfFactors_1 ?_
  refine r_iconst (v := 0) X dX0_sizeOfFactors_4 rfl ?_
  refine r_ialdL X hph 179 4 ly_179 tn_0 il_0_4 dX0_sizeOfFactors_5 ?_
  refine r_mabs X q1176 q863 q150 q864 (Nat.le_of_ble_eq_true rfl) (Nat.le_of_ble_eq_true rfl) (Nat.le_of_ble_eq_true rfl) ⟨Nat.le_of_ble_eq_true rfl, Nat.le_of_ble_eq_true rfl⟩ dX0_sizeOfFactors_6 ?_
  refine r_aload_n X 0 dX0_sizeOfFactors_9 rfl rfl ?_
  refine gr_X0_60 X hph 0 0 179 ly_0 rfl rfl dX0_sizeOfFactors_10 ?_
  refine r_iconst (v := 1) X dX0_sizeOfFactors_13 rfl ?_
  refine r_ialdL X hph 179 4 ly_179 tn_1 il_1_4 dX0_sizeOfFactors_14 ?_
  refine r_mabs X q1176 q863 q150 q864 (Nat.le_of_ble_eq_true rfl) (Nat.le_of_ble_eq_true rfl) (Nat.le_of_ble_eq_true rfl) ⟨Nat.le_of_ble_eq_true rfl, Nat.le_of_ble_eq_true rfl⟩ dX0_sizeOfFactors_15 ?_
  refine r_iadd X dX0_sizeOfFactors_18 ?_
  refine r_aload_n X 0 dX0_sizeOfFactors_19 rfl rfl ?_
  refine gr_X0_60 X hph 0 0 179 ly_0 rfl rfl dX0_sizeOfFactors_20 ?_
  refine r_iconst (v := 2) X dX0_sizeOfFactors_23 rfl ?_
  refine r_ialdL X hph 179 4 ly_179 tn_2 il_2_4 dX0_sizeOfFactors_24 ?_
  refine r_mabs X q1176 q863 q150 q864 (Nat.le_of_ble_eq_true rfl) (Nat.le_of_ble_eq_true rfl) (Nat.le_of_ble_eq_true rfl) ⟨Nat.le_of_ble_eq_true rfl, Nat.le_of_ble_eq_true rfl⟩ dX0_sizeOfFactors_25 ?_
  refine r_iadd X dX0_sizeOfFactors_28 ?_
  refine r_aload_n X 0 dX0_sizeOfFactors_29 rfl rfl ?_
  refine gr_X0_60 X hph 0 0 179 ly_0 rfl rfl dX0_sizeOfFactors_30 ?_
  refine r_iconst (v := 3) X dX0_sizeOfFactors_33 rfl ?_
  refine r_ialdL X hph 179 4 ly_179 tn_3 il_3_4 dX0_sizeOfFactors_34 ?_
  refine r_mabs X q1176 q863 q150 q864 (Nat.le_of_ble_eq_true rfl) (Nat.le_of_ble_eq_true rfl) (Nat.le_of_ble_eq_true rfl) ⟨Nat.le_of_ble_eq_true rfl, Nat.le_of_ble_eq_true rfl⟩ dX0_sizeOfFactors_35 ?_
  refine r_iadd X dX0_sizeOfFactors_38 ?_
  exact r_iret X h (Nat.le_of_ble_eq_true rfl) (Nat.le_of_ble_eq_true rfl) dX0_sizeOfFactors_39
theorem m_X0_sizeOfFactors (l : Launch) (G : GT) (g : GK G) (hph : kP G = 1) (s : PS) (Q : Int32 → PS → Prop) (h : w_X0_sizeOfFactors G s Q) : Met l yX0_sizeOfFactors (ws_ yX0_sizeOfFactors cX0_sizeOfFactors 1 (some .int)) rm_X0_sizeOfFactors (va_Pc [.ref (kB G + 0)] (Wr G s)) (va_Qi Q (fun u t => Wr G u t) (kF G)) 0 0 (kF G) := by
  refine Met.ofW (cc := cX0_sizeOfFactors) (maxL := 1) (ret := (some .int)) (by decide) rfl ?_
  intro p e s0 m args below meth c s₁ B hml hv
  obtain ⟨rfl, hw⟩ := hv
  exact wb_of [.ref (kB G + 0)] (Nat.le_of_ble_eq_true rfl) hw.1 rfl (e_X0_sizeOfFactors (cx_of g B hml rfl hw) hph s Q h)
theorem tl_X0_byFactors_56 {x : CT} {G : GT} (X : Cx x G cX0_byFactors 6 RX0 (some .int) rm_X0_byFactors) (hph : kP G = 1) (Q : Int32 → PS → Prop) (K4 : Int32 → Int32 → PS → Prop) (v1 : Int32) (v3 : Int32) (v4 : Nat) (hK4 : ∀ (v2' : Int32) (v3' : Int32) (s' : PS), K4 v2' v3' s' → WB x G 6 (QfI x G 0 0 Q) 0 0 s' 4 [(0, .ref (kB G + 0)), (1, .int v1), (2, .int v2'), (3, .int v3')] []) : ∀ (n : Nat) (v2 : Int32) (v5 : Int32) (s : PS) (h : l_X0_byFactors_56 G Q K4 v1 v3 v4 n v2 v5 s), WB x G 6 (QfI x G 0 0 Q) 0 0 s 56 [(0, .ref (kB G + 0)), (1, .int v1), (2, .int v2), (3, .int v3), (4, .ref v4), (5, .int v5)] [] := by
  intro n
  induction n with
  | zero =>
    intro v2 v5 s h
    exact False.elim h
  | succ n ih =>
    intro v2 v5 s h
    unfold l_X0_byFactors_56 at h
    refine r_iload X 5 dX0_byFactors_56 rfl ?_
    refine r_iconst (v := 3) X dX0_byFactors_58 rfl ?_
    refine r_ic_ge X 96 dX0_byFactors_59 (by decide) (fun c1 => ?_) (fun c1 => ?_)
    · replace h := h.1 c1
      refine r_iinc (lv' := [(3, .int (v3 + 1)), (0, .ref (kB G + 0)), (1, .int v1), (2, .int v2), (4, .ref v4), (5, .int v5)]) X 3 dX0_byFactors_96 rfl rfl (Nat.le_of_ble_eq_true rfl) rfl ?_
      refine r_goto X 4 dX0_byFactors_99 (by decide) ?_
      refine r_sub [1, 2, 3, 0] rfl ?_
      exact hK4 v2 (v3 + 1) s h
    · replace h := h.2 c1
      refine r_iload_n X 2 dX0_byFactors_62 rfl rfl ?_
      refine r_aload X 4 dX0_byFactors_63 rfl ?_
      refine r_iconst (v := 3) X dX0_byFactors_65 rfl ?_
      obtain ⟨g2, h⟩ := h
      obtain ⟨g3, h⟩ := h
      refine r_iald X g2 g3 dX0_byFactors_66 ?_
      refine r_iload X 5 dX0_byFactors_67 rfl ?_
      refine r_ci X (r_okS (As := [.int (gI s v4 (Int32.toNatClampNeg 3)), .int v5]) (rest := [.int v2]) X (m_X0_has (xl x) G X.2.2.2.2.1 (gI s v4 (Int32.toNatClampNeg 3)) v5 s _ h) (cl_X0_174 X ⟨(Nat.le_of_ble_eq_true rfl), (Nat.le_of_ble_eq_true rfl)⟩) rfl rfl (Nat.le_of_ble_eq_true rfl) dX0_byFactors_69 ⟨Nat.le_of_ble_eq_true rfl, Nat.le_of_ble_eq_true rfl⟩) (fun r5 s4 h => ?_)
      obtain ⟨z6, h⟩ := h
      refine r_if_eq X 87 dX0_byFactors_72 (by decide) (fun c7 => ?_) (fun c7 => ?_)
      · replace h := h.1 c7
        refine r_iconst (v := 0) X dX0_byFactors_87 rfl ?_
        refine r_iadd X dX0_byFactors_88 ?_
        refine r_nmI (fun y8 e9 => ?_)
        replace h := h y8 e9
        refine r_istore_n (lv' := [(2, .int y8), (0, .ref (kB G + 0)), (1, .int v1), (3, .int v3), (4, .ref v4), (5, .int v5)]) X dX0_byFactors_89 rfl (Nat.le_of_ble_eq_true rfl) rfl ?_
        refine r_iinc (lv' := [(5, .int (v5 + 1)), (2, .int y8), (0, .ref (kB G + 0)), (1, .int v1), (3, .int v3), (4, .ref v4)]) X 5 dX0_byFactors_90 rfl rfl (Nat.le_of_ble_eq_true rfl) rfl ?_
        refine r_goto X 56 dX0_byFactors_93 (by decide) ?_
        refine r_sub [2, 3, 1, 4, 5, 0] rfl ?_
        exact ih y8 (v5 + 1) s4 h
      · replace h := h.2 c7
        refine r_aload_n X 0 dX0_byFactors_75 rfl rfl ?_
        refine gr_X0_60 X hph 0 0 179 ly_0 rfl rfl dX0_byFactors_76 ?_
        refine r_iload X 5 dX0_byFactors_79 rfl ?_
        refine r_iconst (v := 1) X dX0_byFactors_81 rfl ?_
        refine r_iadd X dX0_byFactors_82 ?_
        obtain ⟨g10, h⟩ := h
        refine r_ialdL X hph 179 4 ly_179 rfl g10 dX0_byFactors_83 ?_
        refine r_goto X 88 dX0_byFactors_84 (by decide) ?_
        refine r_iadd X dX0_byFactors_88 ?_
        refine r_nmI (fun y11 e12 => ?_)
        replace h := h y11 e12
        refine r_istore_n (lv' := [(2, .int y11), (0, .ref (kB G + 0)), (1, .int v1), (3, .int v3), (4, .ref v4), (5, .int v5)]) X dX0_byFactors_89 rfl (Nat.le_of_ble_eq_true rfl) rfl ?_
        refine r_iinc (lv' := [(5, .int (v5 + 1)), (2, .int y11), (0, .ref (kB G + 0)), (1, .int v1), (3, .int v3), (4, .ref v4)]) X 5 dX0_byFactors_90 rfl rfl (Nat.le_of_ble_eq_true rfl) rfl ?_
        refine r_goto X 56 dX0_byFactors_93 (by decide) ?_
        refine r_sub [2, 3, 1, 4, 5, 0] rfl ?_
        exact ih y11 (v5 + 1) s4 h
theorem tl_X0_byFactors_4 {x : CT} {G : GT} (X : Cx x G cX0_byFactors 6 RX0 (some .int) rm_X0_byFactors) (hph : kP G = 1) (Q : Int32 → PS → Prop) (v1 : Int32) : ∀ (n : Nat) (v2 : Int32) (v3 : Int32) (s : PS) (h : l_X0_byFactors_4 G Q v1 n v2 v3 s), WB x G 6 (QfI x G 0 0 Q) 0 0 s 4 [(0, .ref (kB G + 0)), (1, .int v1), (2, .int v2), (3, .int v3)] [] := by
  intro n
  induction n with
  | zero =>
    intro v2 v3 s h
    exact False.elim h
  | succ n ih =>
    intro v2 v3 s h
    unfold l_X0_byFactors_4 at h
    refine r_iload_n X 3 dX0_byFactors_4 rfl rfl ?_
    refine r_aload_n X 0 dX0_byFactors_5 rfl rfl ?_
    refine gr_X0_12 X hph 0 0 1 ly_0 rfl rfl dX0_byFactors_6 ?_
    refine gr_X0_74 X hph 1 1 2 ly_1 rfl rfl dX0_byFactors_9 ?_
    refine r_iconst (v := 1) X dX0_byFactors_12 rfl ?_
    refine r_ialdL X hph 2 9 ly_2 tn_1 il_1_9 dX0_byFactors_13 ?_
    refine r_ic_ge X 102 dX0_byFactors_14 (by decide) (fun c1 => ?_) (fun c1 => ?_)
    · replace h := h.1 c1
      refine r_iload_n X 2 dX0_byFactors_102 rfl rfl ?_
      exact r_iret X h (Nat.le_of_ble_eq_true rfl) (Nat.le_of_ble_eq_true rfl) dX0_byFactors_103
    · replace h := h.2 c1
      refine r_aload_n X 0 dX0_byFactors_17 rfl rfl ?_
      refine gr_X0_12 X hph 0 0 1 ly_0 rfl rfl dX0_byFactors_18 ?_
      refine gr_X0_88 X hph 1 1 6 ly_1 rfl rfl dX0_byFactors_21 ?_
      refine r_iload_n X 3 dX0_byFactors_24 rfl rfl ?_
      obtain ⟨g2, h⟩ := h
      refine r_aaldG X hph 2 6 24 7 ly_6 rfl lr_2 rfl g2 dX0_byFactors_25 ?_
      refine r_astore (lv' := [(4, .ref (kB G + (7 + v3.toNatClampNeg))), (0, .ref (kB G + 0)), (1, .int v1), (2, .int v2), (3, .int v3)]) X dX0_byFactors_26 (Nat.le_of_ble_eq_true rfl) rfl ?_
      refine r_aload X 0 dX0_byFactors_28 rfl ?_
      refine r_iconst (v := 0) X dX0_byFactors_30 rfl ?_
      refine r_ialdL X hph (7 + v3.toNatClampNeg) 6 (lg_2 _ (lt_in g2)) tn_0 il_0_6 dX0_byFactors_31 ?_
      refine r_iload_n X 2 dX0_byFactors_32 rfl rfl ?_
      refine r_ic_eq X 39 dX0_byFactors_33 (by decide) (fun c3 => ?_) (fun c3 => ?_)
      · replace h := h.1 c3
        refine r_iload_n X 3 dX0_byFactors_39 rfl rfl ?_
        refine r_aload_n X 1 dX0_byFactors_40 rfl rfl ?_
        refine gr_X0_60 X hph 0 0 179 ly_0 rfl rfl dX0_byFactors_41 ?_
        refine r_iconst (v := 0) X dX0_byFactors_44 rfl ?_
        refine r_ialdL X hph 179 4 ly_179 tn_0 il_0_4 dX0_byFactors_45 ?_
        refine r_aload X 0 dX0_byFactors_46 rfl ?_
        refine r_iconst (v := 2) X dX0_byFactors_48 rfl ?_
        refine r_ialdL X hph (7 + v3.toNatClampNeg) 6 (lg_2 _ (lt_in g2)) tn_2 il_2_6 dX0_byFactors_49 ?_
        refine r_imul X dX0_byFactors_50 ?_
        refine r_iadd X dX0_byFactors_51 ?_
        refine r_nmI (fun y4 e5 => ?_)
        replace h := h y4 e5
        refine r_istore_n (lv' := [(2, .int y4), (4, .ref (kB G + (7 + v3.toNatClampNeg))), (0, .ref (kB G + 0)), (1, .int v1), (3, .int v3)]) X dX0_byFactors_52 rfl (Nat.le_of_ble_eq_true rfl) rfl ?_
        refine r_iconst (v := 0) X dX0_byFactors_53 rfl ?_
        refine r_istore (lv' := [(5, .int 0), (2, .int y4), (4, .ref (kB G + (7 + v3.toNatClampNeg))), (0, .ref (kB G + 0)), (1, .int v1), (3, .int v3)]) X dX0_byFactors_54 (Nat.le_of_ble_eq_true rfl) rfl ?_
        refine r_sub [3, 4, 1, 5, 2, 0] rfl ?_
        obtain ⟨n6, h⟩ := h
        exact tl_X0_byFactors_56 X hph Q (l_X0_byFactors_4 G Q v1 n) v1 v3 (kB G + (7 + v3.toNatClampNeg)) ih n6 y4 0 s h
      · replace h := h.2 c3
        refine r_goto X 96 dX0_byFactors_36 (by decide) ?_
        refine r_iinc (lv' := [(3, .int (v3 + 1)), (4, .ref (kB G + (7 + v3.toNatClampNeg))), (0, .ref (kB G + 0)), (1, .int v1), (2, .int v2)]) X 4 dX0_byFactors_96 rfl rfl (Nat.le_of_ble_eq_true rfl) rfl ?_
        refine r_goto X 4 dX0_byFactors_99 (by decide) ?_
        refine r_sub [2, 3, 4, 0] rfl ?_
        exact ih v2 (v3 + 1) s h
theorem e_X0_byFactors {x : CT} {G : GT} (X : Cx x G cX0_byFactors 6 RX0 (some .int) rm_X0_byFactors) (hph : kP G = 1) (p1 : Int32) (s : PS) (Q : Int32 → PS → Prop) (h : w_X0_byFactors G p1 s Q) : WB x G 6 (QfI x G 0 0 Q) 0 0 s 0 [(0, .ref (kB G + 0)), (1, .int p1)] [] := by
  unfold w_X0_byFactors at h
  refine r_iconst (v := 0) X dX0_byFactors_0 rfl ?_
  refine r_istore_n (lv' := [(2, .int 0), (0, .ref (kB G + 0)), (1, .int p1)]) X dX0_byFactors_1 rfl (Nat.le_of_ble_eq_true rfl) rfl ?_
  refine r_iconst (v := 0) X dX0_byFactors_2 rfl ?_
  refine r_istore_n (lv' := [(3, .int 0), (2, .int 0), (0, .ref (kB G + 0)), (1, .int p1)]) X dX0_byFactors_3 rfl (Nat.le_of_ble_eq_true rfl) rfl ?_
  refine r_sub [2, 3, 1, 0] rfl ?_
  obtain ⟨n1, h⟩ := h
  exact tl_X0_byFactors_4 X hph Q p1 n1 0 0 s h
theorem m_X0_byFactors (l : Launch) (G : GT) (g : GK G) (hph : kP G = 1) (p1 : Int32) (s : PS) (Q : Int32 → PS → Prop) (h : w_X0_byFactors G p1 s Q) : Met l yX0_byFactors (ws_ yX0_byFactors cX0_byFactors 6 (some .int)) rm_X0_byFactors (va_Pc [.ref (kB G + 0), .int p1] (Wr G s)) (va_Qi Q (fun u t => Wr G u t) (kF G)) 0 0 (kF G) := by
  refine Met.ofW (cc := cX0_byFactors) (maxL := 6) (ret := (some .int)) (by decide) rfl ?_
  intro p e s0 m args below meth c s₁ B hml hv
  obtain ⟨rfl, hw⟩ := hv
  exact wb_of [.ref (kB G + 0), .int p1] (Nat.le_of_ble_eq_true rfl) hw.1 rfl (e_X0_byFactors (cx_of g B hml rfl hw) hph p1 s Q h)
theorem tl_X0_fitsFactors_2 {x : CT} {G : GT} (X : Cx x G cX0_fitsFactors 2 RX0 (some .boolean) rm_X0_fitsFactors) (hph : kP G = 1) (Q : Int32 → PS → Prop) : ∀ (n : Nat) (v1 : Int32) (s : PS) (h : l_X0_fitsFactors_2 G Q n v1 s), WB x G 2 (QfI x G 0 0 (fun r u => (r = 0 ∨ r = 1) ∧ Q r u)) 0 0 s 2 [(0, .ref (kB G + 0)), (1, .int v1)] [] := by
  intro n
  induction n with
  | zero =>
    intro v1 s h
    exact False.elim h
  | succ n ih =>
    intro v1 s h
    unfold l_X0_fitsFactors_2 at h
    refine r_iload_n X 1 dX0_fitsFactors_2 rfl rfl ?_
    refine r_aload_n X 0 dX0_fitsFactors_3 rfl rfl ?_
    refine gr_X0_12 X hph 0 0 1 ly_0 rfl rfl dX0_fitsFactors_4 ?_
    refine gr_X0_74 X hph 1 1 2 ly_1 rfl rfl dX0_fitsFactors_7 ?_
    refine r_bipush (v := 7) X dX0_fitsFactors_10 rfl ?_
    refine r_ialdL X hph 2 9 ly_2 tn_7 il_7_9 dX0_fitsFactors_12 ?_
    refine r_ic_ge X 53 dX0_fitsFactors_13 (by decide) (fun c1 => ?_) (fun c1 => ?_)
    · replace h := h.1 c1
      refine r_iconst (v := 1) X dX0_fitsFactors_53 rfl ?_
      exact r_zret X (Or.inr rfl) h (Nat.le_of_ble_eq_true rfl) (Nat.le_of_ble_eq_true rfl) dX0_fitsFactors_54
    · replace h := h.2 c1
      refine r_aload_n X 0 dX0_fitsFactors_16 rfl rfl ?_
      refine r_aload_n X 0 dX0_fitsFactors_17 rfl rfl ?_
      refine gr_X0_12 X hph 0 0 1 ly_0 rfl rfl dX0_fitsFactors_18 ?_
      refine gr_X0_402 X hph 1 1 38 ly_1 rfl rfl dX0_fitsFactors_21 ?_
      refine r_iload_n X 1 dX0_fitsFactors_24 rfl rfl ?_
      obtain ⟨g2, h⟩ := h
      refine r_aaldG X hph 4 38 8 39 ly_38 rfl lr_4 rfl g2 dX0_fitsFactors_25 ?_
      refine r_iconst (v := 0) X dX0_fitsFactors_26 rfl ?_
      refine r_ialdL X hph (39 + v1.toNatClampNeg) 2 (lg_4 _ (lt_in g2)) tn_0 il_0_2 dX0_fitsFactors_27 ?_
      refine r_ci X (r_okVL (As := [.int (gI s (kB G + (39 + v1.toNatClampNeg)) 0)]) (rest := []) X (m_X0_byFactors (xl x) G X.2.2.2.2.1 hph (gI s (kB G + (39 + v1.toNatClampNeg)) 0) s _ h) (cl_X0_409 X ⟨(Nat.le_of_ble_eq_true rfl), (Nat.le_of_ble_eq_true rfl)⟩) hph 0 ly_0 rfl rfl rfl rfl (Nat.le_of_ble_eq_true rfl) dX0_fitsFactors_28 ⟨Nat.le_of_ble_eq_true rfl, Nat.le_of_ble_eq_true rfl⟩) (fun r4 s3 h => ?_)
      refine r_aload_n X 0 dX0_fitsFactors_31 rfl rfl ?_
      refine gr_X0_12 X hph 0 0 1 ly_0 rfl rfl dX0_fitsFactors_32 ?_
      refine gr_X0_402 X hph 1 1 38 ly_1 rfl rfl dX0_fitsFactors_35 ?_
      refine r_iload_n X 1 dX0_fitsFactors_38 rfl rfl ?_
      refine r_aaldG X hph 4 38 8 39 ly_38 rfl lr_4 rfl g2 dX0_fitsFactors_39 ?_
      refine r_iconst (v := 1) X dX0_fitsFactors_40 rfl ?_
      refine r_ialdL X hph (39 + v1.toNatClampNeg) 2 (lg_4 _ (lt_in g2)) tn_1 il_1_2 dX0_fitsFactors_41 ?_
      refine r_ic_eq X 47 dX0_fitsFactors_42 (by decide) (fun c5 => ?_) (fun c5 => ?_)
      · replace h := h.1 c5
        refine r_iinc (lv' := [(1, .int (v1 + 1)), (0, .ref (kB G + 0))]) X 1 dX0_fitsFactors_47 rfl rfl (Nat.le_of_ble_eq_true rfl) rfl ?_
        refine r_goto X 2 dX0_fitsFactors_50 (by decide) ?_
        refine r_sub [1, 0] rfl ?_
        exact ih (v1 + 1) s3 h
      · replace h := h.2 c5
        refine r_iconst (v := 0) X dX0_fitsFactors_45 rfl ?_
        exact r_zret X (Or.inl rfl) h (Nat.le_of_ble_eq_true rfl) (Nat.le_of_ble_eq_true rfl) dX0_fitsFactors_46
theorem e_X0_fitsFactors {x : CT} {G : GT} (X : Cx x G cX0_fitsFactors 2 RX0 (some .boolean) rm_X0_fitsFactors) (hph : kP G = 1) (s : PS) (Q : Int32 → PS → Prop) (h : w_X0_fitsFactors G s Q) : WB x G 2 (QfI x G 0 0 (fun r u => (r = 0 ∨ r = 1) ∧ Q r u)) 0 0 s 0 [(0, .ref (kB G + 0))] [] := by
  unfold w_X0_fitsFactors at h
  refine r_iconst (v := 0) X dX0_fitsFactors_0 rfl ?_
  refine r_istore_n (lv' := [(1, .int 0), (0, .ref (kB G + 0))]) X dX0_fitsFactors_1 rfl (Nat.le_of_ble_eq_true rfl) rfl ?_
  refine r_sub [1, 0] rfl ?_
  obtain ⟨n1, h⟩ := h
  exact tl_X0_fitsFactors_2 X hph Q n1 0 s h
theorem m_X0_fitsFactors (l : Launch) (G : GT) (g : GK G) (hph : kP G = 1) (s : PS) (Q : Int32 → PS → Prop) (h : w_X0_fitsFactors G s Q) : Met l yX0_fitsFactors (ws_ yX0_fitsFactors cX0_fitsFactors 2 (some .boolean)) rm_X0_fitsFactors (va_Pc [.ref (kB G + 0)] (Wr G s)) (va_Qi (fun r u => (r = 0 ∨ r = 1) ∧ Q r u) (fun u t => Wr G u t) (kF G)) 0 0 (kF G) := by
  refine Met.ofW (cc := cX0_fitsFactors) (maxL := 2) (ret := (some .boolean)) (by decide) rfl ?_
  intro p e s0 m args below meth c s₁ B hml hv
  obtain ⟨rfl, hw⟩ := hv
  exact wb_of [.ref (kB G + 0)] (Nat.le_of_ble_eq_true rfl) hw.1 rfl (e_X0_fitsFactors (cx_of g B hml rfl hw) hph s Q h)
theorem tb_X0_smallest_82 {x : CT} {G : GT} (X : Cx x G cX0_smallest 7 RX0 (some .int) rm_X0_smallest) (hph : kP G = 1) (Q : Int32 → PS → Prop) (K20 : Int32 → Int32 → PS → Prop) (v1 : Int32) (v2 : Int32) (v3 : Int32) (v4 : Int32) (s : PS) (hK20 : ∀ (v2' : Int32) (v4' : Int32) (s' : PS), K20 v2' v4' s' → WB x G 7 (QfI x G 0 0 Q) 0 0 s' 20 [(0, .ref (kB G + 0)), (1, .int v1), (2, .int v2'), (3, .int v3), (4, .int v4')] []) (h : b_X0_smallest_82 G Q K20 v1 v2 v3 v4 s) : WB x G 7 (QfI x G 0 0 Q) 0 0 s 82 [(0, .ref (kB G + 0)), (1, .int v1), (2, .int v2), (3, .int v3), (4, .int v4)] [] := by
  unfold b_X0_smallest_82 at h
  refine r_aload_n X 0 dX0_smallest_82 rfl rfl ?_
  refine r_ci X (r_okVL (As := []) (rest := []) X (m_X0_fitsFactors (xl x) G X.2.2.2.2.1 hph s _ h) (cl_X0_415 X ⟨(Nat.le_of_ble_eq_true rfl), (Nat.le_of_ble_eq_true rfl)⟩) hph 0 ly_0 rfl rfl rfl rfl (Nat.le_of_ble_eq_true rfl) dX0_smallest_83 ⟨Nat.le_of_ble_eq_true rfl, Nat.le_of_ble_eq_true rfl⟩) (fun r2 s1 h => ?_)
  obtain ⟨z3, h⟩ := h
  refine r_if_ne X 92 dX0_smallest_86 (by decide) (fun c4 => ?_) (fun c4 => ?_)
  · replace h := h.2 c4
    refine r_aload_n X 0 dX0_smallest_92 rfl rfl ?_
    refine r_ci X (r_okVL (As := []) (rest := []) X (m_X0_sizeOfFactors (xl x) G X.2.2.2.2.1 hph s1 _ h) (cl_X0_412 X ⟨(Nat.le_of_ble_eq_true rfl), (Nat.le_of_ble_eq_true rfl)⟩) hph 0 ly_0 rfl rfl rfl rfl (Nat.le_of_ble_eq_true rfl) dX0_smallest_93 ⟨Nat.le_of_ble_eq_true rfl, Nat.le_of_ble_eq_true rfl⟩) (fun r6 s5 h => ?_)
    refine r_istore_n (lv' := [(2, .int r6), (0, .ref (kB G + 0)), (1, .int v1), (3, .int v3), (4, .int v4)]) X dX0_smallest_96 rfl (Nat.le_of_ble_eq_true rfl) rfl ?_
    refine r_aload_n X 1 dX0_smallest_97 rfl rfl ?_
    refine gr_X0_60 X hph 0 0 179 ly_0 rfl rfl dX0_smallest_98 ?_
    refine r_aload_n X 1 dX0_smallest_101 rfl rfl ?_
    refine gr_X0_63 X hph 0 0 180 ly_0 rfl rfl dX0_smallest_102 ?_
    refine r_cv X (r_okSN (As := [.ref (kB G + 179), .ref (kB G + 180)]) (rest := []) X (m_X1_copy (xl x) G X.2.2.2.2.1 (kB G + 179) (kB G + 180) s5 _ h) (cl_X0_91 X ⟨(Nat.le_of_ble_eq_true rfl), (Nat.le_of_ble_eq_true rfl)⟩) rfl rfl (Nat.le_of_ble_eq_true rfl) dX0_smallest_105 ⟨Nat.le_of_ble_eq_true rfl, Nat.le_of_ble_eq_true rfl⟩) (fun s7 h => ?_)
    refine r_iinc (lv' := [(4, .int (v4 + 1)), (2, .int r6), (0, .ref (kB G + 0)), (1, .int v1), (3, .int v3)]) X 4 dX0_smallest_108 rfl rfl (Nat.le_of_ble_eq_true rfl) rfl ?_
    refine r_goto X 20 dX0_smallest_111 (by decide) ?_
    refine r_sub [2, 3, 1, 4, 0] rfl ?_
    exact hK20 r6 (v4 + 1) s7 h
  · replace h := h.1 c4
    refine r_goto X 108 dX0_smallest_89 (by decide) ?_
    refine r_iinc (lv' := [(4, .int (v4 + 1)), (0, .ref (kB G + 0)), (1, .int v1), (2, .int v2), (3, .int v3)]) X 4 dX0_smallest_108 rfl rfl (Nat.le_of_ble_eq_true rfl) rfl ?_
    refine r_goto X 20 dX0_smallest_111 (by decide) ?_
    refine r_sub [1, 2, 3, 4, 0] rfl ?_
    exact hK20 v2 (v4 + 1) s1 h
theorem tl_X0_smallest_39 {x : CT} {G : GT} (X : Cx x G cX0_smallest 7 RX0 (some .int) rm_X0_smallest) (hph : kP G = 1) (Q : Int32 → PS → Prop) (K20 : Int32 → Int32 → PS → Prop) (v1 : Int32) (v2 : Int32) (v3 : Int32) (v4 : Int32) (hK20 : ∀ (v2' : Int32) (v4' : Int32) (s' : PS), K20 v2' v4' s' → WB x G 7 (QfI x G 0 0 Q) 0 0 s' 20 [(0, .ref (kB G + 0)), (1, .int v1), (2, .int v2'), (3, .int v3), (4, .int v4')] []) : ∀ (n : Nat) (v5 : Int32) (v6 : Int32) (s : PS) (h : l_X0_smallest_39 G Q K20 v1 v2 v3 v4 n v5 v6 s), WB x G 7 (QfI x G 0 0 Q) 0 0 s 39 [(0, .ref (kB G + 0)), (1, .int v1), (2, .int v2), (3, .int v3), (4, .int v4), (5, .int v5), (6, .int v6)] [] := by
  intro n
  induction n with
  | zero =>
    intro v5 v6 s h
    exact False.elim h
  | succ n ih =>
    intro v5 v6 s h
    unfold l_X0_smallest_39 at h
    refine r_iload X 5 dX0_smallest_39 rfl ?_
    refine r_if_lt X 69 dX0_smallest_41 (by decide) (fun c1 => ?_) (fun c1 => ?_)
    · replace h := h.1 c1
      refine r_iload_n X 2 dX0_smallest_69 rfl rfl ?_
      refine r_iconst (v := (-1)) X dX0_smallest_70 rfl ?_
      refine r_ic_eq X 82 dX0_smallest_71 (by decide) (fun c2 => ?_) (fun c2 => ?_)
      · replace h := h.1 c2
        refine r_sub [0, 1, 2, 3, 4] rfl ?_
        exact tb_X0_smallest_82 X hph Q K20 v1 v2 v3 v4 s hK20 h
      · replace h := h.2 c2
        refine r_aload_n X 0 dX0_smallest_74 rfl rfl ?_
        refine r_ci X (r_okVL (As := []) (rest := []) X (m_X0_sizeOfFactors (xl x) G X.2.2.2.2.1 hph s _ h) (cl_X0_412 X ⟨(Nat.le_of_ble_eq_true rfl), (Nat.le_of_ble_eq_true rfl)⟩) hph 0 ly_0 rfl rfl rfl rfl (Nat.le_of_ble_eq_true rfl) dX0_smallest_75 ⟨Nat.le_of_ble_eq_true rfl, Nat.le_of_ble_eq_true rfl⟩) (fun r4 s3 h => ?_)
        refine r_iload_n X 2 dX0_smallest_78 rfl rfl ?_
        refine r_ic_ge X 108 dX0_smallest_79 (by decide) (fun c5 => ?_) (fun c5 => ?_)
        · replace h := h.1 c5
          refine r_iinc (lv' := [(4, .int (v4 + 1)), (0, .ref (kB G + 0)), (1, .int v1), (2, .int v2), (3, .int v3), (5, .int v5), (6, .int v6)]) X 4 dX0_smallest_108 rfl rfl (Nat.le_of_ble_eq_true rfl) rfl ?_
          refine r_goto X 20 dX0_smallest_111 (by decide) ?_
          refine r_sub [1, 2, 3, 4, 0] rfl ?_
          exact hK20 v2 (v4 + 1) s3 h
        · replace h := h.2 c5
          refine r_sub [0, 1, 2, 3, 4] rfl ?_
          exact tb_X0_smallest_82 X hph Q K20 v1 v2 v3 v4 s3 hK20 h
    · replace h := h.2 c1
      refine r_aload_n X 0 dX0_smallest_44 rfl rfl ?_
      refine gr_X0_60 X hph 0 0 179 ly_0 rfl rfl dX0_smallest_45 ?_
      refine r_iload X 5 dX0_smallest_48 rfl ?_
      refine r_iload X 6 dX0_smallest_50 rfl ?_
      refine r_iload_n X 3 dX0_smallest_52 rfl rfl ?_
      obtain ⟨g6, h⟩ := h
      refine r_irem X dX0_smallest_53 g6 ?_
      refine r_iconst (v := 3) X dX0_smallest_54 rfl ?_
      refine r_isub X dX0_smallest_55 ?_
      obtain ⟨g7, h⟩ := h
      refine r_iastL X hph 179 4 ly_179 rfl g7 dX0_smallest_56 (fun s8 e9 => ?_)
      replace h := h s8 e9
      refine r_iinc (lv' := [(5, .int (v5 + (-1))), (0, .ref (kB G + 0)), (1, .int v1), (2, .int v2), (3, .int v3), (4, .int v4), (6, .int v6)]) X 5 dX0_smallest_57 rfl rfl (Nat.le_of_ble_eq_true rfl) rfl ?_
      refine r_iload X 6 dX0_smallest_60 rfl ?_
      refine r_iload_n X 4 dX0_smallest_62 rfl rfl ?_
      refine r_idiv X dX0_smallest_63 g6 ?_
      refine r_nmI (fun y10 e11 => ?_)
      replace h := h y10 e11
      refine r_istore (lv' := [(6, .int y10), (5, .int (v5 + (-1))), (0, .ref (kB G + 0)), (1, .int v1), (2, .int v2), (3, .int v3), (4, .int v4)]) X dX0_smallest_64 (Nat.le_of_ble_eq_true rfl) rfl ?_
      refine r_goto X 39 dX0_smallest_66 (by decide) ?_
      refine r_sub [2, 3, 4, 5, 6, 1, 0] rfl ?_
      exact ih (v5 + (-1)) y10 s8 h
theorem tl_X0_smallest_20 {x : CT} {G : GT} (X : Cx x G cX0_smallest 7 RX0 (some .int) rm_X0_smallest) (hph : kP G = 1) (Q : Int32 → PS → Prop) (v1 : Int32) (v3 : Int32) : ∀ (n : Nat) (v2 : Int32) (v4 : Int32) (s : PS) (h : l_X0_smallest_20 G Q v1 v3 n v2 v4 s), WB x G 7 (QfI x G 0 0 Q) 0 0 s 20 [(0, .ref (kB G + 0)), (1, .int v1), (2, .int v2), (3, .int v3), (4, .int v4)] [] := by
  intro n
  induction n with
  | zero =>
    intro v2 v4 s h
    exact False.elim h
  | succ n ih =>
    intro v2 v4 s h
    unfold l_X0_smallest_20 at h
    refine r_iload X 4 dX0_smallest_20 rfl ?_
    refine r_iload_n X 3 dX0_smallest_22 rfl rfl ?_
    refine r_iload_n X 3 dX0_smallest_23 rfl rfl ?_
    refine r_imul X dX0_smallest_24 ?_
    refine r_iload_n X 3 dX0_smallest_25 rfl rfl ?_
    refine r_imul X dX0_smallest_26 ?_
    refine r_iload_n X 3 dX0_smallest_27 rfl rfl ?_
    refine r_imul X dX0_smallest_28 ?_
    refine r_ic_ge X 114 dX0_smallest_29 (by decide) (fun c1 => ?_) (fun c1 => ?_)
    · replace h := h.1 c1
      refine r_iload_n X 2 dX0_smallest_114 rfl rfl ?_
      refine r_iconst (v := (-1)) X dX0_smallest_115 rfl ?_
      refine r_ic_ne X 124 dX0_smallest_116 (by decide) (fun c2 => ?_) (fun c2 => ?_)
      · replace h := h.2 c2
        refine r_aload_n X 0 dX0_smallest_124 rfl rfl ?_
        refine gr_X0_63 X hph 0 0 180 ly_0 rfl rfl dX0_smallest_125 ?_
        refine r_iload_n X 1 dX0_smallest_128 rfl rfl ?_
        obtain ⟨g3, h⟩ := h
        refine r_ialdL X hph 180 4 ly_180 rfl g3 dX0_smallest_129 ?_
        exact r_iret X h (Nat.le_of_ble_eq_true rfl) (Nat.le_of_ble_eq_true rfl) dX0_smallest_130
      · replace h := h.1 c2
        refine r_bipush (v := (-100)) X dX0_smallest_119 rfl ?_
        refine r_goto X 130 dX0_smallest_121 (by decide) ?_
        exact r_iret X h (Nat.le_of_ble_eq_true rfl) (Nat.le_of_ble_eq_true rfl) dX0_smallest_130
    · replace h := h.2 c1
      refine r_iconst (v := 3) X dX0_smallest_32 rfl ?_
      refine r_istore (lv' := [(5, .int 3), (0, .ref (kB G + 0)), (1, .int v1), (2, .int v2), (3, .int v3), (4, .int v4)]) X dX0_smallest_33 (Nat.le_of_ble_eq_true rfl) rfl ?_
      refine r_iload X 5 dX0_smallest_35 rfl ?_
      refine r_istore (lv' := [(6, .int v4), (5, .int 3), (0, .ref (kB G + 0)), (1, .int v1), (2, .int v2), (3, .int v3), (4, .int v4)]) X dX0_smallest_37 (Nat.le_of_ble_eq_true rfl) rfl ?_
      refine r_sub [2, 3, 4, 5, 6, 1, 0] rfl ?_
      obtain ⟨n4, h⟩ := h
      exact tl_X0_smallest_39 X hph Q (l_X0_smallest_20 G Q v1 v3 n) v1 v2 v3 v4 ih n4 3 v4 s h
theorem e_X0_smallest {x : CT} {G : GT} (X : Cx x G cX0_smallest 7 RX0 (some .int) rm_X0_smallest) (hph : kP G = 1) (p1 : Int32) (s : PS) (Q : Int32 → PS → Prop) (h : w_X0_smallest G p1 s Q) : WB x G 7 (QfI x G 0 0 Q) 0 0 s 0 [(0, .ref (kB G + 0)), (1, .int p1)] [] := by
  unfold w_X0_smallest at h
  refine r_iload_n X 1 dX0_smallest_0 rfl rfl ?_
  refine r_iconst (v := 0) X dX0_smallest_1 rfl ?_
  refine r_iconst (v := 3) X dX0_smallest_2 rfl ?_
  refine r_ci X (r_okS (As := [.int p1, .int 0, .int 3]) (rest := []) X (m_X0_in (xl x) G X.2.2.2.2.1 p1 0 3 s _ h) (cl_X0_77 X ⟨(Nat.le_of_ble_eq_true rfl), (Nat.le_of_ble_eq_true rfl)⟩) rfl rfl (Nat.le_of_ble_eq_true rfl) dX0_smallest_3 ⟨Nat.le_of_ble_eq_true rfl, Nat.le_of_ble_eq_true rfl⟩) (fun r2 s1 h => ?_)
  obtain ⟨z3, h⟩ := h
  refine r_if_ne X 12 dX0_smallest_6 (by decide) (fun c4 => ?_) (fun c4 => ?_)
  · replace h := h.2 c4
    refine r_iconst (v := (-1)) X dX0_smallest_12 rfl ?_
    refine r_istore_n (lv' := [(2, .int (-1)), (0, .ref (kB G + 0)), (1, .int p1)]) X dX0_smallest_13 rfl (Nat.le_of_ble_eq_true rfl) rfl ?_
    refine r_bipush (v := 7) X dX0_smallest_14 rfl ?_
    refine r_istore_n (lv' := [(3, .int 7), (2, .int (-1)), (0, .ref (kB G + 0)), (1, .int p1)]) X dX0_smallest_16 rfl (Nat.le_of_ble_eq_true rfl) rfl ?_
    refine r_iconst (v := 0) X dX0_smallest_17 rfl ?_
    refine r_istore (lv' := [(4, .int 0), (3, .int 7), (2, .int (-1)), (0, .ref (kB G + 0)), (1, .int p1)]) X dX0_smallest_18 (Nat.le_of_ble_eq_true rfl) rfl ?_
    refine r_sub [3, 4, 2, 1, 0] rfl ?_
    obtain ⟨n5, h⟩ := h
    exact tl_X0_smallest_20 X hph Q p1 7 n5 (-1) 0 s1 h
  · replace h := h.1 c4
    refine r_bipush (v := (-100)) X dX0_smallest_9 rfl ?_
    exact r_iret X h (Nat.le_of_ble_eq_true rfl) (Nat.le_of_ble_eq_true rfl) dX0_smallest_11
theorem m_X0_smallest (l : Launch) (G : GT) (g : GK G) (hph : kP G = 1) (p1 : Int32) (s : PS) (Q : Int32 → PS → Prop) (h : w_X0_smallest G p1 s Q) : Met l yX0_smallest (ws_ yX0_smallest cX0_smallest 7 (some .int)) rm_X0_smallest (va_Pc [.ref (kB G + 0), .int p1] (Wr G s)) (va_Qi Q (fun u t => Wr G u t) (kF G)) 0 0 (kF G) := by
  refine Met.ofW (cc := cX0_smallest) (maxL := 7) (ret := (some .int)) (by decide) rfl ?_
  intro p e s0 m args below meth c s₁ B hml hv
  obtain ⟨rfl, hw⟩ := hv
  exact wb_of [.ref (kB G + 0), .int p1] (Nat.le_of_ble_eq_true rfl) hw.1 rfl (e_X0_smallest (cx_of g B hml rfl hw) hph p1 s Q h)
theorem tb_X0_alike_106 {x : CT} {G : GT} (X : Cx x G cX0_alike 7 RX0 (some .int) rm_X0_alike) (hph : kP G = 1) (Q : Int32 → PS → Prop) (K5 : Int32 → Int32 → PS → Prop) (v1 : Int32) (v2 : Int32) (v3 : Int32) (v4 : Int32) (v5 : Int32) (s : PS) (hK5 : ∀ (v3' : Int32) (v4' : Int32) (s' : PS), K5 v3' v4' s' → WB x G 7 (QfI x G 0 0 Q) 0 0 s' 5 [(0, .ref (kB G + 0)), (1, .int v1), (2, .int v2), (3, .int v3'), (4, .int v4')] []) (h : b_X0_alike_106 G Q K5 v1 v2 v3 v4 v5 s) : WB x G 7 (QfI x G 0 0 Q) 0 0 s 106 [(0, .ref (kB G + 0)), (1, .int v1), (2, .int v2), (3, .int v3), (4, .int v4), (5, .int v5)] [] := by
  unfold b_X0_alike_106 at h
  refine r_iload_n X 3 dX0_alike_106 rfl rfl ?_
  refine r_iload X 5 dX0_alike_107 rfl ?_
  refine r_mmax X q1182 q726 q150 q727 (Nat.le_of_ble_eq_true rfl) (Nat.le_of_ble_eq_true rfl) (Nat.le_of_ble_eq_true rfl) ⟨Nat.le_of_ble_eq_true rfl, Nat.le_of_ble_eq_true rfl⟩ dX0_alike_109 ?_
  refine r_nmI (fun y1 e2 => ?_)
  replace h := h y1 e2
  refine r_istore_n (lv' := [(3, .int y1), (0, .ref (kB G + 0)), (1, .int v1), (2, .int v2), (4, .int v4), (5, .int v5)]) X dX0_alike_112 rfl (Nat.le_of_ble_eq_true rfl) rfl ?_
  refine r_iinc (lv' := [(4, .int (v4 + 1)), (3, .int y1), (0, .ref (kB G + 0)), (1, .int v1), (2, .int v2), (5, .int v5)]) X 4 dX0_alike_113 rfl rfl (Nat.le_of_ble_eq_true rfl) rfl ?_
  refine r_goto X 5 dX0_alike_116 (by decide) ?_
  refine r_sub [2, 3, 4, 1, 0] rfl ?_
  exact hK5 y1 (v4 + 1) s h
theorem tl_X0_alike_25 {x : CT} {G : GT} (X : Cx x G cX0_alike 7 RX0 (some .int) rm_X0_alike) (hph : kP G = 1) (Q : Int32 → PS → Prop) (K5 : Int32 → Int32 → PS → Prop) (v1 : Int32) (v2 : Int32) (v3 : Int32) (v4 : Int32) (hK5 : ∀ (v3' : Int32) (v4' : Int32) (s' : PS), K5 v3' v4' s' → WB x G 7 (QfI x G 0 0 Q) 0 0 s' 5 [(0, .ref (kB G + 0)), (1, .int v1), (2, .int v2), (3, .int v3'), (4, .int v4')] []) : ∀ (n : Nat) (v5 : Int32) (v6 : Int32) (s : PS) (h : l_X0_alike_25 G Q K5 v1 v2 v3 v4 n v5 v6 s), WB x G 7 (QfI x G 0 0 Q) 0 0 s 25 [(0, .ref (kB G + 0)), (1, .int v1), (2, .int v2), (3, .int v3), (4, .int v4), (5, .int v5), (6, .int v6)] [] := by
  intro n
  induction n with
  | zero =>
    intro v5 v6 s h
    exact False.elim h
  | succ n ih =>
    intro v5 v6 s h
    unfold l_X0_alike_25 at h
    refine r_iload X 6 dX0_alike_25 rfl ?_
    refine r_aload_n X 0 dX0_alike_27 rfl rfl ?_
    refine gr_X0_12 X hph 0 0 1 ly_0 rfl rfl dX0_alike_28 ?_
    refine gr_X0_74 X hph 1 1 2 ly_1 rfl rfl dX0_alike_31 ?_
    refine r_iconst (v := 4) X dX0_alike_34 rfl ?_
    refine r_ialdL X hph 2 9 ly_2 tn_4 il_4_9 dX0_alike_35 ?_
    refine r_ic_ge X 106 dX0_alike_36 (by decide) (fun c1 => ?_) (fun c1 => ?_)
    · replace h := h.1 c1
      refine r_sub [0, 1, 2, 3, 4, 5] rfl ?_
      exact tb_X0_alike_106 X hph Q K5 v1 v2 v3 v4 v5 s hK5 h
    · replace h := h.2 c1
      refine r_iload_n X 1 dX0_alike_39 rfl rfl ?_
      refine r_iload X 4 dX0_alike_40 rfl ?_
      refine r_ci X (r_okS (As := [.int v1, .int v4]) (rest := []) X (m_X0_has (xl x) G X.2.2.2.2.1 v1 v4 s _ h) (cl_X0_174 X ⟨(Nat.le_of_ble_eq_true rfl), (Nat.le_of_ble_eq_true rfl)⟩) rfl rfl (Nat.le_of_ble_eq_true rfl) dX0_alike_42 ⟨Nat.le_of_ble_eq_true rfl, Nat.le_of_ble_eq_true rfl⟩) (fun r3 s2 h => ?_)
      obtain ⟨z4, h⟩ := h
      refine r_if_eq X 106 dX0_alike_45 (by decide) (fun c5 => ?_) (fun c5 => ?_)
      · replace h := h.1 c5
        refine r_sub [0, 1, 2, 3, 4, 5] rfl ?_
        exact tb_X0_alike_106 X hph Q K5 v1 v2 v3 v4 v5 s2 hK5 h
      · replace h := h.2 c5
        refine r_iload X 5 dX0_alike_48 rfl ?_
        refine r_iload_n X 1 dX0_alike_50 rfl rfl ?_
        refine r_iload X 6 dX0_alike_51 rfl ?_
        refine r_ci X (r_okS (As := [.int v1, .int v6]) (rest := [.int v5]) X (m_X0_has (xl x) G X.2.2.2.2.1 v1 v6 s2 _ h) (cl_X0_174 X ⟨(Nat.le_of_ble_eq_true rfl), (Nat.le_of_ble_eq_true rfl)⟩) rfl rfl (Nat.le_of_ble_eq_true rfl) dX0_alike_53 ⟨Nat.le_of_ble_eq_true rfl, Nat.le_of_ble_eq_true rfl⟩) (fun r7 s6 h => ?_)
        obtain ⟨z8, h⟩ := h
        refine r_if_eq X 96 dX0_alike_56 (by decide) (fun c9 => ?_) (fun c9 => ?_)
        · replace h := h.1 c9
          refine r_iconst (v := 0) X dX0_alike_96 rfl ?_
          refine r_iadd X dX0_alike_97 ?_
          refine r_nmI (fun y10 e11 => ?_)
          replace h := h y10 e11
          refine r_istore (lv' := [(5, .int y10), (0, .ref (kB G + 0)), (1, .int v1), (2, .int v2), (3, .int v3), (4, .int v4), (6, .int v6)]) X dX0_alike_98 (Nat.le_of_ble_eq_true rfl) rfl ?_
          refine r_iinc (lv' := [(6, .int (v6 + 1)), (5, .int y10), (0, .ref (kB G + 0)), (1, .int v1), (2, .int v2), (3, .int v3), (4, .int v4)]) X 6 dX0_alike_100 rfl rfl (Nat.le_of_ble_eq_true rfl) rfl ?_
          refine r_goto X 25 dX0_alike_103 (by decide) ?_
          refine r_sub [2, 3, 4, 5, 6, 1, 0] rfl ?_
          exact ih y10 (v6 + 1) s6 h
        · replace h := h.2 c9
          refine r_aload_n X 0 dX0_alike_59 rfl rfl ?_
          refine r_aload_n X 0 dX0_alike_60 rfl rfl ?_
          refine gr_X0_12 X hph 0 0 1 ly_0 rfl rfl dX0_alike_61 ?_
          refine gr_X0_115 X hph 1 1 78 ly_1 rfl rfl dX0_alike_64 ?_
          refine r_iload X 4 dX0_alike_67 rfl ?_
          obtain ⟨g12, h⟩ := h
          refine r_aaldL X hph 78 5 4 ly_78 (by decide) rfl g12 dX0_alike_69 ?_
          obtain ⟨q13, g14, h⟩ := h
          refine r_top (show va_rf (gR s6 (kB G + 78) v4.toNatClampNeg) = Value.ref q13 by rw [g14]; rfl) ?_
          refine r_iload_n X 2 dX0_alike_70 rfl rfl ?_
          refine r_ci X (r_okVL (As := [.ref q13, .int v2]) (rest := [.int v5]) X (m_X0_weightBy (xl x) G X.2.2.2.2.1 hph q13 v2 s6 _ h) (cl_X0_170 X ⟨(Nat.le_of_ble_eq_true rfl), (Nat.le_of_ble_eq_true rfl)⟩) hph 0 ly_0 rfl rfl rfl rfl (Nat.le_of_ble_eq_true rfl) dX0_alike_71 ⟨Nat.le_of_ble_eq_true rfl, Nat.le_of_ble_eq_true rfl⟩) (fun r16 s15 h => ?_)
          refine r_aload_n X 0 dX0_alike_74 rfl rfl ?_
          refine r_aload_n X 0 dX0_alike_75 rfl rfl ?_
          refine gr_X0_12 X hph 0 0 1 ly_0 rfl rfl dX0_alike_76 ?_
          refine gr_X0_115 X hph 1 1 78 ly_1 rfl rfl dX0_alike_79 ?_
          refine r_iload X 6 dX0_alike_82 rfl ?_
          obtain ⟨g17, h⟩ := h
          refine r_aaldL X hph 78 5 4 ly_78 (by decide) rfl g17 dX0_alike_84 ?_
          obtain ⟨q18, g19, h⟩ := h
          refine r_top (show va_rf (gR s15 (kB G + 78) v6.toNatClampNeg) = Value.ref q18 by rw [g19]; rfl) ?_
          refine r_iload_n X 2 dX0_alike_85 rfl rfl ?_
          refine r_ci X (r_okVL (As := [.ref q18, .int v2]) (rest := [.int r16, .int v5]) X (m_X0_weightBy (xl x) G X.2.2.2.2.1 hph q18 v2 s15 _ h) (cl_X0_170 X ⟨(Nat.le_of_ble_eq_true rfl), (Nat.le_of_ble_eq_true rfl)⟩) hph 0 ly_0 rfl rfl rfl rfl (Nat.le_of_ble_eq_true rfl) dX0_alike_86 ⟨Nat.le_of_ble_eq_true rfl, Nat.le_of_ble_eq_true rfl⟩) (fun r21 s20 h => ?_)
          have hJ : WB x G 7 (QfI x G 0 0 Q) 0 0 s20 97 [(0, .ref (kB G + 0)), (1, .int v1), (2, .int v2), (3, .int v3), (4, .int v4), (5, .int v5), (6, .int v6)] [.int (if r16 = r21 then 1 else 0 : Int32), .int v5] := by
            refine r_iadd X dX0_alike_97 ?_
            refine r_nmI (fun y23 e24 => ?_)
            replace h := h y23 e24
            refine r_istore (lv' := [(5, .int y23), (0, .ref (kB G + 0)), (1, .int v1), (2, .int v2), (3, .int v3), (4, .int v4), (6, .int v6)]) X dX0_alike_98 (Nat.le_of_ble_eq_true rfl) rfl ?_
            refine r_iinc (lv' := [(6, .int (v6 + 1)), (5, .int y23), (0, .ref (kB G + 0)), (1, .int v1), (2, .int v2), (3, .int v3), (4, .int v4)]) X 6 dX0_alike_100 rfl rfl (Nat.le_of_ble_eq_true rfl) rfl ?_
            refine r_goto X 25 dX0_alike_103 (by decide) ?_
            refine r_sub [2, 3, 4, 5, 6, 1, 0] rfl ?_
            exact ih y23 (v6 + 1) s20 h
          refine r_ic_ne X 96 dX0_alike_89 (by decide) (fun c22 => ?_) (fun c22 => ?_)
          · rw [if_neg c22] at hJ
            refine r_iconst (v := 0) X dX0_alike_96 rfl ?_
            exact hJ
          · rw [if_pos c22] at hJ
            refine r_iconst (v := 1) X dX0_alike_92 rfl ?_
            refine r_goto X 97 dX0_alike_93 (by decide) ?_
            exact hJ
theorem tl_X0_alike_5 {x : CT} {G : GT} (X : Cx x G cX0_alike 7 RX0 (some .int) rm_X0_alike) (hph : kP G = 1) (Q : Int32 → PS → Prop) (v1 : Int32) (v2 : Int32) : ∀ (n : Nat) (v3 : Int32) (v4 : Int32) (s : PS) (h : l_X0_alike_5 G Q v1 v2 n v3 v4 s), WB x G 7 (QfI x G 0 0 Q) 0 0 s 5 [(0, .ref (kB G + 0)), (1, .int v1), (2, .int v2), (3, .int v3), (4, .int v4)] [] := by
  intro n
  induction n with
  | zero =>
    intro v3 v4 s h
    exact False.elim h
  | succ n ih =>
    intro v3 v4 s h
    unfold l_X0_alike_5 at h
    refine r_iload X 4 dX0_alike_5 rfl ?_
    refine r_aload_n X 0 dX0_alike_7 rfl rfl ?_
    refine gr_X0_12 X hph 0 0 1 ly_0 rfl rfl dX0_alike_8 ?_
    refine gr_X0_74 X hph 1 1 2 ly_1 rfl rfl dX0_alike_11 ?_
    refine r_iconst (v := 4) X dX0_alike_14 rfl ?_
    refine r_ialdL X hph 2 9 ly_2 tn_4 il_4_9 dX0_alike_15 ?_
    refine r_ic_ge X 119 dX0_alike_16 (by decide) (fun c1 => ?_) (fun c1 => ?_)
    · replace h := h.1 c1
      refine r_iload_n X 3 dX0_alike_119 rfl rfl ?_
      exact r_iret X h (Nat.le_of_ble_eq_true rfl) (Nat.le_of_ble_eq_true rfl) dX0_alike_120
    · replace h := h.2 c1
      refine r_iconst (v := 0) X dX0_alike_19 rfl ?_
      refine r_istore (lv' := [(5, .int 0), (0, .ref (kB G + 0)), (1, .int v1), (2, .int v2), (3, .int v3), (4, .int v4)]) X dX0_alike_20 (Nat.le_of_ble_eq_true rfl) rfl ?_
      refine r_iconst (v := 0) X dX0_alike_22 rfl ?_
      refine r_istore (lv' := [(6, .int 0), (5, .int 0), (0, .ref (kB G + 0)), (1, .int v1), (2, .int v2), (3, .int v3), (4, .int v4)]) X dX0_alike_23 (Nat.le_of_ble_eq_true rfl) rfl ?_
      refine r_sub [2, 3, 4, 5, 6, 1, 0] rfl ?_
      obtain ⟨n2, h⟩ := h
      exact tl_X0_alike_25 X hph Q (l_X0_alike_5 G Q v1 v2 n) v1 v2 v3 v4 ih n2 0 0 s h
theorem e_X0_alike {x : CT} {G : GT} (X : Cx x G cX0_alike 7 RX0 (some .int) rm_X0_alike) (hph : kP G = 1) (p1 : Int32) (p2 : Int32) (s : PS) (Q : Int32 → PS → Prop) (h : w_X0_alike G p1 p2 s Q) : WB x G 7 (QfI x G 0 0 Q) 0 0 s 0 [(0, .ref (kB G + 0)), (1, .int p1), (2, .int p2)] [] := by
  unfold w_X0_alike at h
  refine r_iconst (v := 0) X dX0_alike_0 rfl ?_
  refine r_istore_n (lv' := [(3, .int 0), (0, .ref (kB G + 0)), (1, .int p1), (2, .int p2)]) X dX0_alike_1 rfl (Nat.le_of_ble_eq_true rfl) rfl ?_
  refine r_iconst (v := 0) X dX0_alike_2 rfl ?_
  refine r_istore (lv' := [(4, .int 0), (3, .int 0), (0, .ref (kB G + 0)), (1, .int p1), (2, .int p2)]) X dX0_alike_3 (Nat.le_of_ble_eq_true rfl) rfl ?_
  refine r_sub [2, 3, 4, 1, 0] rfl ?_
  obtain ⟨n1, h⟩ := h
  exact tl_X0_alike_5 X hph Q p1 p2 n1 0 0 s h
theorem m_X0_alike (l : Launch) (G : GT) (g : GK G) (hph : kP G = 1) (p1 : Int32) (p2 : Int32) (s : PS) (Q : Int32 → PS → Prop) (h : w_X0_alike G p1 p2 s Q) : Met l yX0_alike (ws_ yX0_alike cX0_alike 7 (some .int)) rm_X0_alike (va_Pc [.ref (kB G + 0), .int p1, .int p2] (Wr G s)) (va_Qi Q (fun u t => Wr G u t) (kF G)) 0 0 (kF G) := by
  refine Met.ofW (cc := cX0_alike) (maxL := 7) (ret := (some .int)) (by decide) rfl ?_
  intro p e s0 m args below meth c s₁ B hml hv
  obtain ⟨rfl, hw⟩ := hv
  exact wb_of [.ref (kB G + 0), .int p1, .int p2] (Nat.le_of_ble_eq_true rfl) hw.1 rfl (e_X0_alike (cx_of g B hml rfl hw) hph p1 p2 s Q h)
theorem tl_X0_tells_12 {x : CT} {G : GT} (X : Cx x G cX0_tells 6 RX0 (some .int) rm_X0_tells) (hph : kP G = 1) (Q : Int32 → PS → Prop) (v1 : Int32) : ∀ (n : Nat) (v2 : Int32) (v3 : Int32) (v4 : Int32) (s : PS) (h : l_X0_tells_12 G Q v1 n v2 v3 v4 s), WB x G 6 (QfI x G 0 0 Q) 0 0 s 12 [(0, .ref (kB G + 0)), (1, .int v1), (2, .int v2), (3, .int v3), (4, .int v4)] [] := by
  intro n
  induction n with
  | zero =>
    intro v2 v3 v4 s h
    exact False.elim h
  | succ n ih =>
    intro v2 v3 v4 s h
    unfold l_X0_tells_12 at h
    refine r_iload X 4 dX0_tells_12 rfl ?_
    refine r_aload_n X 0 dX0_tells_14 rfl rfl ?_
    refine gr_X0_12 X hph 0 0 1 ly_0 rfl rfl dX0_tells_15 ?_
    refine gr_X0_74 X hph 1 1 2 ly_1 rfl rfl dX0_tells_18 ?_
    refine r_iconst (v := 1) X dX0_tells_21 rfl ?_
    refine r_ialdL X hph 2 9 ly_2 tn_1 il_1_9 dX0_tells_22 ?_
    refine r_ic_ge X 60 dX0_tells_23 (by decide) (fun c1 => ?_) (fun c1 => ?_)
    · replace h := h.1 c1
      refine r_iload_n X 2 dX0_tells_60 rfl rfl ?_
      exact r_iret X h (Nat.le_of_ble_eq_true rfl) (Nat.le_of_ble_eq_true rfl) dX0_tells_61
    · replace h := h.2 c1
      refine r_iload_n X 1 dX0_tells_26 rfl rfl ?_
      refine r_if_eq X 60 dX0_tells_27 (by decide) (fun c2 => ?_) (fun c2 => ?_)
      · replace h := h.1 c2
        refine r_iload_n X 2 dX0_tells_60 rfl rfl ?_
        exact r_iret X h (Nat.le_of_ble_eq_true rfl) (Nat.le_of_ble_eq_true rfl) dX0_tells_61
      · replace h := h.2 c2
        refine r_aload_n X 0 dX0_tells_30 rfl rfl ?_
        refine r_iload_n X 1 dX0_tells_31 rfl rfl ?_
        refine r_iload X 4 dX0_tells_32 rfl ?_
        refine r_ci X (r_okVL (As := [.int v1, .int v4]) (rest := []) X (m_X0_alike (xl x) G X.2.2.2.2.1 hph v1 v4 s _ h) (cl_X0_421 X ⟨(Nat.le_of_ble_eq_true rfl), (Nat.le_of_ble_eq_true rfl)⟩) hph 0 ly_0 rfl rfl rfl rfl (Nat.le_of_ble_eq_true rfl) dX0_tells_34 ⟨Nat.le_of_ble_eq_true rfl, Nat.le_of_ble_eq_true rfl⟩) (fun r4 s3 h => ?_)
        refine r_istore (lv' := [(5, .int r4), (0, .ref (kB G + 0)), (1, .int v1), (2, .int v2), (3, .int v3), (4, .int v4)]) X dX0_tells_37 (Nat.le_of_ble_eq_true rfl) rfl ?_
        refine r_iload X 0 dX0_tells_39 rfl ?_
        refine r_iload_n X 4 dX0_tells_41 rfl rfl ?_
        refine r_ic_lt X 48 dX0_tells_42 (by decide) (fun c5 => ?_) (fun c5 => ?_)
        · replace h := h.1 c5
          refine r_iload X 0 dX0_tells_48 rfl ?_
          refine r_istore_n (lv' := [(3, .int r4), (5, .int r4), (0, .ref (kB G + 0)), (1, .int v1), (2, .int v2), (4, .int v4)]) X dX0_tells_50 rfl (Nat.le_of_ble_eq_true rfl) rfl ?_
          refine r_iload X 5 dX0_tells_51 rfl ?_
          refine r_istore_n (lv' := [(2, .int v4), (3, .int r4), (5, .int r4), (0, .ref (kB G + 0)), (1, .int v1), (4, .int v4)]) X dX0_tells_53 rfl (Nat.le_of_ble_eq_true rfl) rfl ?_
          refine r_iinc (lv' := [(4, .int (v4 + 1)), (2, .int v4), (3, .int r4), (5, .int r4), (0, .ref (kB G + 0)), (1, .int v1)]) X 5 dX0_tells_54 rfl rfl (Nat.le_of_ble_eq_true rfl) rfl ?_
          refine r_goto X 12 dX0_tells_57 (by decide) ?_
          refine r_sub [4, 5, 1, 2, 0] rfl ?_
          exact ih v4 r4 (v4 + 1) s3 h
        · replace h := h.2 c5
          refine r_goto X 54 dX0_tells_45 (by decide) ?_
          refine r_iinc (lv' := [(4, .int (v4 + 1)), (5, .int r4), (0, .ref (kB G + 0)), (1, .int v1), (2, .int v2), (3, .int v3)]) X 5 dX0_tells_54 rfl rfl (Nat.le_of_ble_eq_true rfl) rfl ?_
          refine r_goto X 12 dX0_tells_57 (by decide) ?_
          refine r_sub [2, 3, 4, 5, 0] rfl ?_
          exact ih v2 v3 (v4 + 1) s3 h
theorem e_X0_tells {x : CT} {G : GT} (X : Cx x G cX0_tells 6 RX0 (some .int) rm_X0_tells) (hph : kP G = 1) (s : PS) (Q : Int32 → PS → Prop) (h : w_X0_tells G s Q) : WB x G 6 (QfI x G 0 0 Q) 0 0 s 0 [(0, .ref (kB G + 0))] [] := by
  unfold w_X0_tells at h
  refine r_aload_n X 0 dX0_tells_0 rfl rfl ?_
  refine r_ci X (r_okVL (As := []) (rest := []) X (m_X0_fit (xl x) G X.2.2.2.2.1 hph s _ h) (cl_X0_418 X ⟨(Nat.le_of_ble_eq_true rfl), (Nat.le_of_ble_eq_true rfl)⟩) hph 0 ly_0 rfl rfl rfl rfl (Nat.le_of_ble_eq_true rfl) dX0_tells_1 ⟨Nat.le_of_ble_eq_true rfl, Nat.le_of_ble_eq_true rfl⟩) (fun r2 s1 h => ?_)
  refine r_istore_n (lv' := [(1, .int r2), (0, .ref (kB G + 0))]) X dX0_tells_4 rfl (Nat.le_of_ble_eq_true rfl) rfl ?_
  refine r_iconst (v := (-1)) X dX0_tells_5 rfl ?_
  refine r_istore_n (lv' := [(2, .int (-1)), (1, .int r2), (0, .ref (kB G + 0))]) X dX0_tells_6 rfl (Nat.le_of_ble_eq_true rfl) rfl ?_
  refine r_iconst (v := 5) X dX0_tells_7 rfl ?_
  refine r_istore_n (lv' := [(3, .int 5), (2, .int (-1)), (1, .int r2), (0, .ref (kB G + 0))]) X dX0_tells_8 rfl (Nat.le_of_ble_eq_true rfl) rfl ?_
  refine r_iconst (v := 0) X dX0_tells_9 rfl ?_
  refine r_istore (lv' := [(4, .int 0), (3, .int 5), (2, .int (-1)), (1, .int r2), (0, .ref (kB G + 0))]) X dX0_tells_10 (Nat.le_of_ble_eq_true rfl) rfl ?_
  refine r_sub [4, 3, 2, 1, 0] rfl ?_
  obtain ⟨n3, h⟩ := h
  exact tl_X0_tells_12 X hph Q r2 n3 (-1) 5 0 s1 h
theorem m_X0_tells (l : Launch) (G : GT) (g : GK G) (hph : kP G = 1) (s : PS) (Q : Int32 → PS → Prop) (h : w_X0_tells G s Q) : Met l yX0_tells (ws_ yX0_tells cX0_tells 6 (some .int)) rm_X0_tells (va_Pc [.ref (kB G + 0)] (Wr G s)) (va_Qi Q (fun u t => Wr G u t) (kF G)) 0 0 (kF G) := by
  refine Met.ofW (cc := cX0_tells) (maxL := 6) (ret := (some .int)) (by decide) rfl ?_
  intro p e s0 m args below meth c s₁ B hml hv
  obtain ⟨rfl, hw⟩ := hv
  exact wb_of [.ref (kB G + 0)] (Nat.le_of_ble_eq_true rfl) hw.1 rfl (e_X0_tells (cx_of g B hml rfl hw) hph s Q h)
theorem e_X0_should {x : CT} {G : GT} (X : Cx x G cX0_should 2 RX0 (some .boolean) rm_X0_should) (hph : kP G = 1) (p1 : Int32) (s : PS) (Q : Int32 → PS → Prop) (h : w_X0_should G p1 s Q) : WB x G 2 (QfI x G 0 0 (fun r u => (r = 0 ∨ r = 1) ∧ Q r u)) 0 0 s 0 [(0, .ref (kB G + 0)), (1, .int p1)] [] := by
  unfold w_X0_should at h
  refine r_iload_n X 1 dX0_should_0 rfl rfl ?_
  refine r_iconst (v := 0) X dX0_should_1 rfl ?_
  refine r_aload_n X 0 dX0_should_2 rfl rfl ?_
  refine r_ci X (r_okVL (As := []) (rest := [.int 0, .int p1]) X (m_X0_allHearts (xl x) G X.2.2.2.2.1 hph s _ h) (cl_X0_98 X ⟨(Nat.le_of_ble_eq_true rfl), (Nat.le_of_ble_eq_true rfl)⟩) hph 0 ly_0 rfl rfl rfl rfl (Nat.le_of_ble_eq_true rfl) dX0_should_3 ⟨Nat.le_of_ble_eq_true rfl, Nat.le_of_ble_eq_true rfl⟩) (fun r2 s1 h => ?_)
  refine r_ci X (r_okS (As := [.int p1, .int 0, .int r2]) (rest := []) X (m_X0_in (xl x) G X.2.2.2.2.1 p1 0 r2 s1 _ h) (cl_X0_77 X ⟨(Nat.le_of_ble_eq_true rfl), (Nat.le_of_ble_eq_true rfl)⟩) rfl rfl (Nat.le_of_ble_eq_true rfl) dX0_should_6 ⟨Nat.le_of_ble_eq_true rfl, Nat.le_of_ble_eq_true rfl⟩) (fun r4 s3 h => ?_)
  obtain ⟨z5, h⟩ := h
  refine r_if_ne X 14 dX0_should_9 (by decide) (fun c6 => ?_) (fun c6 => ?_)
  · replace h := h.2 c6
    refine r_aload_n X 0 dX0_should_14 rfl rfl ?_
    refine gr_X0_12 X hph 0 0 1 ly_0 rfl rfl dX0_should_15 ?_
    refine gr_X0_74 X hph 1 1 2 ly_1 rfl rfl dX0_should_18 ?_
    refine r_bipush (v := 8) X dX0_should_21 rfl ?_
    refine r_iload_n X 1 dX0_should_23 rfl rfl ?_
    refine r_iastL X hph 2 9 ly_2 tn_8 il_8_9 dX0_should_24 (fun s7 e8 => ?_)
    replace h := h s7 e8
    refine r_iconst (v := 1) X dX0_should_25 rfl ?_
    exact r_zret X (Or.inr rfl) h (Nat.le_of_ble_eq_true rfl) (Nat.le_of_ble_eq_true rfl) dX0_should_26
  · replace h := h.1 c6
    refine r_iconst (v := 0) X dX0_should_12 rfl ?_
    exact r_zret X (Or.inl rfl) h (Nat.le_of_ble_eq_true rfl) (Nat.le_of_ble_eq_true rfl) dX0_should_13
theorem m_X0_should (l : Launch) (G : GT) (g : GK G) (hph : kP G = 1) (p1 : Int32) (s : PS) (Q : Int32 → PS → Prop) (h : w_X0_should G p1 s Q) : Met l yX0_should (ws_ yX0_should cX0_should 2 (some .boolean)) rm_X0_should (va_Pc [.ref (kB G + 0), .int p1] (Wr G s)) (va_Qi (fun r u => (r = 0 ∨ r = 1) ∧ Q r u) (fun u t => Wr G u t) (kF G)) 0 0 (kF G) := by
  refine Met.ofW (cc := cX0_should) (maxL := 2) (ret := (some .boolean)) (by decide) rfl ?_
  intro p e s0 m args below meth c s₁ B hml hv
  obtain ⟨rfl, hw⟩ := hv
  exact wb_of [.ref (kB G + 0), .int p1] (Nat.le_of_ble_eq_true rfl) hw.1 rfl (e_X0_should (cx_of g B hml rfl hw) hph p1 s Q h)
theorem tl_X0_featherForAll_57 {x : CT} {G : GT} (X : Cx x G cX0_featherForAll 8 RX0 (some .int) rm_X0_featherForAll) (hph : kP G = 1) (Q : Int32 → PS → Prop) (K43 : Int32 → Int32 → Int32 → PS → Prop) (v1 : Int32) (v2 : Nat) (v3 : Int32) (v4 : Int32) (v5 : Int32) (hK43 : ∀ (v3' : Int32) (v4' : Int32) (v5' : Int32) (s' : PS), K43 v3' v4' v5' s' → WB x G 8 (QfI x G 1 6 Q) 1 6 s' 43 [(0, .ref (kB G + 0)), (1, .int v1), (2, .ref v2), (3, .int v3'), (4, .int v4'), (5, .int v5')] []) : ∀ (n : Nat) (v6 : Int32) (v7 : Int32) (s : PS) (h : l_X0_featherForAll_57 G Q K43 v1 v2 v3 v4 v5 n v6 v7 s), WB x G 8 (QfI x G 1 6 Q) 1 6 s 57 [(0, .ref (kB G + 0)), (1, .int v1), (2, .ref v2), (3, .int v3), (4, .int v4), (5, .int v5), (6, .int v6), (7, .int v7)] [] := by
  intro n
  induction n with
  | zero =>
    intro v6 v7 s h
    exact False.elim h
  | succ n ih =>
    intro v6 v7 s h
    unfold l_X0_featherForAll_57 at h
    refine r_iload X 7 dX0_featherForAll_57 rfl ?_
    refine r_aload_n X 0 dX0_featherForAll_59 rfl rfl ?_
    refine gr_X0_12 X hph 0 0 1 ly_0 rfl rfl dX0_featherForAll_60 ?_
    refine gr_X0_74 X hph 1 1 2 ly_1 rfl rfl dX0_featherForAll_63 ?_
    refine r_iconst (v := 0) X dX0_featherForAll_66 rfl ?_
    refine r_ialdL X hph 2 9 ly_2 tn_0 il_0_9 dX0_featherForAll_67 ?_
    refine r_ic_ge X 119 dX0_featherForAll_68 (by decide) (fun c1 => ?_) (fun c1 => ?_)
    · replace h := h.1 c1
      refine r_iload X 6 dX0_featherForAll_119 rfl ?_
      refine r_iload X 4 dX0_featherForAll_121 rfl ?_
      refine r_ic_lt X 129 dX0_featherForAll_123 (by decide) (fun c2 => ?_) (fun c2 => ?_)
      · replace h := h.1 c2
        refine r_iload X 6 dX0_featherForAll_129 rfl ?_
        refine r_istore (lv' := [(4, .int v6), (0, .ref (kB G + 0)), (1, .int v1), (2, .ref v2), (3, .int v3), (5, .int v5), (6, .int v6), (7, .int v7)]) X dX0_featherForAll_131 (Nat.le_of_ble_eq_true rfl) rfl ?_
        refine r_iload X 5 dX0_featherForAll_133 rfl ?_
        refine r_istore_n (lv' := [(3, .int v5), (4, .int v6), (0, .ref (kB G + 0)), (1, .int v1), (2, .ref v2), (5, .int v5), (6, .int v6), (7, .int v7)]) X dX0_featherForAll_135 rfl (Nat.le_of_ble_eq_true rfl) rfl ?_
        refine r_iinc (lv' := [(5, .int (v5 + 1)), (3, .int v5), (4, .int v6), (0, .ref (kB G + 0)), (1, .int v1), (2, .ref v2), (6, .int v6), (7, .int v7)]) X 5 dX0_featherForAll_136 rfl rfl (Nat.le_of_ble_eq_true rfl) rfl ?_
        refine r_goto X 43 dX0_featherForAll_139 (by decide) ?_
        refine r_sub [3, 4, 5, 1, 2, 0] rfl ?_
        exact hK43 v5 v6 (v5 + 1) s h
      · replace h := h.2 c2
        refine r_goto X 136 dX0_featherForAll_126 (by decide) ?_
        refine r_iinc (lv' := [(5, .int (v5 + 1)), (0, .ref (kB G + 0)), (1, .int v1), (2, .ref v2), (3, .int v3), (4, .int v4), (6, .int v6), (7, .int v7)]) X 5 dX0_featherForAll_136 rfl rfl (Nat.le_of_ble_eq_true rfl) rfl ?_
        refine r_goto X 43 dX0_featherForAll_139 (by decide) ?_
        refine r_sub [1, 2, 3, 4, 5, 0] rfl ?_
        exact hK43 v3 v4 (v5 + 1) s h
    · replace h := h.2 c1
      refine r_iload X 6 dX0_featherForAll_71 rfl ?_
      refine r_aload_n X 2 dX0_featherForAll_73 rfl rfl ?_
      refine r_iload X 7 dX0_featherForAll_74 rfl ?_
      obtain ⟨g3, h⟩ := h
      obtain ⟨g4, h⟩ := h
      refine r_iald X g3 g4 dX0_featherForAll_76 ?_
      refine r_iload X 5 dX0_featherForAll_77 rfl ?_
      have hJ : WB x G 8 (QfI x G 1 6 Q) 1 6 s 87 [(0, .ref (kB G + 0)), (1, .int v1), (2, .ref v2), (3, .int v3), (4, .int v4), (5, .int v5), (6, .int v6), (7, .int v7)] [.int (if v5 < (gI s v2 (Int32.toNatClampNeg v7)) then 0 else 1 : Int32), .int v6] := by
        refine r_aload_n X 0 dX0_featherForAll_87 rfl rfl ?_
        refine gr_X0_12 X hph 0 0 1 ly_0 rfl rfl dX0_featherForAll_88 ?_
        refine gr_X0_74 X hph 1 1 2 ly_1 rfl rfl dX0_featherForAll_91 ?_
        refine r_bipush (v := 8) X dX0_featherForAll_94 rfl ?_
        refine r_ialdL X hph 2 9 ly_2 tn_8 il_8_9 dX0_featherForAll_96 ?_
        refine r_iload X 7 dX0_featherForAll_97 rfl ?_
        refine r_ci X (r_okS (As := [.int (gI s (kB G + 2) 8), .int v7]) (rest := [.int (if v5 < (gI s v2 (Int32.toNatClampNeg v7)) then 0 else 1 : Int32), .int v6]) X (m_X0_has (xl x) G X.2.2.2.2.1 (gI s (kB G + 2) 8) v7 s _ h) (cl_X0_174 X ⟨(Nat.le_of_ble_eq_true rfl), (Nat.le_of_ble_eq_true rfl)⟩) rfl rfl (Nat.le_of_ble_eq_true rfl) dX0_featherForAll_99 ⟨Nat.le_of_ble_eq_true rfl, Nat.le_of_ble_eq_true rfl⟩) (fun r7 s6 h => ?_)
        obtain ⟨z8, h⟩ := h
        have hJ : WB x G 8 (QfI x G 1 6 Q) 1 6 s6 110 [(0, .ref (kB G + 0)), (1, .int v1), (2, .ref v2), (3, .int v3), (4, .int v4), (5, .int v5), (6, .int v6), (7, .int v7)] [.int (if (if v5 < (gI s v2 (Int32.toNatClampNeg v7)) then 0 else 1 : Int32) = r7 then 0 else 1 : Int32), .int v6] := by
          refine r_iadd X dX0_featherForAll_110 ?_
          refine r_nmI (fun y10 e11 => ?_)
          replace h := h y10 e11
          refine r_istore (lv' := [(6, .int y10), (0, .ref (kB G + 0)), (1, .int v1), (2, .ref v2), (3, .int v3), (4, .int v4), (5, .int v5), (7, .int v7)]) X dX0_featherForAll_111 (Nat.le_of_ble_eq_true rfl) rfl ?_
          refine r_iinc (lv' := [(7, .int (v7 + 1)), (6, .int y10), (0, .ref (kB G + 0)), (1, .int v1), (2, .ref v2), (3, .int v3), (4, .int v4), (5, .int v5)]) X 7 dX0_featherForAll_113 rfl rfl (Nat.le_of_ble_eq_true rfl) rfl ?_
          refine r_goto X 57 dX0_featherForAll_116 (by decide) ?_
          refine r_sub [2, 3, 4, 5, 6, 7, 1, 0] rfl ?_
          exact ih y10 (v7 + 1) s6 h
        refine r_ic_ne X 109 dX0_featherForAll_102 (by decide) (fun c9 => ?_) (fun c9 => ?_)
        · rw [if_neg c9] at hJ
          refine r_iconst (v := 1) X dX0_featherForAll_109 rfl ?_
          exact hJ
        · rw [if_pos c9] at hJ
          refine r_iconst (v := 0) X dX0_featherForAll_105 rfl ?_
          refine r_goto X 110 dX0_featherForAll_106 (by decide) ?_
          exact hJ
      refine r_ic_gt X 86 dX0_featherForAll_79 (by decide) (fun c5 => ?_) (fun c5 => ?_)
      · rw [if_pos c5] at hJ
        refine r_iconst (v := 0) X dX0_featherForAll_86 rfl ?_
        exact hJ
      · rw [if_neg c5] at hJ
        refine r_iconst (v := 1) X dX0_featherForAll_82 rfl ?_
        refine r_goto X 87 dX0_featherForAll_83 (by decide) ?_
        exact hJ
theorem tl_X0_featherForAll_43 {x : CT} {G : GT} (X : Cx x G cX0_featherForAll 8 RX0 (some .int) rm_X0_featherForAll) (hph : kP G = 1) (Q : Int32 → PS → Prop) (v1 : Int32) (v2 : Nat) : ∀ (n : Nat) (v3 : Int32) (v4 : Int32) (v5 : Int32) (s : PS) (h : l_X0_featherForAll_43 G Q v1 v2 n v3 v4 v5 s), WB x G 8 (QfI x G 1 6 Q) 1 6 s 43 [(0, .ref (kB G + 0)), (1, .int v1), (2, .ref v2), (3, .int v3), (4, .int v4), (5, .int v5)] [] := by
  intro n
  induction n with
  | zero =>
    intro v3 v4 v5 s h
    exact False.elim h
  | succ n ih =>
    intro v3 v4 v5 s h
    unfold l_X0_featherForAll_43 at h
    refine r_iload X 5 dX0_featherForAll_43 rfl ?_
    refine r_sipush (v := 999) X dX0_featherForAll_45 rfl ?_
    refine r_ic_gt X 142 dX0_featherForAll_48 (by decide) (fun c1 => ?_) (fun c1 => ?_)
    · replace h := h.1 c1
      refine r_iload_n X 1 dX0_featherForAll_142 rfl rfl ?_
      have hJ : WB x G 8 (QfI x G 1 6 Q) 1 6 s 152 [(0, .ref (kB G + 0)), (1, .int v1), (2, .ref v2), (3, .int v3), (4, .int v4), (5, .int v5)] [.int (if v1 = 0 then v3 else v4 : Int32)] := by
        exact r_iret X h (Nat.le_of_ble_eq_true rfl) (Nat.le_of_ble_eq_true rfl) dX0_featherForAll_152
      refine r_if_eq X 151 dX0_featherForAll_143 (by decide) (fun c2 => ?_) (fun c2 => ?_)
      · rw [if_pos c2] at hJ
        refine r_iload_n X 3 dX0_featherForAll_151 rfl rfl ?_
        exact hJ
      · rw [if_neg c2] at hJ
        refine r_iload X 4 dX0_featherForAll_146 rfl ?_
        refine r_goto X 152 dX0_featherForAll_148 (by decide) ?_
        exact hJ
    · replace h := h.2 c1
      refine r_iconst (v := 0) X dX0_featherForAll_51 rfl ?_
      refine r_istore (lv' := [(6, .int 0), (0, .ref (kB G + 0)), (1, .int v1), (2, .ref v2), (3, .int v3), (4, .int v4), (5, .int v5)]) X dX0_featherForAll_52 (Nat.le_of_ble_eq_true rfl) rfl ?_
      refine r_iconst (v := 0) X dX0_featherForAll_54 rfl ?_
      refine r_istore (lv' := [(7, .int 0), (6, .int 0), (0, .ref (kB G + 0)), (1, .int v1), (2, .ref v2), (3, .int v3), (4, .int v4), (5, .int v5)]) X dX0_featherForAll_55 (Nat.le_of_ble_eq_true rfl) rfl ?_
      refine r_sub [2, 3, 4, 5, 6, 7, 1, 0] rfl ?_
      obtain ⟨n3, h⟩ := h
      exact tl_X0_featherForAll_57 X hph Q (l_X0_featherForAll_43 G Q v1 v2 n) v1 v2 v3 v4 v5 ih n3 0 0 s h
theorem tl_X0_featherForAll_7 {x : CT} {G : GT} (X : Cx x G cX0_featherForAll 8 RX0 (some .int) rm_X0_featherForAll) (hph : kP G = 1) (Q : Int32 → PS → Prop) (v1 : Int32) (v2 : Nat) : ∀ (n : Nat) (v3 : Int32) (s : PS) (h : l_X0_featherForAll_7 G Q v1 v2 n v3 s), WB x G 8 (QfI x G 1 6 Q) 1 6 s 7 [(0, .ref (kB G + 0)), (1, .int v1), (2, .ref v2), (3, .int v3)] [] := by
  intro n
  induction n with
  | zero =>
    intro v3 s h
    exact False.elim h
  | succ n ih =>
    intro v3 s h
    unfold l_X0_featherForAll_7 at h
    refine r_iload_n X 3 dX0_featherForAll_7 rfl rfl ?_
    refine r_aload_n X 0 dX0_featherForAll_8 rfl rfl ?_
    refine gr_X0_12 X hph 0 0 1 ly_0 rfl rfl dX0_featherForAll_9 ?_
    refine gr_X0_74 X hph 1 1 2 ly_1 rfl rfl dX0_featherForAll_12 ?_
    refine r_iconst (v := 0) X dX0_featherForAll_15 rfl ?_
    refine r_ialdL X hph 2 9 ly_2 tn_0 il_0_9 dX0_featherForAll_16 ?_
    refine r_ic_ge X 34 dX0_featherForAll_17 (by decide) (fun c1 => ?_) (fun c1 => ?_)
    · replace h := h.1 c1
      refine r_iconst (v := 0) X dX0_featherForAll_34 rfl ?_
      refine r_istore_n (lv' := [(3, .int 0), (0, .ref (kB G + 0)), (1, .int v1), (2, .ref v2)]) X dX0_featherForAll_35 rfl (Nat.le_of_ble_eq_true rfl) rfl ?_
      refine r_bipush (v := 7) X dX0_featherForAll_36 rfl ?_
      refine r_istore (lv' := [(4, .int 7), (3, .int 0), (0, .ref (kB G + 0)), (1, .int v1), (2, .ref v2)]) X dX0_featherForAll_38 (Nat.le_of_ble_eq_true rfl) rfl ?_
      refine r_iconst (v := 0) X dX0_featherForAll_40 rfl ?_
      refine r_istore (lv' := [(5, .int 0), (4, .int 7), (3, .int 0), (0, .ref (kB G + 0)), (1, .int v1), (2, .ref v2)]) X dX0_featherForAll_41 (Nat.le_of_ble_eq_true rfl) rfl ?_
      refine r_sub [3, 4, 5, 2, 1, 0] rfl ?_
      obtain ⟨n2, h⟩ := h
      exact tl_X0_featherForAll_43 X hph Q v1 v2 n2 0 7 0 s h
    · replace h := h.2 c1
      refine r_aload_n X 2 dX0_featherForAll_20 rfl rfl ?_
      refine r_iload_n X 3 dX0_featherForAll_21 rfl rfl ?_
      refine r_aload_n X 0 dX0_featherForAll_22 rfl rfl ?_
      refine r_iload_n X 3 dX0_featherForAll_23 rfl rfl ?_
      refine r_ci X (r_okVL (As := [.int v3]) (rest := [.int v3, .ref v2]) X (m_X0_burdenOf (xl x) G X.2.2.2.2.1 hph v3 s _ h) (cl_X0_322 X ⟨(Nat.le_of_ble_eq_true rfl), (Nat.le_of_ble_eq_true rfl)⟩) hph 0 ly_0 rfl rfl rfl rfl (Nat.le_of_ble_eq_true rfl) dX0_featherForAll_24 ⟨Nat.le_of_ble_eq_true rfl, Nat.le_of_ble_eq_true rfl⟩) (fun r4 s3 h => ?_)
      obtain ⟨g5, h⟩ := h
      obtain ⟨g6, h⟩ := h
      obtain ⟨g7, h⟩ := h
      refine r_iast X g5 g6 g7 dX0_featherForAll_27 (fun s8 e9 => ?_)
      replace h := h s8 e9
      refine r_iinc (lv' := [(3, .int (v3 + 1)), (0, .ref (kB G + 0)), (1, .int v1), (2, .ref v2)]) X 3 dX0_featherForAll_28 rfl rfl (Nat.le_of_ble_eq_true rfl) rfl ?_
      refine r_goto X 7 dX0_featherForAll_31 (by decide) ?_
      refine r_sub [1, 2, 3, 0] rfl ?_
      exact ih (v3 + 1) s8 h
theorem e_X0_featherForAll {x : CT} {G : GT} (X : Cx x G cX0_featherForAll 8 RX0 (some .int) rm_X0_featherForAll) (hph : kP G = 1) (p1 : Int32) (s : PS) (Q : Int32 → PS → Prop) (h : w_X0_featherForAll G p1 s Q) : WB x G 8 (QfI x G 1 6 Q) 0 0 s 0 [(0, .ref (kB G + 0)), (1, .int p1)] [] := by
  unfold w_X0_featherForAll at h
  refine r_bipush (v := 6) X dX0_featherForAll_0 rfl ?_
  refine r_newa X 1 .int (by decide) rfl q224 tn_6 (by decide +kernel) (Nat.le_of_ble_eq_true rfl) ⟨Nat.le_of_ble_eq_true rfl, Nat.le_of_ble_eq_true rfl⟩ dX0_featherForAll_2 (fun z1 e2 w3 u4 s5 e6 => ?_)
  replace h := h z1 e2 w3 u4 s5 e6
  have g7 : gT s5 z1 = 1 := by rw [e6, gT_pNew, if_pos e2]
  refine r_astore_n (lv' := [(2, .ref z1), (0, .ref (kB G + 0)), (1, .int p1)]) X dX0_featherForAll_4 rfl (Nat.le_of_ble_eq_true rfl) rfl ?_
  refine r_iconst (v := 0) X dX0_featherForAll_5 rfl ?_
  refine r_istore_n (lv' := [(3, .int 0), (2, .ref z1), (0, .ref (kB G + 0)), (1, .int p1)]) X dX0_featherForAll_6 rfl (Nat.le_of_ble_eq_true rfl) rfl ?_
  refine r_sub [2, 3, 1, 0] rfl ?_
  obtain ⟨n8, h⟩ := h
  exact tl_X0_featherForAll_7 X hph Q p1 z1 n8 0 s5 h
theorem m_X0_featherForAll (l : Launch) (G : GT) (g : GK G) (hph : kP G = 1) (p1 : Int32) (s : PS) (Q : Int32 → PS → Prop) (h : w_X0_featherForAll G p1 s Q) : Met l yX0_featherForAll (ws_ yX0_featherForAll cX0_featherForAll 8 (some .int)) rm_X0_featherForAll (va_Pc [.ref (kB G + 0), .int p1] (Wr G s)) (va_Qi Q (fun u t => Wr G u t) (kF G)) 1 6 (kF G) := by
  refine Met.ofW (cc := cX0_featherForAll) (maxL := 8) (ret := (some .int)) (by decide) rfl ?_
  intro p e s0 m args below meth c s₁ B hml hv
  obtain ⟨rfl, hw⟩ := hv
  exact wb_of [.ref (kB G + 0), .int p1] (Nat.le_of_ble_eq_true rfl) hw.1 rfl (e_X0_featherForAll (cx_of g B hml rfl hw) hph p1 s Q h)
theorem tl_J14_fill_6 {x : CT} {G : GT} (X : Cx x G cJ14_fill 5 RJ14 none rm_J14_fill) (Q : PS → Prop) (v0 : Nat) (v1 : Int64) (v4 : Int32) : ∀ (n : Nat) (v3 : Int32) (s : PS) (h : l_J14_fill_6 G Q v0 v1 v4 n v3 s), WB x G 5 (QfV x G 0 0 Q) 0 0 s 6 [(0, .ref v0), (1, .long v1), (3, .int v3), (4, .int v4)] [] := by
  intro n
  induction n with
  | zero =>
    intro v3 s h
    exact False.elim h
  | succ n ih =>
    intro v3 s h
    unfold l_J14_fill_6 at h
    refine r_iload_n X 2 dJ14_fill_6 rfl rfl ?_
    refine r_iload X 3 dJ14_fill_7 rfl ?_
    refine r_ic_ge X 22 dJ14_fill_9 (by decide) (fun c1 => ?_) (fun c1 => ?_)
    · replace h := h.1 c1
      exact r_vret X h (Nat.le_of_ble_eq_true rfl) (Nat.le_of_ble_eq_true rfl) dJ14_fill_22
    · replace h := h.2 c1
      refine r_aload_n X 0 dJ14_fill_12 rfl rfl ?_
      refine r_iload_n X 2 dJ14_fill_13 rfl rfl ?_
      refine r_lload_n X 1 dJ14_fill_14 rfl rfl ?_
      obtain ⟨g2, h⟩ := h
      obtain ⟨g3, h⟩ := h
      obtain ⟨g4, h⟩ := h
      refine r_last X g2 g3 g4 dJ14_fill_15 (fun s5 e6 => ?_)
      replace h := h s5 e6
      refine r_iinc (lv' := [(3, .int (v3 + 1)), (0, .ref v0), (1, .long v1), (4, .int v4)]) X 2 dJ14_fill_16 rfl rfl (Nat.le_of_ble_eq_true rfl) rfl ?_
      refine r_goto X 6 dJ14_fill_19 (by decide) ?_
      refine r_sub [1, 2, 0, 3] rfl ?_
      exact ih (v3 + 1) s5 h
theorem e_J14_fill {x : CT} {G : GT} (X : Cx x G cJ14_fill 5 RJ14 none rm_J14_fill) (p1 : Nat) (p2 : Int64) (s : PS) (Q : PS → Prop) (h : w_J14_fill G p1 p2 s Q) : WB x G 5 (QfV x G 0 0 Q) 0 0 s 0 [(0, .ref p1), (1, .long p2)] [] := by
  unfold w_J14_fill at h
  refine r_iconst (v := 0) X dJ14_fill_0 rfl ?_
  refine r_istore_n (lv' := [(3, .int 0), (0, .ref p1), (1, .long p2)]) X dJ14_fill_1 rfl (Nat.le_of_ble_eq_true rfl) rfl ?_
  refine r_aload_n X 1 dJ14_fill_2 rfl rfl ?_
  obtain ⟨g1, h⟩ := h
  refine r_alen X (by rw [g1]; decide) (by rw [g1]; decide) dJ14_fill_3 ?_
  refine r_nmI (fun y2 e3 => ?_)
  replace h := h y2 e3
  refine r_istore (lv' := [(4, .int y2), (3, .int 0), (0, .ref p1), (1, .long p2)]) X dJ14_fill_4 (Nat.le_of_ble_eq_true rfl) rfl ?_
  refine r_sub [2, 3, 1, 0] rfl ?_
  obtain ⟨n4, h⟩ := h
  exact tl_J14_fill_6 X Q p1 p2 y2 n4 0 s h
theorem m_J14_fill (l : Launch) (G : GT) (g : GK G) (p1 : Nat) (p2 : Int64) (s : PS) (Q : PS → Prop) (h : w_J14_fill G p1 p2 s Q) : Met l yJ14_fill (ws_ yJ14_fill cJ14_fill 5 none) rm_J14_fill (va_Pc [.ref p1, .long p2] (Wr G s)) (va_Qv Q (fun u t => Wr G u t) (kF G)) 0 0 (kF G) := by
  refine Met.ofW (cc := cJ14_fill) (maxL := 5) (ret := none) (by decide) rfl ?_
  intro p e s0 m args below meth c s₁ B hml hv
  obtain ⟨rfl, hw⟩ := hv
  exact wb_of [.ref p1, .long p2] (Nat.le_of_ble_eq_true rfl) hw.1 rfl (e_J14_fill (cx_of g B hml rfl hw) p1 p2 s Q h)
theorem tb_X0_mostRight_70 {x : CT} {G : GT} (X : Cx x G cX0_mostRight 6 RX0 (some .long) rm_X0_mostRight) (hph : kP G = 1) (Q : Int64 → PS → Prop) (K17 : Int32 → PS → Prop) (K25 : Int32 → PS → Prop) (v1 : Int32) (v2 : Int32) (v3 : Int32) (v4 : Int32) (t0 : Nat) (t1 : Int32) (t2 : Int64) (t3 : Int64) (s : PS) (hK17 : ∀ (v3' : Int32) (s' : PS), K17 v3' s' → WB x G 6 (QfL x G 0 0 Q) 0 0 s' 17 [(0, .ref (kB G + 0)), (1, .int v1), (2, .int v2), (3, .int v3')] []) (hK25 : ∀ (v4' : Int32) (s' : PS), K25 v4' s' → WB x G 6 (QfL x G 0 0 Q) 0 0 s' 25 [(0, .ref (kB G + 0)), (1, .int v1), (2, .int v2), (3, .int v3), (4, .int v4')] []) (h : b_X0_mostRight_70 G Q K17 K25 v1 v2 v3 v4 t0 t1 t2 t3 s) : WB x G 6 (QfL x G 0 0 Q) 0 0 s 70 [(0, .ref (kB G + 0)), (1, .int v1), (2, .int v2), (3, .int v3), (4, .int v4)] [.long t3, .long t2, .int t1, .ref t0] := by
  unfold b_X0_mostRight_70 at h
  refine r_ladd X dX0_mostRight_70 ?_
  obtain ⟨g1, h⟩ := h
  obtain ⟨g2, h⟩ := h
  obtain ⟨g3, h⟩ := h
  refine r_last X g1 g2 g3 dX0_mostRight_71 (fun s4 e5 => ?_)
  replace h := h s4 e5
  refine r_iinc (lv' := [(4, .int (v4 + (-1))), (0, .ref (kB G + 0)), (1, .int v1), (2, .int v2), (3, .int v3)]) X 4 dX0_mostRight_72 rfl rfl (Nat.le_of_ble_eq_true rfl) rfl ?_
  refine r_goto X 25 dX0_mostRight_75 (by decide) ?_
  refine r_sub [1, 2, 3, 4, 0] rfl ?_
  exact hK25 (v4 + (-1)) s4 h
theorem tl_X0_mostRight_25 {x : CT} {G : GT} (X : Cx x G cX0_mostRight 6 RX0 (some .long) rm_X0_mostRight) (hph : kP G = 1) (Q : Int64 → PS → Prop) (K17 : Int32 → PS → Prop) (v1 : Int32) (v2 : Int32) (v3 : Int32) (hK17 : ∀ (v3' : Int32) (s' : PS), K17 v3' s' → WB x G 6 (QfL x G 0 0 Q) 0 0 s' 17 [(0, .ref (kB G + 0)), (1, .int v1), (2, .int v2), (3, .int v3')] []) : ∀ (n : Nat) (v4 : Int32) (s : PS) (h : l_X0_mostRight_25 G Q K17 v1 v2 v3 n v4 s), WB x G 6 (QfL x G 0 0 Q) 0 0 s 25 [(0, .ref (kB G + 0)), (1, .int v1), (2, .int v2), (3, .int v3), (4, .int v4)] [] := by
  intro n
  induction n with
  | zero =>
    intro v4 s h
    exact False.elim h
  | succ n ih =>
    intro v4 s h
    unfold l_X0_mostRight_25 at h
    refine r_iload X 4 dX0_mostRight_25 rfl ?_
    refine r_if_lt X 78 dX0_mostRight_27 (by decide) (fun c1 => ?_) (fun c1 => ?_)
    · replace h := h.1 c1
      refine r_iinc (lv' := [(3, .int (v3 + 1)), (0, .ref (kB G + 0)), (1, .int v1), (2, .int v2), (4, .int v4)]) X 3 dX0_mostRight_78 rfl rfl (Nat.le_of_ble_eq_true rfl) rfl ?_
      refine r_goto X 17 dX0_mostRight_81 (by decide) ?_
      refine r_sub [1, 2, 3, 0] rfl ?_
      exact hK17 (v3 + 1) s h
    · replace h := h.2 c1
      refine r_aload_n X 0 dX0_mostRight_30 rfl rfl ?_
      refine gr_X0_66 X hph 0 0 181 ly_0 rfl rfl dX0_mostRight_31 ?_
      refine r_iload X 4 dX0_mostRight_34 rfl ?_
      refine r_aload_n X 0 dX0_mostRight_36 rfl rfl ?_
      refine gr_X0_66 X hph 0 0 181 ly_0 rfl rfl dX0_mostRight_37 ?_
      refine r_iload X 4 dX0_mostRight_40 rfl ?_
      obtain ⟨g2, h⟩ := h
      refine r_laldL X hph 181 16 ly_181 rfl g2 dX0_mostRight_42 ?_
      refine r_iload_n X 1 dX0_mostRight_43 rfl rfl ?_
      refine r_i2l X dX0_mostRight_44 ?_
      refine r_lmul X dX0_mostRight_45 ?_
      refine r_iload X 4 dX0_mostRight_46 rfl ?_
      refine r_if_le X 69 dX0_mostRight_48 (by decide) (fun c3 => ?_) (fun c3 => ?_)
      · replace h := h.1 c3
        refine r_lconst (v := 0) X dX0_mostRight_69 rfl ?_
        exact tb_X0_mostRight_70 X hph Q K17 (l_X0_mostRight_25 G Q K17 v1 v2 v3 n) v1 v2 v3 v4 (kB G + 181) v4 ((gL s (kB G + 181) v4.toNatClampNeg) * v1.toInt64) 0 s hK17 ih h
      · replace h := h.2 c3
        refine r_aload_n X 0 dX0_mostRight_51 rfl rfl ?_
        refine gr_X0_66 X hph 0 0 181 ly_0 rfl rfl dX0_mostRight_52 ?_
        refine r_iload X 4 dX0_mostRight_55 rfl ?_
        refine r_iconst (v := 1) X dX0_mostRight_57 rfl ?_
        refine r_isub X dX0_mostRight_58 ?_
        obtain ⟨g4, h⟩ := h
        refine r_laldL X hph 181 16 ly_181 rfl g4 dX0_mostRight_59 ?_
        refine r_bipush (v := 10) X dX0_mostRight_60 rfl ?_
        refine r_iload_n X 1 dX0_mostRight_62 rfl rfl ?_
        refine r_isub X dX0_mostRight_63 ?_
        refine r_i2l X dX0_mostRight_64 ?_
        refine r_lmul X dX0_mostRight_65 ?_
        refine r_goto X 70 dX0_mostRight_66 (by decide) ?_
        exact tb_X0_mostRight_70 X hph Q K17 (l_X0_mostRight_25 G Q K17 v1 v2 v3 n) v1 v2 v3 v4 (kB G + 181) v4 ((gL s (kB G + 181) v4.toNatClampNeg) * v1.toInt64) ((gL s (kB G + 181) (v4 - 1).toNatClampNeg) * ((10 - v1).toInt64)) s hK17 ih h
theorem tl_X0_mostRight_93 {x : CT} {G : GT} (X : Cx x G cX0_mostRight 6 RX0 (some .long) rm_X0_mostRight) (hph : kP G = 1) (Q : Int64 → PS → Prop) (v2 : Int32) : ∀ (n : Nat) (v3 : Int64) (v5 : Int32) (s : PS) (h : l_X0_mostRight_93 G Q v2 n v3 v5 s), WB x G 6 (QfL x G 0 0 Q) 0 0 s 93 [(0, .ref (kB G + 0)), (2, .int v2), (3, .long v3), (5, .int v5)] [] := by
  intro n
  induction n with
  | zero =>
    intro v3 v5 s h
    exact False.elim h
  | succ n ih =>
    intro v3 v5 s h
    unfold l_X0_mostRight_93 at h
    refine r_iload X 3 dX0_mostRight_93 rfl ?_
    refine r_iload_n X 1 dX0_mostRight_95 rfl rfl ?_
    refine r_ic_gt X 115 dX0_mostRight_96 (by decide) (fun c1 => ?_) (fun c1 => ?_)
    · replace h := h.1 c1
      refine r_lload_n X 2 dX0_mostRight_115 rfl rfl ?_
      exact r_lret X h (Nat.le_of_ble_eq_true rfl) (Nat.le_of_ble_eq_true rfl) dX0_mostRight_116
    · replace h := h.2 c1
      refine r_lload_n X 2 dX0_mostRight_99 rfl rfl ?_
      refine r_aload_n X 0 dX0_mostRight_100 rfl rfl ?_
      refine gr_X0_66 X hph 0 0 181 ly_0 rfl rfl dX0_mostRight_101 ?_
      refine r_iload X 3 dX0_mostRight_104 rfl ?_
      obtain ⟨g2, h⟩ := h
      refine r_laldL X hph 181 16 ly_181 rfl g2 dX0_mostRight_106 ?_
      refine r_ladd X dX0_mostRight_107 ?_
      refine r_nmL (fun y3 e4 => ?_)
      replace h := h y3 e4
      refine r_lstore_n (lv' := [(3, .long y3), (0, .ref (kB G + 0)), (2, .int v2), (5, .int v5)]) X dX0_mostRight_108 rfl (Nat.le_of_ble_eq_true rfl) rfl ?_
      refine r_iinc (lv' := [(5, .int (v5 + 1)), (3, .long y3), (0, .ref (kB G + 0)), (2, .int v2)]) X 3 dX0_mostRight_109 rfl rfl (Nat.le_of_ble_eq_true rfl) rfl ?_
      refine r_goto X 93 dX0_mostRight_112 (by decide) ?_
      refine r_sub [2, 3, 1, 0] rfl ?_
      exact ih y3 (v5 + 1) s h
theorem tl_X0_mostRight_17 {x : CT} {G : GT} (X : Cx x G cX0_mostRight 6 RX0 (some .long) rm_X0_mostRight) (hph : kP G = 1) (Q : Int64 → PS → Prop) (v1 : Int32) (v2 : Int32) : ∀ (n : Nat) (v3 : Int32) (s : PS) (h : l_X0_mostRight_17 G Q v1 v2 n v3 s), WB x G 6 (QfL x G 0 0 Q) 0 0 s 17 [(0, .ref (kB G + 0)), (1, .int v1), (2, .int v2), (3, .int v3)] [] := by
  intro n
  induction n with
  | zero =>
    intro v3 s h
    exact False.elim h
  | succ n ih =>
    intro v3 s h
    unfold l_X0_mostRight_17 at h
    refine r_iload_n X 3 dX0_mostRight_17 rfl rfl ?_
    refine r_iload_n X 2 dX0_mostRight_18 rfl rfl ?_
    refine r_ic_gt X 84 dX0_mostRight_19 (by decide) (fun c1 => ?_) (fun c1 => ?_)
    · replace h := h.1 c1
      refine r_lconst (v := 0) X dX0_mostRight_84 rfl ?_
      refine r_lstore_n (lv' := [(3, .long 0), (0, .ref (kB G + 0)), (1, .int v1), (2, .int v2)]) X dX0_mostRight_85 rfl (Nat.le_of_ble_eq_true rfl) rfl ?_
      refine r_iload_n X 3 dX0_mostRight_86 rfl rfl ?_
      refine r_iconst (v := 2) X dX0_mostRight_87 rfl ?_
      refine r_idiv X dX0_mostRight_88 (by decide) ?_
      refine r_iconst (v := 1) X dX0_mostRight_89 rfl ?_
      refine r_iadd X dX0_mostRight_90 ?_
      refine r_nmI (fun y2 e3 => ?_)
      replace h := h y2 e3
      refine r_istore (lv' := [(5, .int y2), (3, .long 0), (0, .ref (kB G + 0)), (1, .int v1), (2, .int v2)]) X dX0_mostRight_91 (Nat.le_of_ble_eq_true rfl) rfl ?_
      refine r_sub [2, 4, 1, 0] rfl ?_
      obtain ⟨n4, h⟩ := h
      exact tl_X0_mostRight_93 X hph Q v2 n4 0 y2 s h
    · replace h := h.2 c1
      refine r_iload_n X 3 dX0_mostRight_22 rfl rfl ?_
      refine r_istore (lv' := [(4, .int v3), (0, .ref (kB G + 0)), (1, .int v1), (2, .int v2), (3, .int v3)]) X dX0_mostRight_23 (Nat.le_of_ble_eq_true rfl) rfl ?_
      refine r_sub [1, 2, 3, 4, 0] rfl ?_
      obtain ⟨n5, h⟩ := h
      exact tl_X0_mostRight_25 X hph Q (l_X0_mostRight_17 G Q v1 v2 n) v1 v2 v3 ih n5 v3 s h
theorem e_X0_mostRight {x : CT} {G : GT} (X : Cx x G cX0_mostRight 6 RX0 (some .long) rm_X0_mostRight) (hph : kP G = 1) (p1 : Int32) (p2 : Int32) (s : PS) (Q : Int64 → PS → Prop) (h : w_X0_mostRight G p1 p2 s Q) : WB x G 6 (QfL x G 0 0 Q) 0 0 s 0 [(0, .ref (kB G + 0)), (1, .int p1), (2, .int p2)] [] := by
  unfold w_X0_mostRight at h
  refine r_aload_n X 0 dX0_mostRight_0 rfl rfl ?_
  refine gr_X0_66 X hph 0 0 181 ly_0 rfl rfl dX0_mostRight_1 ?_
  refine r_lconst (v := 0) X dX0_mostRight_4 rfl ?_
  refine r_cv X (r_okS (As := [.ref (kB G + 181), .long 0]) (rest := []) X (m_J14_fill (xl x) G X.2.2.2.2.1 (kB G + 181) 0 s _ h) (cl_X0_433 X ⟨(Nat.le_of_ble_eq_true rfl), (Nat.le_of_ble_eq_true rfl)⟩) rfl rfl (Nat.le_of_ble_eq_true rfl) dX0_mostRight_5 ⟨Nat.le_of_ble_eq_true rfl, Nat.le_of_ble_eq_true rfl⟩) (fun s1 h => ?_)
  refine r_aload_n X 0 dX0_mostRight_8 rfl rfl ?_
  refine gr_X0_66 X hph 0 0 181 ly_0 rfl rfl dX0_mostRight_9 ?_
  refine r_iconst (v := 0) X dX0_mostRight_12 rfl ?_
  refine r_lconst (v := 1) X dX0_mostRight_13 rfl ?_
  refine r_lastL X hph 181 16 ly_181 tn_0 il_0_16 dX0_mostRight_14 (fun s2 e3 => ?_)
  replace h := h s2 e3
  refine r_iconst (v := 1) X dX0_mostRight_15 rfl ?_
  refine r_istore_n (lv' := [(3, .int 1), (0, .ref (kB G + 0)), (1, .int p1), (2, .int p2)]) X dX0_mostRight_16 rfl (Nat.le_of_ble_eq_true rfl) rfl ?_
  refine r_sub [1, 2, 3, 0] rfl ?_
  obtain ⟨n4, h⟩ := h
  exact tl_X0_mostRight_17 X hph Q p1 p2 n4 1 s2 h
theorem m_X0_mostRight (l : Launch) (G : GT) (g : GK G) (hph : kP G = 1) (p1 : Int32) (p2 : Int32) (s : PS) (Q : Int64 → PS → Prop) (h : w_X0_mostRight G p1 p2 s Q) : Met l yX0_mostRight (ws_ yX0_mostRight cX0_mostRight 6 (some .long)) rm_X0_mostRight (va_Pc [.ref (kB G + 0), .int p1, .int p2] (Wr G s)) (va_Ql Q (fun u t => Wr G u t) (kF G)) 0 0 (kF G) := by
  refine Met.ofW (cc := cX0_mostRight) (maxL := 6) (ret := (some .long)) (by decide) rfl ?_
  intro p e s0 m args below meth c s₁ B hml hv
  obtain ⟨rfl, hw⟩ := hv
  exact wb_of [.ref (kB G + 0), .int p1, .int p2] (Nat.le_of_ble_eq_true rfl) hw.1 rfl (e_X0_mostRight (cx_of g B hml rfl hw) hph p1 p2 s Q h)
theorem e_X0_tens {x : CT} {G : GT} {d : Nat} (X : Cx x G cX0_tens 1 RX0 (some .long) (rS (d + 1))) (RC : Int32 → PS → (Int64 → PS → Prop) → Prop) (hRC : ∀ (p1 : Int32) (s : PS) (Q : Int64 → PS → Prop), RC p1 s Q → Met (xl x) yX0_tens (ws_ yX0_tens cX0_tens 1 (some .long)) (rS d) (va_Pc [.int p1] (Wr G s)) (va_Ql Q (fun u t => Wr G u t) (kF G)) 0 0 (kF G)) (p1 : Int32) (s : PS) (Q : Int64 → PS → Prop) (h : w_X0_tens G RC p1 s Q) : WB x G 1 (QfL x G 0 0 Q) 0 0 s 0 [(0, .int p1)] [] := by
  unfold w_X0_tens at h
  refine r_iload_n X 0 dX0_tens_0 rfl rfl ?_
  refine r_if_ne X 8 dX0_tens_1 (by decide) (fun c1 => ?_) (fun c1 => ?_)
  · replace h := h.2 c1
    refine r_ldc2 X q1308 dX0_tens_8 ?_
    refine r_iload_n X 0 dX0_tens_11 rfl rfl ?_
    refine r_iconst (v := 1) X dX0_tens_12 rfl ?_
    refine r_isub X dX0_tens_13 ?_
    refine r_cl X (r_okS (As := [.int (p1 - 1)]) (rest := [.long 10]) X (hRC (p1 - 1) s _ h) (cl_X0_429 (d := d) X ⟨(by simp only [rS] <;> omega), (by simp only [rS] <;> omega)⟩) rfl rfl (Nat.le_of_ble_eq_true rfl) dX0_tens_14 ⟨Nat.le_of_ble_eq_true rfl, Nat.le_of_ble_eq_true rfl⟩) (fun r3 s2 h => ?_)
    refine r_lmul X dX0_tens_17 ?_
    exact r_lret X h (Nat.le_of_ble_eq_true rfl) (Nat.le_of_ble_eq_true rfl) dX0_tens_18
  · replace h := h.1 c1
    refine r_lconst (v := 1) X dX0_tens_4 rfl ?_
    refine r_goto X 18 dX0_tens_5 (by decide) ?_
    exact r_lret X h (Nat.le_of_ble_eq_true rfl) (Nat.le_of_ble_eq_true rfl) dX0_tens_18
theorem m_X0_tens (l : Launch) (G : GT) (g : GK G) (d : Nat) (RC : Int32 → PS → (Int64 → PS → Prop) → Prop) (hRC : ∀ (p1 : Int32) (s : PS) (Q : Int64 → PS → Prop), RC p1 s Q → Met l yX0_tens (ws_ yX0_tens cX0_tens 1 (some .long)) (rS d) (va_Pc [.int p1] (Wr G s)) (va_Ql Q (fun u t => Wr G u t) (kF G)) 0 0 (kF G)) (p1 : Int32) (s : PS) (Q : Int64 → PS → Prop) (h : w_X0_tens G RC p1 s Q) : Met l yX0_tens (ws_ yX0_tens cX0_tens 1 (some .long)) (rS (d + 1)) (va_Pc [.int p1] (Wr G s)) (va_Ql Q (fun u t => Wr G u t) (kF G)) 0 0 (kF G) := by
  refine Met.ofW (cc := cX0_tens) (maxL := 1) (ret := (some .long)) (by decide) rfl ?_
  intro p e s0 m args below meth c s₁ B hml hv
  obtain ⟨rfl, hw⟩ := hv
  exact wb_of [.int p1] (Nat.le_of_ble_eq_true rfl) hw.1 rfl (e_X0_tens (cx_of g B hml rfl hw) RC hRC p1 s Q h)
theorem mr_X0_tens (l : Launch) (G : GT) (g : GK G) : ∀ (d : Nat) (p1 : Int32) (s : PS) (Q : Int64 → PS → Prop) (h : wr_X0_tens G d p1 s Q), Met l yX0_tens (ws_ yX0_tens cX0_tens 1 (some .long)) (rS d) (va_Pc [.int p1] (Wr G s)) (va_Ql Q (fun u t => Wr G u t) (kF G)) 0 0 (kF G) := by
  intro d
  induction d with
  | zero =>
    intro p1 s Q h
    exact False.elim h
  | succ d ih =>
    intro p1 s Q h
    exact m_X0_tens l G g d (wr_X0_tens G d) ih p1 s Q h
theorem e_X0_common {x : CT} {G : GT} {d : Nat} (X : Cx x G cX0_common 4 RX0 (some .long) (rS (d + 1))) (RC : Int64 → Int64 → PS → (Int64 → PS → Prop) → Prop) (hRC : ∀ (p1 : Int64) (p2 : Int64) (s : PS) (Q : Int64 → PS → Prop), RC p1 p2 s Q → Met (xl x) yX0_common (ws_ yX0_common cX0_common 4 (some .long)) (rS d) (va_Pc [.long p1, .long p2] (Wr G s)) (va_Ql Q (fun u t => Wr G u t) (kF G)) 0 0 (kF G)) (p1 : Int64) (p2 : Int64) (s : PS) (Q : Int64 → PS → Prop) (h : w_X0_common G RC p1 p2 s Q) : WB x G 4 (QfL x G 0 0 Q) 0 0 s 0 [(0, .long p1), (2, .long p2)] [] := by
  unfold w_X0_common at h
  refine r_lload_n X 1 dX0_common_0 rfl rfl ?_
  refine r_lconst (v := 0) X dX0_common_1 rfl ?_
  refine r_lcmp X dX0_common_2 ?_
  refine r_if_ne X 10 dX0_common_3 (by decide) (fun c1 => ?_) (fun c1 => ?_)
  · replace h := h.2 c1
    refine r_lload_n X 1 dX0_common_10 rfl rfl ?_
    refine r_lload_n X 0 dX0_common_11 rfl rfl ?_
    refine r_lload_n X 1 dX0_common_12 rfl rfl ?_
    obtain ⟨g2, h⟩ := h
    refine r_lrem X dX0_common_13 g2 ?_
    refine r_cl X (r_okS (As := [.long p2, .long (p1 - p1 / p2 * p2)]) (rest := []) X (hRC p2 (p1 - p1 / p2 * p2) s _ h) (cl_X0_424 (d := d) X ⟨(by simp only [rS] <;> omega), (by simp only [rS] <;> omega)⟩) rfl rfl (Nat.le_of_ble_eq_true rfl) dX0_common_14 ⟨Nat.le_of_ble_eq_true rfl, Nat.le_of_ble_eq_true rfl⟩) (fun r4 s3 h => ?_)
    exact r_lret X h (Nat.le_of_ble_eq_true rfl) (Nat.le_of_ble_eq_true rfl) dX0_common_17
  · replace h := h.1 c1
    refine r_lload_n X 0 dX0_common_6 rfl rfl ?_
    refine r_goto X 17 dX0_common_7 (by decide) ?_
    exact r_lret X h (Nat.le_of_ble_eq_true rfl) (Nat.le_of_ble_eq_true rfl) dX0_common_17
theorem m_X0_common (l : Launch) (G : GT) (g : GK G) (d : Nat) (RC : Int64 → Int64 → PS → (Int64 → PS → Prop) → Prop) (hRC : ∀ (p1 : Int64) (p2 : Int64) (s : PS) (Q : Int64 → PS → Prop), RC p1 p2 s Q → Met l yX0_common (ws_ yX0_common cX0_common 4 (some .long)) (rS d) (va_Pc [.long p1, .long p2] (Wr G s)) (va_Ql Q (fun u t => Wr G u t) (kF G)) 0 0 (kF G)) (p1 : Int64) (p2 : Int64) (s : PS) (Q : Int64 → PS → Prop) (h : w_X0_common G RC p1 p2 s Q) : Met l yX0_common (ws_ yX0_common cX0_common 4 (some .long)) (rS (d + 1)) (va_Pc [.long p1, .long p2] (Wr G s)) (va_Ql Q (fun u t => Wr G u t) (kF G)) 0 0 (kF G) := by
  refine Met.ofW (cc := cX0_common) (maxL := 4) (ret := (some .long)) (by decide) rfl ?_
  intro p e s0 m args below meth c s₁ B hml hv
  obtain ⟨rfl, hw⟩ := hv
  exact wb_of [.long p1, .long p2] (Nat.le_of_ble_eq_true rfl) hw.1 rfl (e_X0_common (cx_of g B hml rfl hw) RC hRC p1 p2 s Q h)
theorem mr_X0_common (l : Launch) (G : GT) (g : GK G) : ∀ (d : Nat) (p1 : Int64) (p2 : Int64) (s : PS) (Q : Int64 → PS → Prop) (h : wr_X0_common G d p1 p2 s Q), Met l yX0_common (ws_ yX0_common cX0_common 4 (some .long)) (rS d) (va_Pc [.long p1, .long p2] (Wr G s)) (va_Ql Q (fun u t => Wr G u t) (kF G)) 0 0 (kF G) := by
  intro d
  induction d with
  | zero =>
    intro p1 p2 s Q h
    exact False.elim h
  | succ d ih =>
    intro p1 p2 s Q h
    exact m_X0_common l G g d (wr_X0_common G d) ih p1 p2 s Q h
theorem e_X0_inLowest {x : CT} {G : GT} (X : Cx x G cX0_inLowest 7 RX0 (some .long) rm_X0_inLowest) (p1 : Int64) (p2 : Int64) (p3 : Int32) (s : PS) (Q : Int64 → PS → Prop) (h : w_X0_inLowest G p1 p2 p3 s Q) : WB x G 7 (QfL x G 0 0 Q) 0 0 s 0 [(0, .long p1), (2, .long p2), (4, .int p3)] [] := by
  unfold w_X0_inLowest at h
  refine r_lload_n X 1 dX0_inLowest_0 rfl rfl ?_
  refine r_lload_n X 0 dX0_inLowest_1 rfl rfl ?_
  obtain ⟨d1, g2, h⟩ := h
  refine r_cl X (r_okS (As := [.long p2, .long p1]) (rest := []) X (mr_X0_common (xl x) G X.2.2.2.2.1 d1 p2 p1 s _ h) (cl_X0_424 (d := d1) X ⟨(by simp only [rm_X0_inLowest, rS] <;> omega), (by simp only [rm_X0_inLowest, rS] <;> omega)⟩) rfl rfl (Nat.le_of_ble_eq_true rfl) dX0_inLowest_2 ⟨Nat.le_of_ble_eq_true rfl, Nat.le_of_ble_eq_true rfl⟩) (fun r4 s3 h => ?_)
  refine r_lstore (lv' := [(5, .long r4), (0, .long p1), (2, .long p2), (4, .int p3)]) X dX0_inLowest_5 (Nat.le_of_ble_eq_true rfl) rfl ?_
  refine r_iload X 3 dX0_inLowest_7 rfl ?_
  refine r_if_eq X 19 dX0_inLowest_9 (by decide) (fun c5 => ?_) (fun c5 => ?_)
  · replace h := h.1 c5
    refine r_lload_n X 1 dX0_inLowest_19 rfl rfl ?_
    refine r_lload X 0 dX0_inLowest_20 rfl ?_
    obtain ⟨g6, h⟩ := h
    refine r_ldiv X dX0_inLowest_22 g6 ?_
    exact r_lret X h (Nat.le_of_ble_eq_true rfl) (Nat.le_of_ble_eq_true rfl) dX0_inLowest_23
  · replace h := h.2 c5
    refine r_lload_n X 2 dX0_inLowest_12 rfl rfl ?_
    refine r_lload X 0 dX0_inLowest_13 rfl ?_
    obtain ⟨g7, h⟩ := h
    refine r_ldiv X dX0_inLowest_15 g7 ?_
    refine r_goto X 23 dX0_inLowest_16 (by decide) ?_
    exact r_lret X h (Nat.le_of_ble_eq_true rfl) (Nat.le_of_ble_eq_true rfl) dX0_inLowest_23
theorem m_X0_inLowest (l : Launch) (G : GT) (g : GK G) (p1 : Int64) (p2 : Int64) (p3 : Int32) (s : PS) (Q : Int64 → PS → Prop) (h : w_X0_inLowest G p1 p2 p3 s Q) : Met l yX0_inLowest (ws_ yX0_inLowest cX0_inLowest 7 (some .long)) rm_X0_inLowest (va_Pc [.long p1, .long p2, .int p3] (Wr G s)) (va_Ql Q (fun u t => Wr G u t) (kF G)) 0 0 (kF G) := by
  refine Met.ofW (cc := cX0_inLowest) (maxL := 7) (ret := (some .long)) (by decide) rfl ?_
  intro p e s0 m args below meth c s₁ B hml hv
  obtain ⟨rfl, hw⟩ := hv
  exact wb_of [.long p1, .long p2, .int p3] (Nat.le_of_ble_eq_true rfl) hw.1 rfl (e_X0_inLowest (cx_of g B hml rfl hw) p1 p2 p3 s Q h)
theorem e_X0_odds {x : CT} {G : GT} (X : Cx x G cX0_odds 4 RX0 (some .long) rm_X0_odds) (hph : kP G = 1) (p1 : Int32) (p2 : Int32) (p3 : Int32) (s : PS) (Q : Int64 → PS → Prop) (h : w_X0_odds G p1 p2 p3 s Q) : WB x G 4 (QfL x G 0 0 Q) 0 0 s 0 [(0, .ref (kB G + 0)), (1, .int p1), (2, .int p2), (3, .int p3)] [] := by
  unfold w_X0_odds at h
  refine r_iload_n X 1 dX0_odds_0 rfl rfl ?_
  refine r_iconst (v := 0) X dX0_odds_1 rfl ?_
  refine r_bipush (v := 10) X dX0_odds_2 rfl ?_
  refine r_ci X (r_okS (As := [.int p1, .int 0, .int 10]) (rest := []) X (m_X0_in (xl x) G X.2.2.2.2.1 p1 0 10 s _ h) (cl_X0_77 X ⟨(Nat.le_of_ble_eq_true rfl), (Nat.le_of_ble_eq_true rfl)⟩) rfl rfl (Nat.le_of_ble_eq_true rfl) dX0_odds_4 ⟨Nat.le_of_ble_eq_true rfl, Nat.le_of_ble_eq_true rfl⟩) (fun r2 s1 h => ?_)
  obtain ⟨z3, h⟩ := h
  refine r_if_eq X 44 dX0_odds_7 (by decide) (fun c4 => ?_) (fun c4 => ?_)
  · replace h := h.1 c4
    refine r_ldc2 X q1315 dX0_odds_44 ?_
    exact r_lret X h (Nat.le_of_ble_eq_true rfl) (Nat.le_of_ble_eq_true rfl) dX0_odds_47
  · replace h := h.2 c4
    refine r_iload_n X 2 dX0_odds_10 rfl rfl ?_
    refine r_iconst (v := 1) X dX0_odds_11 rfl ?_
    refine r_bipush (v := 15) X dX0_odds_12 rfl ?_
    refine r_ci X (r_okS (As := [.int p2, .int 1, .int 15]) (rest := []) X (m_X0_in (xl x) G X.2.2.2.2.1 p2 1 15 s1 _ h) (cl_X0_77 X ⟨(Nat.le_of_ble_eq_true rfl), (Nat.le_of_ble_eq_true rfl)⟩) rfl rfl (Nat.le_of_ble_eq_true rfl) dX0_odds_14 ⟨Nat.le_of_ble_eq_true rfl, Nat.le_of_ble_eq_true rfl⟩) (fun r6 s5 h => ?_)
    obtain ⟨z7, h⟩ := h
    refine r_if_eq X 44 dX0_odds_17 (by decide) (fun c8 => ?_) (fun c8 => ?_)
    · replace h := h.1 c8
      refine r_ldc2 X q1315 dX0_odds_44 ?_
      exact r_lret X h (Nat.le_of_ble_eq_true rfl) (Nat.le_of_ble_eq_true rfl) dX0_odds_47
    · replace h := h.2 c8
      refine r_iload_n X 2 dX0_odds_20 rfl rfl ?_
      refine r_iconst (v := 2) X dX0_odds_21 rfl ?_
      refine r_irem X dX0_odds_22 (by decide) ?_
      refine r_iconst (v := 1) X dX0_odds_23 rfl ?_
      refine r_ic_ne X 44 dX0_odds_24 (by decide) (fun c9 => ?_) (fun c9 => ?_)
      · replace h := h.2 c9
        refine r_ldc2 X q1315 dX0_odds_44 ?_
        exact r_lret X h (Nat.le_of_ble_eq_true rfl) (Nat.le_of_ble_eq_true rfl) dX0_odds_47
      · replace h := h.1 c9
        refine r_aload_n X 0 dX0_odds_27 rfl rfl ?_
        refine r_iload_n X 1 dX0_odds_28 rfl rfl ?_
        refine r_iload_n X 2 dX0_odds_29 rfl rfl ?_
        refine r_cl X (r_okVL (As := [.int p1, .int p2]) (rest := []) X (m_X0_mostRight (xl x) G X.2.2.2.2.1 hph p1 p2 s5 _ h) (cl_X0_439 X ⟨(Nat.le_of_ble_eq_true rfl), (Nat.le_of_ble_eq_true rfl)⟩) hph 0 ly_0 rfl rfl rfl rfl (Nat.le_of_ble_eq_true rfl) dX0_odds_30 ⟨Nat.le_of_ble_eq_true rfl, Nat.le_of_ble_eq_true rfl⟩) (fun r11 s10 h => ?_)
        refine r_iload_n X 2 dX0_odds_33 rfl rfl ?_
        obtain ⟨d12, g13, h⟩ := h
        refine r_cl X (r_okS (As := [.int p2]) (rest := [.long r11]) X (mr_X0_tens (xl x) G X.2.2.2.2.1 d12 p2 s10 _ h) (cl_X0_429 (d := d12) X ⟨(by simp only [rm_X0_odds, rS] <;> omega), (by simp only [rm_X0_odds, rS] <;> omega)⟩) rfl rfl (Nat.le_of_ble_eq_true rfl) dX0_odds_34 ⟨Nat.le_of_ble_eq_true rfl, Nat.le_of_ble_eq_true rfl⟩) (fun r15 s14 h => ?_)
        refine r_iload_n X 3 dX0_odds_37 rfl rfl ?_
        refine r_cl X (r_okS (As := [.long r11, .long r15, .int p3]) (rest := []) X (m_X0_inLowest (xl x) G X.2.2.2.2.1 r11 r15 p3 s14 _ h) (cl_X0_443 X ⟨(Nat.le_of_ble_eq_true rfl), (Nat.le_of_ble_eq_true rfl)⟩) rfl rfl (Nat.le_of_ble_eq_true rfl) dX0_odds_38 ⟨Nat.le_of_ble_eq_true rfl, Nat.le_of_ble_eq_true rfl⟩) (fun r17 s16 h => ?_)
        refine r_goto X 47 dX0_odds_41 (by decide) ?_
        exact r_lret X h (Nat.le_of_ble_eq_true rfl) (Nat.le_of_ble_eq_true rfl) dX0_odds_47
theorem m_X0_odds (l : Launch) (G : GT) (g : GK G) (hph : kP G = 1) (p1 : Int32) (p2 : Int32) (p3 : Int32) (s : PS) (Q : Int64 → PS → Prop) (h : w_X0_odds G p1 p2 p3 s Q) : Met l yX0_odds (ws_ yX0_odds cX0_odds 4 (some .long)) rm_X0_odds (va_Pc [.ref (kB G + 0), .int p1, .int p2, .int p3] (Wr G s)) (va_Ql Q (fun u t => Wr G u t) (kF G)) 0 0 (kF G) := by
  refine Met.ofW (cc := cX0_odds) (maxL := 4) (ret := (some .long)) (by decide) rfl ?_
  intro p e s0 m args below meth c s₁ B hml hv
  obtain ⟨rfl, hw⟩ := hv
  exact wb_of [.ref (kB G + 0), .int p1, .int p2, .int p3] (Nat.le_of_ble_eq_true rfl) hw.1 rfl (e_X0_odds (cx_of g B hml rfl hw) hph p1 p2 p3 s Q h)
theorem tl_X0_often_24 {x : CT} {G : GT} (X : Cx x G cX0_often 4 RX0 (some .int) rm_X0_often) (hph : kP G = 1) (Q : Int32 → PS → Prop) (v1 : Int32) (v2 : Int32) : ∀ (n : Nat) (v3 : Int32) (s : PS) (h : l_X0_often_24 G Q v1 v2 n v3 s), WB x G 4 (QfI x G 0 0 Q) 0 0 s 24 [(0, .ref (kB G + 0)), (1, .int v1), (2, .int v2), (3, .int v3)] [] := by
  intro n
  induction n with
  | zero =>
    intro v3 s h
    exact False.elim h
  | succ n ih =>
    intro v3 s h
    unfold l_X0_often_24 at h
    refine r_iload_n X 3 dX0_often_24 rfl rfl ?_
    refine r_bipush (v := 15) X dX0_often_25 rfl ?_
    refine r_ic_gt X 59 dX0_often_27 (by decide) (fun c1 => ?_) (fun c1 => ?_)
    · replace h := h.1 c1
      refine r_iconst (v := (-1)) X dX0_often_59 rfl ?_
      exact r_iret X h (Nat.le_of_ble_eq_true rfl) (Nat.le_of_ble_eq_true rfl) dX0_often_60
    · replace h := h.2 c1
      refine r_ldc2 X q1320 dX0_often_30 ?_
      refine r_aload_n X 0 dX0_often_33 rfl rfl ?_
      refine r_iload_n X 1 dX0_often_34 rfl rfl ?_
      refine r_iload_n X 3 dX0_often_35 rfl rfl ?_
      refine r_cl X (r_okVL (As := [.int v1, .int v3]) (rest := [.long 100]) X (m_X0_mostRight (xl x) G X.2.2.2.2.1 hph v1 v3 s _ h) (cl_X0_439 X ⟨(Nat.le_of_ble_eq_true rfl), (Nat.le_of_ble_eq_true rfl)⟩) hph 0 ly_0 rfl rfl rfl rfl (Nat.le_of_ble_eq_true rfl) dX0_often_36 ⟨Nat.le_of_ble_eq_true rfl, Nat.le_of_ble_eq_true rfl⟩) (fun r3 s2 h => ?_)
      refine r_lmul X dX0_often_39 ?_
      refine r_iload_n X 2 dX0_often_40 rfl rfl ?_
      refine r_i2l X dX0_often_41 ?_
      refine r_iload_n X 3 dX0_often_42 rfl rfl ?_
      obtain ⟨d4, g5, h⟩ := h
      refine r_cl X (r_okS (As := [.int v3]) (rest := [.long v2.toInt64, .long (100 * r3)]) X (mr_X0_tens (xl x) G X.2.2.2.2.1 d4 v3 s2 _ h) (cl_X0_429 (d := d4) X ⟨(by simp only [rm_X0_often, rS] <;> omega), (by simp only [rm_X0_often, rS] <;> omega)⟩) rfl rfl (Nat.le_of_ble_eq_true rfl) dX0_often_43 ⟨Nat.le_of_ble_eq_true rfl, Nat.le_of_ble_eq_true rfl⟩) (fun r7 s6 h => ?_)
      refine r_lmul X dX0_often_46 ?_
      refine r_lcmp X dX0_often_47 ?_
      refine r_if_lt X 53 dX0_often_48 (by decide) (fun c8 => ?_) (fun c8 => ?_)
      · replace h := h.1 c8
        refine r_iinc (lv' := [(3, .int (v3 + 2)), (0, .ref (kB G + 0)), (1, .int v1), (2, .int v2)]) X 3 dX0_often_53 rfl rfl (Nat.le_of_ble_eq_true rfl) rfl ?_
        refine r_goto X 24 dX0_often_56 (by decide) ?_
        refine r_sub [1, 2, 3, 0] rfl ?_
        exact ih (v3 + 2) s6 h
      · replace h := h.2 c8
        refine r_iload_n X 3 dX0_often_51 rfl rfl ?_
        exact r_iret X h (Nat.le_of_ble_eq_true rfl) (Nat.le_of_ble_eq_true rfl) dX0_often_52
theorem e_X0_often {x : CT} {G : GT} (X : Cx x G cX0_often 4 RX0 (some .int) rm_X0_often) (hph : kP G = 1) (p1 : Int32) (p2 : Int32) (s : PS) (Q : Int32 → PS → Prop) (h : w_X0_often G p1 p2 s Q) : WB x G 4 (QfI x G 0 0 Q) 0 0 s 0 [(0, .ref (kB G + 0)), (1, .int p1), (2, .int p2)] [] := by
  unfold w_X0_often at h
  refine r_iload_n X 1 dX0_often_0 rfl rfl ?_
  refine r_iconst (v := 0) X dX0_often_1 rfl ?_
  refine r_bipush (v := 10) X dX0_often_2 rfl ?_
  refine r_ci X (r_okS (As := [.int p1, .int 0, .int 10]) (rest := []) X (m_X0_in (xl x) G X.2.2.2.2.1 p1 0 10 s _ h) (cl_X0_77 X ⟨(Nat.le_of_ble_eq_true rfl), (Nat.le_of_ble_eq_true rfl)⟩) rfl rfl (Nat.le_of_ble_eq_true rfl) dX0_often_4 ⟨Nat.le_of_ble_eq_true rfl, Nat.le_of_ble_eq_true rfl⟩) (fun r2 s1 h => ?_)
  obtain ⟨z3, h⟩ := h
  refine r_if_eq X 20 dX0_often_7 (by decide) (fun c4 => ?_) (fun c4 => ?_)
  · replace h := h.1 c4
    refine r_iconst (v := (-1)) X dX0_often_20 rfl ?_
    exact r_iret X h (Nat.le_of_ble_eq_true rfl) (Nat.le_of_ble_eq_true rfl) dX0_often_21
  · replace h := h.2 c4
    refine r_iload_n X 2 dX0_often_10 rfl rfl ?_
    refine r_iconst (v := 1) X dX0_often_11 rfl ?_
    refine r_bipush (v := 100) X dX0_often_12 rfl ?_
    refine r_ci X (r_okS (As := [.int p2, .int 1, .int 100]) (rest := []) X (m_X0_in (xl x) G X.2.2.2.2.1 p2 1 100 s1 _ h) (cl_X0_77 X ⟨(Nat.le_of_ble_eq_true rfl), (Nat.le_of_ble_eq_true rfl)⟩) rfl rfl (Nat.le_of_ble_eq_true rfl) dX0_often_14 ⟨Nat.le_of_ble_eq_true rfl, Nat.le_of_ble_eq_true rfl⟩) (fun r6 s5 h => ?_)
    obtain ⟨z7, h⟩ := h
    refine r_if_ne X 22 dX0_often_17 (by decide) (fun c8 => ?_) (fun c8 => ?_)
    · replace h := h.2 c8
      refine r_iconst (v := 1) X dX0_often_22 rfl ?_
      refine r_istore_n (lv' := [(3, .int 1), (0, .ref (kB G + 0)), (1, .int p1), (2, .int p2)]) X dX0_often_23 rfl (Nat.le_of_ble_eq_true rfl) rfl ?_
      refine r_sub [1, 2, 3, 0] rfl ?_
      obtain ⟨n9, h⟩ := h
      exact tl_X0_often_24 X hph Q p1 p2 n9 1 s5 h
    · replace h := h.1 c8
      refine r_iconst (v := (-1)) X dX0_often_20 rfl ?_
      exact r_iret X h (Nat.le_of_ble_eq_true rfl) (Nat.le_of_ble_eq_true rfl) dX0_often_21
theorem m_X0_often (l : Launch) (G : GT) (g : GK G) (hph : kP G = 1) (p1 : Int32) (p2 : Int32) (s : PS) (Q : Int32 → PS → Prop) (h : w_X0_often G p1 p2 s Q) : Met l yX0_often (ws_ yX0_often cX0_often 4 (some .int)) rm_X0_often (va_Pc [.ref (kB G + 0), .int p1, .int p2] (Wr G s)) (va_Qi Q (fun u t => Wr G u t) (kF G)) 0 0 (kF G) := by
  refine Met.ofW (cc := cX0_often) (maxL := 4) (ret := (some .int)) (by decide) rfl ?_
  intro p e s0 m args below meth c s₁ B hml hv
  obtain ⟨rfl, hw⟩ := hv
  exact wb_of [.ref (kB G + 0), .int p1, .int p2] (Nat.le_of_ble_eq_true rfl) hw.1 rfl (e_X0_often (cx_of g B hml rfl hw) hph p1 p2 s Q h)
theorem e_X0_image {x : CT} {G : GT} (X : Cx x G cX0_image 1 RX0 (some .int) rm_X0_image) (hph : kP G = 1) (s : PS) (Q : Int32 → PS → Prop) (h : w_X0_image G s Q) : WB x G 1 (QfI x G 0 0 Q) 0 0 s 0 [(0, .ref (kB G + 0))] [] := by
  unfold w_X0_image at h
  refine r_aload_n X 0 dX0_image_0 rfl rfl ?_
  refine gr_X0_16 X hph 0 0 79 ly_0 rfl rfl dX0_image_1 ?_
  refine r_aload_n X 0 dX0_image_4 rfl rfl ?_
  refine gr_X0_12 X hph 0 0 1 ly_0 rfl rfl dX0_image_5 ?_
  refine r_cv X (r_okVL (As := [.ref (kB G + 1)]) (rest := []) X (m_X1_be (xl x) G X.2.2.2.2.1 (kB G + 79) (kB G + 1) s _ h) (cl_X0_70 X ⟨(Nat.le_of_ble_eq_true rfl), (Nat.le_of_ble_eq_true rfl)⟩) hph 1 ly_79 rfl rfl rfl rfl (Nat.le_of_ble_eq_true rfl) dX0_image_8 ⟨Nat.le_of_ble_eq_true rfl, Nat.le_of_ble_eq_true rfl⟩) (fun s1 h => ?_)
  refine r_aload_n X 0 dX0_image_11 rfl rfl ?_
  refine gr_X0_12 X hph 0 0 1 ly_0 rfl rfl dX0_image_12 ?_
  refine gr_X0_203 X hph 1 1 5 ly_1 rfl rfl dX0_image_15 ?_
  refine r_bipush (v := 6) X dX0_image_18 rfl ?_
  refine r_ialdL X hph 5 195 ly_5 tn_6 il_6_195 dX0_image_20 ?_
  exact r_iret X h (Nat.le_of_ble_eq_true rfl) (Nat.le_of_ble_eq_true rfl) dX0_image_21
theorem m_X0_image (l : Launch) (G : GT) (g : GK G) (hph : kP G = 1) (s : PS) (Q : Int32 → PS → Prop) (h : w_X0_image G s Q) : Met l yX0_image (ws_ yX0_image cX0_image 1 (some .int)) rm_X0_image (va_Pc [.ref (kB G + 0)] (Wr G s)) (va_Qi Q (fun u t => Wr G u t) (kF G)) 0 0 (kF G) := by
  refine Met.ofW (cc := cX0_image) (maxL := 1) (ret := (some .int)) (by decide) rfl ?_
  intro p e s0 m args below meth c s₁ B hml hv
  obtain ⟨rfl, hw⟩ := hv
  exact wb_of [.ref (kB G + 0)] (Nat.le_of_ble_eq_true rfl) hw.1 rfl (e_X0_image (cx_of g B hml rfl hw) hph s Q h)
theorem e_X0_back {x : CT} {G : GT} (X : Cx x G cX0_back 1 RX0 (some .int) rm_X0_back) (hph : kP G = 1) (s : PS) (Q : Int32 → PS → Prop) (h : w_X0_back G s Q) : WB x G 1 (QfI x G 0 0 Q) 0 0 s 0 [(0, .ref (kB G + 0))] [] := by
  unfold w_X0_back at h
  refine r_aload_n X 0 dX0_back_0 rfl rfl ?_
  refine gr_X0_12 X hph 0 0 1 ly_0 rfl rfl dX0_back_1 ?_
  refine r_aload_n X 0 dX0_back_4 rfl rfl ?_
  refine gr_X0_16 X hph 0 0 79 ly_0 rfl rfl dX0_back_5 ?_
  refine r_cv X (r_okVL (As := [.ref (kB G + 79)]) (rest := []) X (m_X1_be (xl x) G X.2.2.2.2.1 (kB G + 1) (kB G + 79) s _ h) (cl_X0_70 X ⟨(Nat.le_of_ble_eq_true rfl), (Nat.le_of_ble_eq_true rfl)⟩) hph 1 ly_1 rfl rfl rfl rfl (Nat.le_of_ble_eq_true rfl) dX0_back_8 ⟨Nat.le_of_ble_eq_true rfl, Nat.le_of_ble_eq_true rfl⟩) (fun s1 h => ?_)
  refine r_aload_n X 0 dX0_back_11 rfl rfl ?_
  refine gr_X0_12 X hph 0 0 1 ly_0 rfl rfl dX0_back_12 ?_
  refine gr_X0_203 X hph 1 1 5 ly_1 rfl rfl dX0_back_15 ?_
  refine r_bipush (v := 6) X dX0_back_18 rfl ?_
  refine r_ialdL X hph 5 195 ly_5 tn_6 il_6_195 dX0_back_20 ?_
  exact r_iret X h (Nat.le_of_ble_eq_true rfl) (Nat.le_of_ble_eq_true rfl) dX0_back_21
theorem m_X0_back (l : Launch) (G : GT) (g : GK G) (hph : kP G = 1) (s : PS) (Q : Int32 → PS → Prop) (h : w_X0_back G s Q) : Met l yX0_back (ws_ yX0_back cX0_back 1 (some .int)) rm_X0_back (va_Pc [.ref (kB G + 0)] (Wr G s)) (va_Qi Q (fun u t => Wr G u t) (kF G)) 0 0 (kF G) := by
  refine Met.ofW (cc := cX0_back) (maxL := 1) (ret := (some .int)) (by decide) rfl ?_
  intro p e s0 m args below meth c s₁ B hml hv
  obtain ⟨rfl, hw⟩ := hv
  exact wb_of [.ref (kB G + 0)] (Nat.le_of_ble_eq_true rfl) hw.1 rfl (e_X0_back (cx_of g B hml rfl hw) hph s Q h)
theorem e_X0_about {x : CT} {G : GT} (X : Cx x G cX0_about 2 RX0 (some .int) rm_X0_about) (hph : kP G = 1) (p1 : Int32) (s : PS) (Q : Int32 → PS → Prop) (h : w_X0_about G p1 s Q) : WB x G 2 (QfI x G 0 0 Q) 0 0 s 0 [(0, .ref (kB G + 0)), (1, .int p1)] [] := by
  unfold w_X0_about at h
  refine r_iload_n X 1 dX0_about_0 rfl rfl ?_
  by_cases c1 : p1 = 0
  · replace h := h.1 c1
    refine r_tin X 64 dX0_about_1 0 c1 (by decide) (by decide) rfl (by decide) ?_
    refine r_aload_n X 0 dX0_about_64 rfl rfl ?_
    refine gr_X0_12 X hph 0 0 1 ly_0 rfl rfl dX0_about_65 ?_
    refine gr_X0_74 X hph 1 1 2 ly_1 rfl rfl dX0_about_68 ?_
    refine r_iconst (v := 0) X dX0_about_71 rfl ?_
    refine r_ialdL X hph 2 9 ly_2 tn_0 il_0_9 dX0_about_72 ?_
    exact r_iret X h (Nat.le_of_ble_eq_true rfl) (Nat.le_of_ble_eq_true rfl) dX0_about_73
  · replace h := h.2 c1
    by_cases c2 : p1 = 1
    · replace h := h.1 c2
      refine r_tin X 74 dX0_about_1 1 c2 (by decide) (by decide) rfl (by decide) ?_
      refine r_aload_n X 0 dX0_about_74 rfl rfl ?_
      refine gr_X0_12 X hph 0 0 1 ly_0 rfl rfl dX0_about_75 ?_
      refine gr_X0_74 X hph 1 1 2 ly_1 rfl rfl dX0_about_78 ?_
      refine r_iconst (v := 1) X dX0_about_81 rfl ?_
      refine r_ialdL X hph 2 9 ly_2 tn_1 il_1_9 dX0_about_82 ?_
      exact r_iret X h (Nat.le_of_ble_eq_true rfl) (Nat.le_of_ble_eq_true rfl) dX0_about_83
    · replace h := h.2 c2
      by_cases c3 : p1 = 2
      · replace h := h.1 c3
        refine r_tin X 84 dX0_about_1 2 c3 (by decide) (by decide) rfl (by decide) ?_
        refine r_aload_n X 0 dX0_about_84 rfl rfl ?_
        refine gr_X0_12 X hph 0 0 1 ly_0 rfl rfl dX0_about_85 ?_
        refine gr_X0_74 X hph 1 1 2 ly_1 rfl rfl dX0_about_88 ?_
        refine r_iconst (v := 2) X dX0_about_91 rfl ?_
        refine r_ialdL X hph 2 9 ly_2 tn_2 il_2_9 dX0_about_92 ?_
        exact r_iret X h (Nat.le_of_ble_eq_true rfl) (Nat.le_of_ble_eq_true rfl) dX0_about_93
      · replace h := h.2 c3
        by_cases c4 : p1 = 3
        · replace h := h.1 c4
          refine r_tin X 94 dX0_about_1 3 c4 (by decide) (by decide) rfl (by decide) ?_
          refine r_aload_n X 0 dX0_about_94 rfl rfl ?_
          refine gr_X0_12 X hph 0 0 1 ly_0 rfl rfl dX0_about_95 ?_
          refine gr_X0_74 X hph 1 1 2 ly_1 rfl rfl dX0_about_98 ?_
          refine r_iconst (v := 3) X dX0_about_101 rfl ?_
          refine r_ialdL X hph 2 9 ly_2 tn_3 il_3_9 dX0_about_102 ?_
          exact r_iret X h (Nat.le_of_ble_eq_true rfl) (Nat.le_of_ble_eq_true rfl) dX0_about_103
        · replace h := h.2 c4
          by_cases c5 : p1 = 4
          · replace h := h.1 c5
            refine r_tin X 104 dX0_about_1 4 c5 (by decide) (by decide) rfl (by decide) ?_
            refine r_aload_n X 0 dX0_about_104 rfl rfl ?_
            refine gr_X0_12 X hph 0 0 1 ly_0 rfl rfl dX0_about_105 ?_
            refine gr_X0_203 X hph 1 1 5 ly_1 rfl rfl dX0_about_108 ?_
            refine r_bipush (v := 6) X dX0_about_111 rfl ?_
            refine r_ialdL X hph 5 195 ly_5 tn_6 il_6_195 dX0_about_113 ?_
            exact r_iret X h (Nat.le_of_ble_eq_true rfl) (Nat.le_of_ble_eq_true rfl) dX0_about_114
          · replace h := h.2 c5
            by_cases c6 : p1 = 5
            · replace h := h.1 c6
              refine r_tin X 115 dX0_about_1 5 c6 (by decide) (by decide) rfl (by decide) ?_
              refine r_aload_n X 0 dX0_about_115 rfl rfl ?_
              refine gr_X0_12 X hph 0 0 1 ly_0 rfl rfl dX0_about_116 ?_
              refine gr_X0_203 X hph 1 1 5 ly_1 rfl rfl dX0_about_119 ?_
              refine r_bipush (v := 7) X dX0_about_122 rfl ?_
              refine r_ialdL X hph 5 195 ly_5 tn_7 il_7_195 dX0_about_124 ?_
              exact r_iret X h (Nat.le_of_ble_eq_true rfl) (Nat.le_of_ble_eq_true rfl) dX0_about_125
            · replace h := h.2 c6
              by_cases c7 : p1 = 6
              · replace h := h.1 c7
                refine r_tin X 126 dX0_about_1 6 c7 (by decide) (by decide) rfl (by decide) ?_
                refine r_aload_n X 0 dX0_about_126 rfl rfl ?_
                refine gr_X0_12 X hph 0 0 1 ly_0 rfl rfl dX0_about_127 ?_
                refine gr_X0_74 X hph 1 1 2 ly_1 rfl rfl dX0_about_130 ?_
                refine r_iconst (v := 4) X dX0_about_133 rfl ?_
                refine r_ialdL X hph 2 9 ly_2 tn_4 il_4_9 dX0_about_134 ?_
                exact r_iret X h (Nat.le_of_ble_eq_true rfl) (Nat.le_of_ble_eq_true rfl) dX0_about_135
              · replace h := h.2 c7
                by_cases c8 : p1 = 7
                · replace h := h.1 c8
                  refine r_tin X 136 dX0_about_1 7 c8 (by decide) (by decide) rfl (by decide) ?_
                  refine r_aload_n X 0 dX0_about_136 rfl rfl ?_
                  refine gr_X0_12 X hph 0 0 1 ly_0 rfl rfl dX0_about_137 ?_
                  refine gr_X0_74 X hph 1 1 2 ly_1 rfl rfl dX0_about_140 ?_
                  refine r_iconst (v := 5) X dX0_about_143 rfl ?_
                  refine r_ialdL X hph 2 9 ly_2 tn_5 il_5_9 dX0_about_144 ?_
                  exact r_iret X h (Nat.le_of_ble_eq_true rfl) (Nat.le_of_ble_eq_true rfl) dX0_about_145
                · replace h := h.2 c8
                  by_cases c9 : p1 = 8
                  · replace h := h.1 c9
                    refine r_tin X 146 dX0_about_1 8 c9 (by decide) (by decide) rfl (by decide) ?_
                    refine r_aload_n X 0 dX0_about_146 rfl rfl ?_
                    refine gr_X0_12 X hph 0 0 1 ly_0 rfl rfl dX0_about_147 ?_
                    refine gr_X0_74 X hph 1 1 2 ly_1 rfl rfl dX0_about_150 ?_
                    refine r_bipush (v := 6) X dX0_about_153 rfl ?_
                    refine r_ialdL X hph 2 9 ly_2 tn_6 il_6_9 dX0_about_155 ?_
                    exact r_iret X h (Nat.le_of_ble_eq_true rfl) (Nat.le_of_ble_eq_true rfl) dX0_about_156
                  · replace h := h.2 c9
                    by_cases c10 : p1 = 9
                    · replace h := h.1 c10
                      refine r_tin X 157 dX0_about_1 9 c10 (by decide) (by decide) rfl (by decide) ?_
                      refine r_aload_n X 0 dX0_about_157 rfl rfl ?_
                      refine gr_X0_12 X hph 0 0 1 ly_0 rfl rfl dX0_about_158 ?_
                      refine gr_X0_74 X hph 1 1 2 ly_1 rfl rfl dX0_about_161 ?_
                      refine r_bipush (v := 7) X dX0_about_164 rfl ?_
                      refine r_ialdL X hph 2 9 ly_2 tn_7 il_7_9 dX0_about_166 ?_
                      exact r_iret X h (Nat.le_of_ble_eq_true rfl) (Nat.le_of_ble_eq_true rfl) dX0_about_167
                    · replace h := h.2 c10
                      by_cases c11 : p1 = 10
                      · replace h := h.1 c11
                        refine r_tin X 168 dX0_about_1 10 c11 (by decide) (by decide) rfl (by decide) ?_
                        refine r_aload_n X 0 dX0_about_168 rfl rfl ?_
                        refine gr_X0_12 X hph 0 0 1 ly_0 rfl rfl dX0_about_169 ?_
                        refine gr_X0_74 X hph 1 1 2 ly_1 rfl rfl dX0_about_172 ?_
                        refine r_bipush (v := 8) X dX0_about_175 rfl ?_
                        refine r_ialdL X hph 2 9 ly_2 tn_8 il_8_9 dX0_about_177 ?_
                        exact r_iret X h (Nat.le_of_ble_eq_true rfl) (Nat.le_of_ble_eq_true rfl) dX0_about_178
                      · replace h := h.2 c11
                        by_cases c12 : p1 = 11
                        · replace h := h.1 c12
                          refine r_tin X 179 dX0_about_1 11 c12 (by decide) (by decide) rfl (by decide) ?_
                          refine r_aload_n X 0 dX0_about_179 rfl rfl ?_
                          refine gl_X0_108 X hph 0 ly_0 dX0_about_180 ?_
                          exact r_iret X h (Nat.le_of_ble_eq_true rfl) (Nat.le_of_ble_eq_true rfl) dX0_about_183
                        · replace h := h.2 c12
                          have o0 := lv_neT c1 (show Int32.toInt 0 = 0 from rfl)
                          have o1 := lv_neT c2 (show Int32.toInt 1 = 1 from rfl)
                          have o2 := lv_neT c3 (show Int32.toInt 2 = 2 from rfl)
                          have o3 := lv_neT c4 (show Int32.toInt 3 = 3 from rfl)
                          have o4 := lv_neT c5 (show Int32.toInt 4 = 4 from rfl)
                          have o5 := lv_neT c6 (show Int32.toInt 5 = 5 from rfl)
                          have o6 := lv_neT c7 (show Int32.toInt 6 = 6 from rfl)
                          have o7 := lv_neT c8 (show Int32.toInt 7 = 7 from rfl)
                          have o8 := lv_neT c9 (show Int32.toInt 8 = 8 from rfl)
                          have o9 := lv_neT c10 (show Int32.toInt 9 = 9 from rfl)
                          have o10 := lv_neT c11 (show Int32.toInt 10 = 10 from rfl)
                          have o11 := lv_neT c12 (show Int32.toInt 11 = 11 from rfl)
                          refine r_tout X 184 dX0_about_1 (by omega) (by decide) ?_
                          refine r_bipush (v := (-2)) X dX0_about_184 rfl ?_
                          exact r_iret X h (Nat.le_of_ble_eq_true rfl) (Nat.le_of_ble_eq_true rfl) dX0_about_186
theorem m_X0_about (l : Launch) (G : GT) (g : GK G) (hph : kP G = 1) (p1 : Int32) (s : PS) (Q : Int32 → PS → Prop) (h : w_X0_about G p1 s Q) : Met l yX0_about (ws_ yX0_about cX0_about 2 (some .int)) rm_X0_about (va_Pc [.ref (kB G + 0), .int p1] (Wr G s)) (va_Qi Q (fun u t => Wr G u t) (kF G)) 0 0 (kF G) := by
  refine Met.ofW (cc := cX0_about) (maxL := 2) (ret := (some .int)) (by decide) rfl ?_
  intro p e s0 m args below meth c s₁ B hml hv
  obtain ⟨rfl, hw⟩ := hv
  exact wb_of [.ref (kB G + 0), .int p1] (Nat.le_of_ble_eq_true rfl) hw.1 rfl (e_X0_about (cx_of g B hml rfl hw) hph p1 s Q h)
