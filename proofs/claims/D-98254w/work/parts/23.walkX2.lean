set_option maxRecDepth 100000
theorem tl_X2_copy_2 {x : CT} {G : GT} (X : Cx x G cX2_copy 3 RX2 none rm_X2_copy) (Q : PS → Prop) (v0 : Nat) (v1 : Nat) : ∀ (n : Nat) (v2 : Int32) (s : PS) (h : l_X2_copy_2 G Q v0 v1 n v2 s), WB x G 3 (QfV x G 0 0 Q) 0 0 s 2 [(0, .ref v0), (1, .ref v1), (2, .int v2)] [] := by
  intro n
  induction n with
  | zero =>
    intro v2 s h
    exact False.elim h
  | succ n ih =>
    intro v2 s h
    unfold l_X2_copy_2 at h
    refine r_iload_n X 2 dX2_copy_2 rfl rfl ?_
    refine r_sipush (v := 5544) X dX2_copy_3 rfl ?_
    refine r_ic_ge X 21 dX2_copy_6 (by decide) (fun c1 => ?_) (fun c1 => ?_)
    · replace h := h.1 c1
      exact r_vret X h (Nat.le_of_ble_eq_true rfl) (Nat.le_of_ble_eq_true rfl) dX2_copy_21
    · replace h := h.2 c1
      refine r_aload_n X 1 dX2_copy_9 rfl rfl ?_
      refine r_iload_n X 2 dX2_copy_10 rfl rfl ?_
      refine r_aload_n X 0 dX2_copy_11 rfl rfl ?_
      refine r_iload_n X 2 dX2_copy_12 rfl rfl ?_
      obtain ⟨g2, h⟩ := h
      obtain ⟨g3, h⟩ := h
      refine r_iald X g2 g3 dX2_copy_13 ?_
      obtain ⟨g4, h⟩ := h
      obtain ⟨g5, h⟩ := h
      obtain ⟨g6, h⟩ := h
      refine r_iast X g4 g5 g6 dX2_copy_14 (fun s7 e8 => ?_)
      replace h := h s7 e8
      refine r_iinc (lv' := [(2, .int (v2 + 1)), (0, .ref v0), (1, .ref v1)]) X 2 dX2_copy_15 rfl rfl (Nat.le_of_ble_eq_true rfl) rfl ?_
      refine r_goto X 2 dX2_copy_18 (by decide) ?_
      refine r_sub [1, 2, 0] rfl ?_
      exact ih (v2 + 1) s7 h
theorem e_X2_copy {x : CT} {G : GT} (X : Cx x G cX2_copy 3 RX2 none rm_X2_copy) (p1 : Nat) (p2 : Nat) (s : PS) (Q : PS → Prop) (h : w_X2_copy G p1 p2 s Q) : WB x G 3 (QfV x G 0 0 Q) 0 0 s 0 [(0, .ref p1), (1, .ref p2)] [] := by
  unfold w_X2_copy at h
  refine r_iconst (v := 0) X dX2_copy_0 rfl ?_
  refine r_istore_n (lv' := [(2, .int 0), (0, .ref p1), (1, .ref p2)]) X dX2_copy_1 rfl (Nat.le_of_ble_eq_true rfl) rfl ?_
  refine r_sub [1, 2, 0] rfl ?_
  obtain ⟨n1, h⟩ := h
  exact tl_X2_copy_2 X Q p1 p2 n1 0 s h
theorem m_X2_copy (l : Launch) (G : GT) (g : GK G) (p1 : Nat) (p2 : Nat) (s : PS) (Q : PS → Prop) (h : w_X2_copy G p1 p2 s Q) : Met l yX2_copy (ws_ yX2_copy cX2_copy 3 none) rm_X2_copy (va_Pc [.ref p1, .ref p2] (Wr G s)) (va_Qv Q (fun u t => Wr G u t) (kF G)) 0 0 (kF G) := by
  refine Met.ofW (cc := cX2_copy) (maxL := 3) (ret := none) (by decide) rfl ?_
  intro p e s0 m args below meth c s₁ B hml hv
  obtain ⟨rfl, hw⟩ := hv
  exact wb_of [.ref p1, .ref p2] (Nat.le_of_ble_eq_true rfl) hw.1 rfl (e_X2_copy (cx_of g B hml rfl hw) p1 p2 s Q h)
theorem e_X2_init {x : CT} {G : GT} (X : Cx x G cX2_init 1 RX2 none rm_X2_init) (hp0 : kP G ≠ 1) (hin : (xM x).name = "<init>") (a0 : Nat) (s : PS) (Q : PS → Prop) (h : w_X2_init G a0 s Q) : WB x G 1 (QfV x G 19 15108 Q) 0 0 s 0 [(0, .ref a0)] [] := by
  unfold w_X2_init at h
  refine r_aload_n X 0 dX2_init_0 rfl rfl ?_
  refine r_objinit X q1338 q174 q175 (Nat.le_of_ble_eq_true rfl) (Nat.le_of_ble_eq_true rfl) (Nat.le_of_ble_eq_true rfl) dX2_init_1 ?_
  refine r_aload_n X 0 dX2_init_4 rfl rfl ?_
  refine r_sipush (v := 5544) X dX2_init_5 rfl ?_
  refine r_newa X 1 .int (by decide) rfl q224 tn_5544 (by decide +kernel) (Nat.le_of_ble_eq_true rfl) ⟨Nat.le_of_ble_eq_true rfl, Nat.le_of_ble_eq_true rfl⟩ dX2_init_8 (fun z1 e2 w3 u4 s5 e6 => ?_)
  replace h := h z1 e2 w3 u4 s5 e6
  have g7 : gT s5 z1 = 1 := by rw [e6, gT_pNew, if_pos e2]
  obtain ⟨g8, h⟩ := h
  obtain ⟨g9, h⟩ := h
  refine pf_X2_7 X hin g8 (Or.inr hp0) g9 dX2_init_10 (fun s10 e11 => ?_)
  replace h := h s10 e11
  refine r_aload_n X 0 dX2_init_13 rfl rfl ?_
  refine r_sipush (v := 5544) X dX2_init_14 rfl ?_
  refine r_newa X 1 .int (by decide) rfl q224 tn_5544 (by decide +kernel) (Nat.le_of_ble_eq_true rfl) ⟨Nat.le_of_ble_eq_true rfl, Nat.le_of_ble_eq_true rfl⟩ dX2_init_17 (fun z12 e13 w14 u15 s16 e17 => ?_)
  replace h := h z12 e13 w14 u15 s16 e17
  have g18 : gT s16 z12 = 1 := by rw [e17, gT_pNew, if_pos e13]
  have g19 : gT s10 a0 = 102 := by rw [e11]; exact g8
  have g20 : gT s16 a0 = 102 := by rw [e17, gT_pNew, if_neg (fun c => by have := u15 _ (show gT s10 a0 ≠ 0 by rw [g19]; decide); rw [e13] at this; omega)]; exact g19
  refine pf_X2_13 X hin g20 (Or.inr hp0) g9 dX2_init_19 (fun s21 e22 => ?_)
  replace h := h s21 e22
  refine r_aload_n X 0 dX2_init_22 rfl rfl ?_
  refine r_sipush (v := 3012) X dX2_init_23 rfl ?_
  refine r_newa X 1 .int (by decide) rfl q224 tn_3012 (by decide +kernel) (Nat.le_of_ble_eq_true rfl) ⟨Nat.le_of_ble_eq_true rfl, Nat.le_of_ble_eq_true rfl⟩ dX2_init_26 (fun z23 e24 w25 u26 s27 e28 => ?_)
  replace h := h z23 e24 w25 u26 s27 e28
  have g29 : gT s27 z23 = 1 := by rw [e28, gT_pNew, if_pos e24]
  have g30 : gT s21 a0 = 102 := by rw [e22]; exact g20
  have g31 : gT s27 a0 = 102 := by rw [e28, gT_pNew, if_neg (fun c => by have := u26 _ (show gT s21 a0 ≠ 0 by rw [g30]; decide); rw [e24] at this; omega)]; exact g30
  refine pf_X2_16 X hin g31 (Or.inr hp0) g9 dX2_init_28 (fun s32 e33 => ?_)
  replace h := h s32 e33
  refine r_aload_n X 0 dX2_init_31 rfl rfl ?_
  refine r_sipush (v := 300) X dX2_init_32 rfl ?_
  refine r_newa X 1 .int (by decide) rfl q224 tn_300 (by decide +kernel) (Nat.le_of_ble_eq_true rfl) ⟨Nat.le_of_ble_eq_true rfl, Nat.le_of_ble_eq_true rfl⟩ dX2_init_35 (fun z34 e35 w36 u37 s38 e39 => ?_)
  replace h := h z34 e35 w36 u37 s38 e39
  have g40 : gT s38 z34 = 1 := by rw [e39, gT_pNew, if_pos e35]
  have g41 : gT s32 a0 = 102 := by rw [e33]; exact g31
  have g42 : gT s38 a0 = 102 := by rw [e39, gT_pNew, if_neg (fun c => by have := u37 _ (show gT s32 a0 ≠ 0 by rw [g41]; decide); rw [e35] at this; omega)]; exact g41
  refine pf_X2_19 X hin g42 (Or.inr hp0) g9 dX2_init_37 (fun s43 e44 => ?_)
  replace h := h s43 e44
  refine r_aload_n X 0 dX2_init_40 rfl rfl ?_
  refine r_iconst (v := (-1)) X dX2_init_41 rfl ?_
  have g45 : gT s43 a0 = 102 := by rw [e44]; exact g42
  refine pf_X2_22 X g45 g9 dX2_init_42 (fun s46 e47 => ?_)
  replace h := h s46 e47
  refine r_aload_n X 0 dX2_init_45 rfl rfl ?_
  refine r_iconst (v := (-1)) X dX2_init_46 rfl ?_
  have g48 : gT s46 a0 = 102 := by rw [e47]; exact g45
  refine pf_X2_26 X g48 g9 dX2_init_47 (fun s49 e50 => ?_)
  replace h := h s49 e50
  refine r_aload_n X 0 dX2_init_50 rfl rfl ?_
  refine r_sipush (v := 160) X dX2_init_51 rfl ?_
  refine r_newa X 1 .int (by decide) rfl q224 tn_160 (by decide +kernel) (Nat.le_of_ble_eq_true rfl) ⟨Nat.le_of_ble_eq_true rfl, Nat.le_of_ble_eq_true rfl⟩ dX2_init_54 (fun z51 e52 w53 u54 s55 e56 => ?_)
  replace h := h z51 e52 w53 u54 s55 e56
  have g57 : gT s55 z51 = 1 := by rw [e56, gT_pNew, if_pos e52]
  have g58 : gT s49 a0 = 102 := by rw [e50]; exact g48
  have g59 : gT s55 a0 = 102 := by rw [e56, gT_pNew, if_neg (fun c => by have := u54 _ (show gT s49 a0 ≠ 0 by rw [g58]; decide); rw [e52] at this; omega)]; exact g58
  refine pf_X2_29 X hin g59 (Or.inr hp0) g9 dX2_init_56 (fun s60 e61 => ?_)
  replace h := h s60 e61
  refine r_aload_n X 0 dX2_init_59 rfl rfl ?_
  refine r_bipush (v := 15) X dX2_init_60 rfl ?_
  refine r_newa X 1 .int (by decide) rfl q224 tn_15 (by decide +kernel) (Nat.le_of_ble_eq_true rfl) ⟨Nat.le_of_ble_eq_true rfl, Nat.le_of_ble_eq_true rfl⟩ dX2_init_62 (fun z62 e63 w64 u65 s66 e67 => ?_)
  replace h := h z62 e63 w64 u65 s66 e67
  have g68 : gT s66 z62 = 1 := by rw [e67, gT_pNew, if_pos e63]
  have g69 : gT s60 a0 = 102 := by rw [e61]; exact g59
  have g70 : gT s66 a0 = 102 := by rw [e67, gT_pNew, if_neg (fun c => by have := u65 _ (show gT s60 a0 ≠ 0 by rw [g69]; decide); rw [e63] at this; omega)]; exact g69
  refine pf_X2_32 X hin g70 (Or.inr hp0) g9 dX2_init_64 (fun s71 e72 => ?_)
  replace h := h s71 e72
  refine r_aload_n X 0 dX2_init_67 rfl rfl ?_
  refine r_sipush (v := 330) X dX2_init_68 rfl ?_
  refine r_newa X 4 .long (by decide) rfl q311 tn_330 (by decide +kernel) (Nat.le_of_ble_eq_true rfl) ⟨Nat.le_of_ble_eq_true rfl, Nat.le_of_ble_eq_true rfl⟩ dX2_init_71 (fun z73 e74 w75 u76 s77 e78 => ?_)
  replace h := h z73 e74 w75 u76 s77 e78
  have g79 : gT s77 z73 = 4 := by rw [e78, gT_pNew, if_pos e74]
  have g80 : gT s71 a0 = 102 := by rw [e72]; exact g70
  have g81 : gT s77 a0 = 102 := by rw [e78, gT_pNew, if_neg (fun c => by have := u76 _ (show gT s71 a0 ≠ 0 by rw [g80]; decide); rw [e74] at this; omega)]; exact g80
  refine pf_X2_35 X hin g81 (Or.inr hp0) g9 dX2_init_73 (fun s82 e83 => ?_)
  replace h := h s82 e83
  refine r_aload_n X 0 dX2_init_76 rfl rfl ?_
  refine r_bipush (v := 24) X dX2_init_77 rfl ?_
  refine r_newa X 1 .int (by decide) rfl q224 tn_24 (by decide +kernel) (Nat.le_of_ble_eq_true rfl) ⟨Nat.le_of_ble_eq_true rfl, Nat.le_of_ble_eq_true rfl⟩ dX2_init_79 (fun z84 e85 w86 u87 s88 e89 => ?_)
  replace h := h z84 e85 w86 u87 s88 e89
  have g90 : gT s88 z84 = 1 := by rw [e89, gT_pNew, if_pos e85]
  have g91 : gT s82 a0 = 102 := by rw [e83]; exact g81
  have g92 : gT s88 a0 = 102 := by rw [e89, gT_pNew, if_neg (fun c => by have := u87 _ (show gT s82 a0 ≠ 0 by rw [g91]; decide); rw [e85] at this; omega)]; exact g91
  refine pf_X2_39 X hin g92 (Or.inr hp0) g9 dX2_init_81 (fun s93 e94 => ?_)
  replace h := h s93 e94
  refine r_aload_n X 0 dX2_init_84 rfl rfl ?_
  refine r_bipush (v := 6) X dX2_init_85 rfl ?_
  refine r_newa X 1 .int (by decide) rfl q224 tn_6 (by decide +kernel) (Nat.le_of_ble_eq_true rfl) ⟨Nat.le_of_ble_eq_true rfl, Nat.le_of_ble_eq_true rfl⟩ dX2_init_87 (fun z95 e96 w97 u98 s99 e100 => ?_)
  replace h := h z95 e96 w97 u98 s99 e100
  have g101 : gT s99 z95 = 1 := by rw [e100, gT_pNew, if_pos e96]
  have g102 : gT s93 a0 = 102 := by rw [e94]; exact g92
  have g103 : gT s99 a0 = 102 := by rw [e100, gT_pNew, if_neg (fun c => by have := u98 _ (show gT s93 a0 ≠ 0 by rw [g102]; decide); rw [e96] at this; omega)]; exact g102
  refine pf_X2_42 X hin g103 (Or.inr hp0) g9 dX2_init_89 (fun s104 e105 => ?_)
  replace h := h s104 e105
  refine r_aload_n X 0 dX2_init_92 rfl rfl ?_
  refine r_bipush (v := 24) X dX2_init_93 rfl ?_
  refine r_newa X 1 .int (by decide) rfl q224 tn_24 (by decide +kernel) (Nat.le_of_ble_eq_true rfl) ⟨Nat.le_of_ble_eq_true rfl, Nat.le_of_ble_eq_true rfl⟩ dX2_init_95 (fun z106 e107 w108 u109 s110 e111 => ?_)
  replace h := h z106 e107 w108 u109 s110 e111
  have g112 : gT s110 z106 = 1 := by rw [e111, gT_pNew, if_pos e107]
  have g113 : gT s104 a0 = 102 := by rw [e105]; exact g103
  have g114 : gT s110 a0 = 102 := by rw [e111, gT_pNew, if_neg (fun c => by have := u109 _ (show gT s104 a0 ≠ 0 by rw [g113]; decide); rw [e107] at this; omega)]; exact g113
  refine pf_X2_45 X hin g114 (Or.inr hp0) g9 dX2_init_97 (fun s115 e116 => ?_)
  replace h := h s115 e116
  refine r_aload_n X 0 dX2_init_100 rfl rfl ?_
  refine r_bipush (v := 6) X dX2_init_101 rfl ?_
  refine r_newa X 1 .int (by decide) rfl q224 tn_6 (by decide +kernel) (Nat.le_of_ble_eq_true rfl) ⟨Nat.le_of_ble_eq_true rfl, Nat.le_of_ble_eq_true rfl⟩ dX2_init_103 (fun z117 e118 w119 u120 s121 e122 => ?_)
  replace h := h z117 e118 w119 u120 s121 e122
  have g123 : gT s121 z117 = 1 := by rw [e122, gT_pNew, if_pos e118]
  have g124 : gT s115 a0 = 102 := by rw [e116]; exact g114
  have g125 : gT s121 a0 = 102 := by rw [e122, gT_pNew, if_neg (fun c => by have := u120 _ (show gT s115 a0 ≠ 0 by rw [g124]; decide); rw [e118] at this; omega)]; exact g124
  refine pf_X2_48 X hin g125 (Or.inr hp0) g9 dX2_init_105 (fun s126 e127 => ?_)
  replace h := h s126 e127
  refine r_aload_n X 0 dX2_init_108 rfl rfl ?_
  refine r_bipush (v := 6) X dX2_init_109 rfl ?_
  refine r_newa X 1 .int (by decide) rfl q224 tn_6 (by decide +kernel) (Nat.le_of_ble_eq_true rfl) ⟨Nat.le_of_ble_eq_true rfl, Nat.le_of_ble_eq_true rfl⟩ dX2_init_111 (fun z128 e129 w130 u131 s132 e133 => ?_)
  replace h := h z128 e129 w130 u131 s132 e133
  have g134 : gT s132 z128 = 1 := by rw [e133, gT_pNew, if_pos e129]
  have g135 : gT s126 a0 = 102 := by rw [e127]; exact g125
  have g136 : gT s132 a0 = 102 := by rw [e133, gT_pNew, if_neg (fun c => by have := u131 _ (show gT s126 a0 ≠ 0 by rw [g135]; decide); rw [e129] at this; omega)]; exact g135
  refine pf_X2_51 X hin g136 (Or.inr hp0) g9 dX2_init_113 (fun s137 e138 => ?_)
  replace h := h s137 e138
  refine r_aload_n X 0 dX2_init_116 rfl rfl ?_
  refine r_bipush (v := 36) X dX2_init_117 rfl ?_
  refine r_newa X 1 .int (by decide) rfl q224 tn_36 (by decide +kernel) (Nat.le_of_ble_eq_true rfl) ⟨Nat.le_of_ble_eq_true rfl, Nat.le_of_ble_eq_true rfl⟩ dX2_init_119 (fun z139 e140 w141 u142 s143 e144 => ?_)
  replace h := h z139 e140 w141 u142 s143 e144
  have g145 : gT s143 z139 = 1 := by rw [e144, gT_pNew, if_pos e140]
  have g146 : gT s137 a0 = 102 := by rw [e138]; exact g136
  have g147 : gT s143 a0 = 102 := by rw [e144, gT_pNew, if_neg (fun c => by have := u142 _ (show gT s137 a0 ≠ 0 by rw [g146]; decide); rw [e140] at this; omega)]; exact g146
  refine pf_X2_54 X hin g147 (Or.inr hp0) g9 dX2_init_121 (fun s148 e149 => ?_)
  replace h := h s148 e149
  refine r_aload_n X 0 dX2_init_124 rfl rfl ?_
  refine r_bipush (v := 36) X dX2_init_125 rfl ?_
  refine r_newa X 1 .int (by decide) rfl q224 tn_36 (by decide +kernel) (Nat.le_of_ble_eq_true rfl) ⟨Nat.le_of_ble_eq_true rfl, Nat.le_of_ble_eq_true rfl⟩ dX2_init_127 (fun z150 e151 w152 u153 s154 e155 => ?_)
  replace h := h z150 e151 w152 u153 s154 e155
  have g156 : gT s154 z150 = 1 := by rw [e155, gT_pNew, if_pos e151]
  have g157 : gT s148 a0 = 102 := by rw [e149]; exact g147
  have g158 : gT s154 a0 = 102 := by rw [e155, gT_pNew, if_neg (fun c => by have := u153 _ (show gT s148 a0 ≠ 0 by rw [g157]; decide); rw [e151] at this; omega)]; exact g157
  refine pf_X2_57 X hin g158 (Or.inr hp0) g9 dX2_init_129 (fun s159 e160 => ?_)
  replace h := h s159 e160
  refine r_aload_n X 0 dX2_init_132 rfl rfl ?_
  refine r_bipush (v := 6) X dX2_init_133 rfl ?_
  refine r_newa X 3 .boolean (by decide) rfl q1448 tn_6 (by decide +kernel) (Nat.le_of_ble_eq_true rfl) ⟨Nat.le_of_ble_eq_true rfl, Nat.le_of_ble_eq_true rfl⟩ dX2_init_135 (fun z161 e162 w163 u164 s165 e166 => ?_)
  replace h := h z161 e162 w163 u164 s165 e166
  have g167 : gT s165 z161 = 3 := by rw [e166, gT_pNew, if_pos e162]
  have g168 : gT s159 a0 = 102 := by rw [e160]; exact g158
  have g169 : gT s165 a0 = 102 := by rw [e166, gT_pNew, if_neg (fun c => by have := u164 _ (show gT s159 a0 ≠ 0 by rw [g168]; decide); rw [e162] at this; omega)]; exact g168
  refine pf_X2_60 X hin g169 (Or.inr hp0) g9 dX2_init_137 (fun s170 e171 => ?_)
  replace h := h s170 e171
  refine r_aload_n X 0 dX2_init_140 rfl rfl ?_
  refine r_bipush (v := 32) X dX2_init_141 rfl ?_
  refine r_newa X 1 .int (by decide) rfl q224 tn_32 (by decide +kernel) (Nat.le_of_ble_eq_true rfl) ⟨Nat.le_of_ble_eq_true rfl, Nat.le_of_ble_eq_true rfl⟩ dX2_init_143 (fun z172 e173 w174 u175 s176 e177 => ?_)
  replace h := h z172 e173 w174 u175 s176 e177
  have g178 : gT s176 z172 = 1 := by rw [e177, gT_pNew, if_pos e173]
  have g179 : gT s170 a0 = 102 := by rw [e171]; exact g169
  have g180 : gT s176 a0 = 102 := by rw [e177, gT_pNew, if_neg (fun c => by have := u175 _ (show gT s170 a0 ≠ 0 by rw [g179]; decide); rw [e173] at this; omega)]; exact g179
  refine pf_X2_64 X hin g180 (Or.inr hp0) g9 dX2_init_145 (fun s181 e182 => ?_)
  replace h := h s181 e182
  refine r_aload_n X 0 dX2_init_148 rfl rfl ?_
  refine r_iconst (v := 4) X dX2_init_149 rfl ?_
  refine r_newa X 1 .int (by decide) rfl q224 tn_4 (by decide +kernel) (Nat.le_of_ble_eq_true rfl) ⟨Nat.le_of_ble_eq_true rfl, Nat.le_of_ble_eq_true rfl⟩ dX2_init_150 (fun z183 e184 w185 u186 s187 e188 => ?_)
  replace h := h z183 e184 w185 u186 s187 e188
  have g189 : gT s187 z183 = 1 := by rw [e188, gT_pNew, if_pos e184]
  have g190 : gT s181 a0 = 102 := by rw [e182]; exact g180
  have g191 : gT s187 a0 = 102 := by rw [e188, gT_pNew, if_neg (fun c => by have := u186 _ (show gT s181 a0 ≠ 0 by rw [g190]; decide); rw [e184] at this; omega)]; exact g190
  refine pf_X2_67 X hin g191 (Or.inr hp0) g9 dX2_init_152 (fun s192 e193 => ?_)
  replace h := h s192 e193
  refine r_aload_n X 0 dX2_init_155 rfl rfl ?_
  refine r_bipush (v := 6) X dX2_init_156 rfl ?_
  refine r_newa X 1 .int (by decide) rfl q224 tn_6 (by decide +kernel) (Nat.le_of_ble_eq_true rfl) ⟨Nat.le_of_ble_eq_true rfl, Nat.le_of_ble_eq_true rfl⟩ dX2_init_158 (fun z194 e195 w196 u197 s198 e199 => ?_)
  replace h := h z194 e195 w196 u197 s198 e199
  have g200 : gT s198 z194 = 1 := by rw [e199, gT_pNew, if_pos e195]
  have g201 : gT s192 a0 = 102 := by rw [e193]; exact g191
  have g202 : gT s198 a0 = 102 := by rw [e199, gT_pNew, if_neg (fun c => by have := u197 _ (show gT s192 a0 ≠ 0 by rw [g201]; decide); rw [e195] at this; omega)]; exact g201
  refine pf_X2_70 X hin g202 (Or.inr hp0) g9 dX2_init_160 (fun s203 e204 => ?_)
  replace h := h s203 e204
  refine r_aload_n X 0 dX2_init_163 rfl rfl ?_
  refine r_bipush (v := 17) X dX2_init_164 rfl ?_
  refine r_newa X 4 .long (by decide) rfl q311 tn_17 (by decide +kernel) (Nat.le_of_ble_eq_true rfl) ⟨Nat.le_of_ble_eq_true rfl, Nat.le_of_ble_eq_true rfl⟩ dX2_init_166 (fun z205 e206 w207 u208 s209 e210 => ?_)
  replace h := h z205 e206 w207 u208 s209 e210
  have g211 : gT s209 z205 = 4 := by rw [e210, gT_pNew, if_pos e206]
  have g212 : gT s203 a0 = 102 := by rw [e204]; exact g202
  have g213 : gT s209 a0 = 102 := by rw [e210, gT_pNew, if_neg (fun c => by have := u208 _ (show gT s203 a0 ≠ 0 by rw [g212]; decide); rw [e206] at this; omega)]; exact g212
  refine pf_X2_73 X hin g213 (Or.inr hp0) g9 dX2_init_168 (fun s214 e215 => ?_)
  replace h := h s214 e215
  refine r_aload_n X 0 dX2_init_171 rfl rfl ?_
  have g216 : gT s214 a0 = 102 := by rw [e215]; exact g213
  refine gf_X2_7 X g216 dX2_init_172 ?_
  obtain ⟨q217, g218, h⟩ := h
  refine r_top (show va_rf (gR s214 a0 0) = Value.ref q217 by rw [g218]; rfl) ?_
  refine r_iconst (v := 3) X dX2_init_175 rfl ?_
  refine r_iconst (v := 1) X dX2_init_176 rfl ?_
  obtain ⟨g219, h⟩ := h
  obtain ⟨g220, h⟩ := h
  obtain ⟨g221, h⟩ := h
  refine r_iast X g219 g220 g221 dX2_init_177 (fun s222 e223 => ?_)
  replace h := h s222 e223
  refine r_aload_n X 0 dX2_init_178 rfl rfl ?_
  have g224 : gT s222 a0 = 102 := by rw [e223]; exact g216
  refine gf_X2_7 X g224 dX2_init_179 ?_
  obtain ⟨q225, g226, h⟩ := h
  refine r_top (show va_rf (gR s222 a0 0) = Value.ref q225 by rw [g226]; rfl) ?_
  refine r_iconst (v := 5) X dX2_init_182 rfl ?_
  refine r_bipush (v := 19) X dX2_init_183 rfl ?_
  obtain ⟨g227, h⟩ := h
  obtain ⟨g228, h⟩ := h
  obtain ⟨g229, h⟩ := h
  refine r_iast X g227 g228 g229 dX2_init_185 (fun s230 e231 => ?_)
  replace h := h s230 e231
  refine r_aload_n X 0 dX2_init_186 rfl rfl ?_
  have g232 : gT s230 a0 = 102 := by rw [e231]; exact g224
  refine gf_X2_7 X g232 dX2_init_187 ?_
  obtain ⟨q233, g234, h⟩ := h
  refine r_top (show va_rf (gR s230 a0 0) = Value.ref q233 by rw [g234]; rfl) ?_
  refine r_bipush (v := 7) X dX2_init_190 rfl ?_
  refine r_iconst (v := (-1)) X dX2_init_192 rfl ?_
  obtain ⟨g235, h⟩ := h
  obtain ⟨g236, h⟩ := h
  obtain ⟨g237, h⟩ := h
  refine r_iast X g235 g236 g237 dX2_init_193 (fun s238 e239 => ?_)
  replace h := h s238 e239
  refine r_aload_n X 0 dX2_init_194 rfl rfl ?_
  have g240 : gT s238 a0 = 102 := by rw [e239]; exact g232
  refine gf_X2_7 X g240 dX2_init_195 ?_
  obtain ⟨q241, g242, h⟩ := h
  refine r_top (show va_rf (gR s238 a0 0) = Value.ref q241 by rw [g242]; rfl) ?_
  refine r_sipush (v := 242) X dX2_init_198 rfl ?_
  refine r_iconst (v := (-1)) X dX2_init_201 rfl ?_
  obtain ⟨g243, h⟩ := h
  obtain ⟨g244, h⟩ := h
  obtain ⟨g245, h⟩ := h
  refine r_iast X g243 g244 g245 dX2_init_202 (fun s246 e247 => ?_)
  replace h := h s246 e247
  refine r_aload_n X 0 dX2_init_203 rfl rfl ?_
  have g248 : gT s246 a0 = 102 := by rw [e247]; exact g240
  refine gf_X2_7 X g248 dX2_init_204 ?_
  obtain ⟨q249, g250, h⟩ := h
  refine r_top (show va_rf (gR s246 a0 0) = Value.ref q249 by rw [g250]; rfl) ?_
  refine r_aload_n X 0 dX2_init_207 rfl rfl ?_
  refine gf_X2_13 X g248 dX2_init_208 ?_
  obtain ⟨q251, g252, h⟩ := h
  refine r_top (show va_rf (gR s246 a0 1) = Value.ref q251 by rw [g252]; rfl) ?_
  refine r_cv X (r_okS (As := [.ref q249, .ref q251]) (rest := []) X (m_X2_copy (xl x) G X.2.2.2.2.1 q249 q251 s246 _ h) (cl_X2_76 X ⟨(Nat.le_of_ble_eq_true rfl), (Nat.le_of_ble_eq_true rfl)⟩) rfl rfl (Nat.le_of_ble_eq_true rfl) dX2_init_211 ⟨Nat.le_of_ble_eq_true rfl, Nat.le_of_ble_eq_true rfl⟩) (fun s253 h => ?_)
  exact r_vret X h (Nat.le_of_ble_eq_true rfl) (Nat.le_of_ble_eq_true rfl) dX2_init_214
theorem m_X2_init (l : Launch) (G : GT) (g : GK G) (hp0 : kP G ≠ 1) (a0 : Nat) (s : PS) (Q : PS → Prop) (h : w_X2_init G a0 s Q) : Met l yX2_init (ws_ yX2_init cX2_init 1 none) rm_X2_init (va_Pc [.ref a0] (Wr G s)) (va_Qv Q (fun u t => Wr G u t) (kF G)) 19 15108 (kF G) := by
  refine Met.ofW (cc := cX2_init) (maxL := 1) (ret := none) (by decide) rfl ?_
  intro p e s0 m args below meth c s₁ B hml hv
  obtain ⟨rfl, hw⟩ := hv
  exact wb_of [.ref a0] (Nat.le_of_ble_eq_true rfl) hw.1 rfl (e_X2_init (cx_of g B hml rfl hw) hp0 (name_of_methodNamed B.named B.method).1 a0 s Q h)
theorem e_X2_isIn {x : CT} {G : GT} (X : Cx x G cX2_isIn 3 RX2 (some .boolean) rm_X2_isIn) (p1 : Int32) (p2 : Int32) (p3 : Int32) (s : PS) (Q : Int32 → PS → Prop) (h : w_X2_isIn G p1 p2 p3 s Q) : WB x G 3 (QfI x G 0 0 (fun r u => (r = 0 ∨ r = 1) ∧ Q r u)) 0 0 s 0 [(0, .int p1), (1, .int p2), (2, .int p3)] [] := by
  unfold w_X2_isIn at h
  refine r_iload_n X 0 dX2_isIn_0 rfl rfl ?_
  refine r_iload_n X 1 dX2_isIn_1 rfl rfl ?_
  have hJ : WB x G 3 (QfI x G 0 0 (fun r u => (r = 0 ∨ r = 1) ∧ Q r u)) 0 0 s 15 [(0, .int p1), (1, .int p2), (2, .int p3)] [.int (if p1 < p2 then 0 else (if p3 < p1 then 0 else 1 : Int32) : Int32)] := by
    exact r_zret X (by (repeat' split) <;> first | exact Or.inl rfl | exact Or.inr rfl) h (Nat.le_of_ble_eq_true rfl) (Nat.le_of_ble_eq_true rfl) dX2_isIn_15
  refine r_ic_lt X 14 dX2_isIn_2 (by decide) (fun c2 => ?_) (fun c2 => ?_)
  · rw [if_pos c2] at hJ
    refine r_iconst (v := 0) X dX2_isIn_14 rfl ?_
    exact hJ
  · rw [if_neg c2] at hJ
    refine r_iload_n X 0 dX2_isIn_5 rfl rfl ?_
    refine r_iload_n X 2 dX2_isIn_6 rfl rfl ?_
    refine r_ic_gt X 14 dX2_isIn_7 (by decide) (fun c1 => ?_) (fun c1 => ?_)
    · rw [if_pos c1] at hJ
      refine r_iconst (v := 0) X dX2_isIn_14 rfl ?_
      exact hJ
    · rw [if_neg c1] at hJ
      refine r_iconst (v := 1) X dX2_isIn_10 rfl ?_
      refine r_goto X 15 dX2_isIn_11 (by decide) ?_
      exact hJ
theorem m_X2_isIn (l : Launch) (G : GT) (g : GK G) (p1 : Int32) (p2 : Int32) (p3 : Int32) (s : PS) (Q : Int32 → PS → Prop) (h : w_X2_isIn G p1 p2 p3 s Q) : Met l yX2_isIn (ws_ yX2_isIn cX2_isIn 3 (some .boolean)) rm_X2_isIn (va_Pc [.int p1, .int p2, .int p3] (Wr G s)) (va_Qi (fun r u => (r = 0 ∨ r = 1) ∧ Q r u) (fun u t => Wr G u t) (kF G)) 0 0 (kF G) := by
  refine Met.ofW (cc := cX2_isIn) (maxL := 3) (ret := (some .boolean)) (by decide) rfl ?_
  intro p e s0 m args below meth c s₁ B hml hv
  obtain ⟨rfl, hw⟩ := hv
  exact wb_of [.int p1, .int p2, .int p3] (Nat.le_of_ble_eq_true rfl) hw.1 rfl (e_X2_isIn (cx_of g B hml rfl hw) p1 p2 p3 s Q h)
theorem tl_X2_heart_43 {x : CT} {G : GT} (X : Cx x G cX2_heart 4 RX2 (some .int) rm_X2_heart) (hph : kP G = 1) (Q : Int32 → PS → Prop) (v2 : Int32) : ∀ (n : Nat) (v3 : Int32) (s : PS) (h : l_X2_heart_43 G Q v2 n v3 s), WB x G 4 (QfI x G 0 0 Q) 0 0 s 43 [(0, .ref (kB G + 182)), (2, .int v2), (3, .int v3)] [] := by
  intro n
  induction n with
  | zero =>
    intro v3 s h
    exact False.elim h
  | succ n ih =>
    intro v3 s h
    unfold l_X2_heart_43 at h
    refine r_iload_n X 2 dX2_heart_43 rfl rfl ?_
    refine r_bipush (v := 6) X dX2_heart_44 rfl ?_
    refine r_ic_ge X 85 dX2_heart_46 (by decide) (fun c1 => ?_) (fun c1 => ?_)
    · replace h := h.1 c1
      refine r_aload_n X 0 dX2_heart_85 rfl rfl ?_
      refine gr_X2_7 X hph 13 182 183 ly_182 rfl rfl dX2_heart_86 ?_
      refine r_iconst (v := 0) X dX2_heart_89 rfl ?_
      refine r_dup2 X dX2_heart_90 rfl rfl ?_
      refine r_ialdL X hph 183 5544 ly_183 tn_0 il_0_5544 dX2_heart_91 ?_
      refine r_iconst (v := 1) X dX2_heart_92 rfl ?_
      refine r_iadd X dX2_heart_93 ?_
      refine r_iastL X hph 183 5544 ly_183 tn_0 il_0_5544 dX2_heart_94 (fun s2 e3 => ?_)
      replace h := h s2 e3
      refine r_iload_n X 1 dX2_heart_95 rfl rfl ?_
      exact r_iret X h (Nat.le_of_ble_eq_true rfl) (Nat.le_of_ble_eq_true rfl) dX2_heart_96
    · replace h := h.2 c1
      refine r_aload_n X 0 dX2_heart_49 rfl rfl ?_
      refine gr_X2_7 X hph 13 182 183 ly_182 rfl rfl dX2_heart_50 ?_
      refine r_bipush (v := 18) X dX2_heart_53 rfl ?_
      refine r_bipush (v := 6) X dX2_heart_55 rfl ?_
      refine r_iload_n X 1 dX2_heart_57 rfl rfl ?_
      refine r_imul X dX2_heart_58 ?_
      refine r_iadd X dX2_heart_59 ?_
      refine r_iload_n X 2 dX2_heart_60 rfl rfl ?_
      refine r_iadd X dX2_heart_61 ?_
      refine r_iconst (v := 0) X dX2_heart_62 rfl ?_
      obtain ⟨g4, h⟩ := h
      refine r_iastL X hph 183 5544 ly_183 rfl g4 dX2_heart_63 (fun s5 e6 => ?_)
      replace h := h s5 e6
      refine r_aload_n X 0 dX2_heart_64 rfl rfl ?_
      refine gr_X2_7 X hph 13 182 183 ly_182 rfl rfl dX2_heart_65 ?_
      refine r_bipush (v := 18) X dX2_heart_68 rfl ?_
      refine r_bipush (v := 6) X dX2_heart_70 rfl ?_
      refine r_iload_n X 2 dX2_heart_72 rfl rfl ?_
      refine r_imul X dX2_heart_73 ?_
      refine r_iadd X dX2_heart_74 ?_
      refine r_iload_n X 1 dX2_heart_75 rfl rfl ?_
      refine r_iadd X dX2_heart_76 ?_
      refine r_iconst (v := 0) X dX2_heart_77 rfl ?_
      obtain ⟨g7, h⟩ := h
      refine r_iastL X hph 183 5544 ly_183 rfl g7 dX2_heart_78 (fun s8 e9 => ?_)
      replace h := h s8 e9
      refine r_iinc (lv' := [(3, .int (v3 + 1)), (0, .ref (kB G + 182)), (2, .int v2)]) X 2 dX2_heart_79 rfl rfl (Nat.le_of_ble_eq_true rfl) rfl ?_
      refine r_goto X 43 dX2_heart_82 (by decide) ?_
      refine r_sub [1, 2, 0] rfl ?_
      exact ih (v3 + 1) s8 h
theorem e_X2_heart {x : CT} {G : GT} (X : Cx x G cX2_heart 4 RX2 (some .int) rm_X2_heart) (hph : kP G = 1) (p1 : Int32) (s : PS) (Q : Int32 → PS → Prop) (h : w_X2_heart G p1 s Q) : WB x G 4 (QfI x G 0 0 Q) 0 0 s 0 [(0, .ref (kB G + 182)), (1, .int p1)] [] := by
  unfold w_X2_heart at h
  refine r_iload_n X 1 dX2_heart_0 rfl rfl ?_
  refine r_iconst (v := 0) X dX2_heart_1 rfl ?_
  refine r_sipush (v := 999) X dX2_heart_2 rfl ?_
  refine r_ci X (r_okS (As := [.int p1, .int 0, .int 999]) (rest := []) X (m_X2_isIn (xl x) G X.2.2.2.2.1 p1 0 999 s _ h) (cl_X2_80 X ⟨(Nat.le_of_ble_eq_true rfl), (Nat.le_of_ble_eq_true rfl)⟩) rfl rfl (Nat.le_of_ble_eq_true rfl) dX2_heart_5 ⟨Nat.le_of_ble_eq_true rfl, Nat.le_of_ble_eq_true rfl⟩) (fun r2 s1 h => ?_)
  obtain ⟨z3, h⟩ := h
  refine r_if_eq X 22 dX2_heart_8 (by decide) (fun c4 => ?_) (fun c4 => ?_)
  · replace h := h.1 c4
    refine r_iconst (v := (-1)) X dX2_heart_22 rfl ?_
    exact r_iret X h (Nat.le_of_ble_eq_true rfl) (Nat.le_of_ble_eq_true rfl) dX2_heart_23
  · replace h := h.2 c4
    refine r_aload_n X 0 dX2_heart_11 rfl rfl ?_
    refine gr_X2_7 X hph 13 182 183 ly_182 rfl rfl dX2_heart_12 ?_
    refine r_iconst (v := 0) X dX2_heart_15 rfl ?_
    refine r_ialdL X hph 183 5544 ly_183 tn_0 il_0_5544 dX2_heart_16 ?_
    refine r_bipush (v := 6) X dX2_heart_17 rfl ?_
    refine r_ic_ne X 24 dX2_heart_19 (by decide) (fun c5 => ?_) (fun c5 => ?_)
    · replace h := h.2 c5
      refine r_aload_n X 0 dX2_heart_24 rfl rfl ?_
      refine gr_X2_7 X hph 13 182 183 ly_182 rfl rfl dX2_heart_25 ?_
      refine r_iconst (v := 0) X dX2_heart_28 rfl ?_
      refine r_ialdL X hph 183 5544 ly_183 tn_0 il_0_5544 dX2_heart_29 ?_
      refine r_nmI (fun y6 e7 => ?_)
      replace h := h y6 e7
      refine r_istore_n (lv' := [(2, .int y6), (0, .ref (kB G + 182)), (1, .int p1)]) X dX2_heart_30 rfl (Nat.le_of_ble_eq_true rfl) rfl ?_
      refine r_aload_n X 1 dX2_heart_31 rfl rfl ?_
      refine gr_X2_7 X hph 13 182 183 ly_182 rfl rfl dX2_heart_32 ?_
      refine r_bipush (v := 12) X dX2_heart_35 rfl ?_
      refine r_iload_n X 0 dX2_heart_37 rfl rfl ?_
      refine r_iadd X dX2_heart_38 ?_
      refine r_iload_n X 2 dX2_heart_39 rfl rfl ?_
      obtain ⟨g8, h⟩ := h
      refine r_iastL X hph 183 5544 ly_183 rfl g8 dX2_heart_40 (fun s9 e10 => ?_)
      replace h := h s9 e10
      refine r_iconst (v := 0) X dX2_heart_41 rfl ?_
      refine r_istore_n (lv' := [(3, .int 0), (2, .int y6), (0, .ref (kB G + 182)), (1, .int p1)]) X dX2_heart_42 rfl (Nat.le_of_ble_eq_true rfl) rfl ?_
      refine r_sub [2, 1, 0] rfl ?_
      obtain ⟨n11, h⟩ := h
      exact tl_X2_heart_43 X hph Q y6 n11 0 s9 h
    · replace h := h.1 c5
      refine r_iconst (v := (-1)) X dX2_heart_22 rfl ?_
      exact r_iret X h (Nat.le_of_ble_eq_true rfl) (Nat.le_of_ble_eq_true rfl) dX2_heart_23
theorem m_X2_heart (l : Launch) (G : GT) (g : GK G) (hph : kP G = 1) (p1 : Int32) (s : PS) (Q : Int32 → PS → Prop) (h : w_X2_heart G p1 s Q) : Met l yX2_heart (ws_ yX2_heart cX2_heart 4 (some .int)) rm_X2_heart (va_Pc [.ref (kB G + 182), .int p1] (Wr G s)) (va_Qi Q (fun u t => Wr G u t) (kF G)) 0 0 (kF G) := by
  refine Met.ofW (cc := cX2_heart) (maxL := 4) (ret := (some .int)) (by decide) rfl ?_
  intro p e s0 m args below meth c s₁ B hml hv
  obtain ⟨rfl, hw⟩ := hv
  exact wb_of [.ref (kB G + 182), .int p1] (Nat.le_of_ble_eq_true rfl) hw.1 rfl (e_X2_heart (cx_of g B hml rfl hw) hph p1 s Q h)
theorem e_X2_isHeart {x : CT} {G : GT} (X : Cx x G cX2_isHeart 2 RX2 (some .boolean) rm_X2_isHeart) (hph : kP G = 1) (p1 : Int32) (s : PS) (Q : Int32 → PS → Prop) (h : w_X2_isHeart G p1 s Q) : WB x G 2 (QfI x G 0 0 (fun r u => (r = 0 ∨ r = 1) ∧ Q r u)) 0 0 s 0 [(0, .ref (kB G + 182)), (1, .int p1)] [] := by
  unfold w_X2_isHeart at h
  refine r_iload_n X 1 dX2_isHeart_0 rfl rfl ?_
  refine r_iconst (v := 0) X dX2_isHeart_1 rfl ?_
  refine r_aload_n X 0 dX2_isHeart_2 rfl rfl ?_
  refine gr_X2_7 X hph 13 182 183 ly_182 rfl rfl dX2_isHeart_3 ?_
  refine r_iconst (v := 0) X dX2_isHeart_6 rfl ?_
  refine r_ialdL X hph 183 5544 ly_183 tn_0 il_0_5544 dX2_isHeart_7 ?_
  refine r_iconst (v := 1) X dX2_isHeart_8 rfl ?_
  refine r_isub X dX2_isHeart_9 ?_
  refine r_ci X (r_okS (As := [.int p1, .int 0, .int ((gI s (kB G + 183) 0) - 1)]) (rest := []) X (m_X2_isIn (xl x) G X.2.2.2.2.1 p1 0 ((gI s (kB G + 183) 0) - 1) s _ h) (cl_X2_80 X ⟨(Nat.le_of_ble_eq_true rfl), (Nat.le_of_ble_eq_true rfl)⟩) rfl rfl (Nat.le_of_ble_eq_true rfl) dX2_isHeart_10 ⟨Nat.le_of_ble_eq_true rfl, Nat.le_of_ble_eq_true rfl⟩) (fun r2 s1 h => ?_)
  obtain ⟨z3, h⟩ := h
  exact r_zret X z3 h (Nat.le_of_ble_eq_true rfl) (Nat.le_of_ble_eq_true rfl) dX2_isHeart_13
theorem m_X2_isHeart (l : Launch) (G : GT) (g : GK G) (hph : kP G = 1) (p1 : Int32) (s : PS) (Q : Int32 → PS → Prop) (h : w_X2_isHeart G p1 s Q) : Met l yX2_isHeart (ws_ yX2_isHeart cX2_isHeart 2 (some .boolean)) rm_X2_isHeart (va_Pc [.ref (kB G + 182), .int p1] (Wr G s)) (va_Qi (fun r u => (r = 0 ∨ r = 1) ∧ Q r u) (fun u t => Wr G u t) (kF G)) 0 0 (kF G) := by
  refine Met.ofW (cc := cX2_isHeart) (maxL := 2) (ret := (some .boolean)) (by decide) rfl ?_
  intro p e s0 m args below meth c s₁ B hml hv
  obtain ⟨rfl, hw⟩ := hv
  exact wb_of [.ref (kB G + 182), .int p1] (Nat.le_of_ble_eq_true rfl) hw.1 rfl (e_X2_isHeart (cx_of g B hml rfl hw) hph p1 s Q h)
theorem tb_X2_deed_60 {x : CT} {G : GT} (X : Cx x G cX2_deed 7 RX2 (some .int) rm_X2_deed) (hph : kP G = 1) (Q : Int32 → PS → Prop) (v1 : Int32) (v2 : Int32) (v3 : Int32) (v4 : Int32) (v5 : Int32) (s : PS) (h : b_X2_deed_60 G Q v1 v2 v3 v4 v5 s) : WB x G 7 (QfI x G 0 0 Q) 0 0 s 60 [(0, .ref (kB G + 182)), (1, .int v1), (2, .int v2), (3, .int v3), (4, .int v4), (5, .int v5)] [] := by
  unfold b_X2_deed_60 at h
  refine r_aload_n X 0 dX2_deed_60 rfl rfl ?_
  refine gr_X2_7 X hph 13 182 183 ly_182 rfl rfl dX2_deed_61 ?_
  refine r_iconst (v := 1) X dX2_deed_64 rfl ?_
  refine r_ialdL X hph 183 5544 ly_183 tn_1 il_1_5544 dX2_deed_65 ?_
  refine r_bipush (v := 24) X dX2_deed_66 rfl ?_
  refine r_ic_ne X 73 dX2_deed_68 (by decide) (fun c1 => ?_) (fun c1 => ?_)
  · replace h := h.2 c1
    refine r_bipush (v := 90) X dX2_deed_73 rfl ?_
    refine r_bipush (v := 6) X dX2_deed_75 rfl ?_
    refine r_aload_n X 0 dX2_deed_77 rfl rfl ?_
    refine gr_X2_7 X hph 13 182 183 ly_182 rfl rfl dX2_deed_78 ?_
    refine r_iconst (v := 1) X dX2_deed_81 rfl ?_
    refine r_ialdL X hph 183 5544 ly_183 tn_1 il_1_5544 dX2_deed_82 ?_
    refine r_imul X dX2_deed_83 ?_
    refine r_iadd X dX2_deed_84 ?_
    refine r_nmI (fun y2 e3 => ?_)
    replace h := h y2 e3
    refine r_istore (lv' := [(6, .int y2), (0, .ref (kB G + 182)), (1, .int v1), (2, .int v2), (3, .int v3), (4, .int v4), (5, .int v5)]) X dX2_deed_85 (Nat.le_of_ble_eq_true rfl) rfl ?_
    refine r_aload_n X 1 dX2_deed_87 rfl rfl ?_
    refine gr_X2_7 X hph 13 182 183 ly_182 rfl rfl dX2_deed_88 ?_
    refine r_iload X 0 dX2_deed_91 rfl ?_
    refine r_iload_n X 2 dX2_deed_93 rfl rfl ?_
    obtain ⟨g4, h⟩ := h
    refine r_iastL X hph 183 5544 ly_183 rfl g4 dX2_deed_94 (fun s5 e6 => ?_)
    replace h := h s5 e6
    refine r_aload_n X 1 dX2_deed_95 rfl rfl ?_
    refine gr_X2_7 X hph 13 182 183 ly_182 rfl rfl dX2_deed_96 ?_
    refine r_iload X 0 dX2_deed_99 rfl ?_
    refine r_iconst (v := 1) X dX2_deed_101 rfl ?_
    refine r_iadd X dX2_deed_102 ?_
    refine r_iload_n X 3 dX2_deed_103 rfl rfl ?_
    obtain ⟨g7, h⟩ := h
    refine r_iastL X hph 183 5544 ly_183 rfl g7 dX2_deed_104 (fun s8 e9 => ?_)
    replace h := h s8 e9
    refine r_aload_n X 1 dX2_deed_105 rfl rfl ?_
    refine gr_X2_7 X hph 13 182 183 ly_182 rfl rfl dX2_deed_106 ?_
    refine r_iload X 0 dX2_deed_109 rfl ?_
    refine r_iconst (v := 2) X dX2_deed_111 rfl ?_
    refine r_iadd X dX2_deed_112 ?_
    refine r_iload_n X 4 dX2_deed_113 rfl rfl ?_
    obtain ⟨g10, h⟩ := h
    refine r_iastL X hph 183 5544 ly_183 rfl g10 dX2_deed_114 (fun s11 e12 => ?_)
    replace h := h s11 e12
    refine r_aload_n X 1 dX2_deed_115 rfl rfl ?_
    refine gr_X2_7 X hph 13 182 183 ly_182 rfl rfl dX2_deed_116 ?_
    refine r_iload X 0 dX2_deed_119 rfl ?_
    refine r_iconst (v := 3) X dX2_deed_121 rfl ?_
    refine r_iadd X dX2_deed_122 ?_
    refine r_iload X 5 dX2_deed_123 rfl ?_
    obtain ⟨g13, h⟩ := h
    refine r_iastL X hph 183 5544 ly_183 rfl g13 dX2_deed_125 (fun s14 e15 => ?_)
    replace h := h s14 e15
    refine r_aload_n X 1 dX2_deed_126 rfl rfl ?_
    refine gr_X2_7 X hph 13 182 183 ly_182 rfl rfl dX2_deed_127 ?_
    refine r_iload X 0 dX2_deed_130 rfl ?_
    refine r_iconst (v := 4) X dX2_deed_132 rfl ?_
    refine r_iadd X dX2_deed_133 ?_
    refine r_iload X 6 dX2_deed_134 rfl ?_
    obtain ⟨g16, h⟩ := h
    refine r_iastL X hph 183 5544 ly_183 rfl g16 dX2_deed_136 (fun s17 e18 => ?_)
    replace h := h s17 e18
    refine r_aload_n X 1 dX2_deed_137 rfl rfl ?_
    refine gr_X2_7 X hph 13 182 183 ly_182 rfl rfl dX2_deed_138 ?_
    refine r_iload X 0 dX2_deed_141 rfl ?_
    refine r_iconst (v := 5) X dX2_deed_143 rfl ?_
    refine r_iadd X dX2_deed_144 ?_
    refine r_iconst (v := 0) X dX2_deed_145 rfl ?_
    obtain ⟨g19, h⟩ := h
    refine r_iastL X hph 183 5544 ly_183 rfl g19 dX2_deed_146 (fun s20 e21 => ?_)
    replace h := h s20 e21
    refine r_aload_n X 1 dX2_deed_147 rfl rfl ?_
    refine gr_X2_7 X hph 13 182 183 ly_182 rfl rfl dX2_deed_148 ?_
    refine r_iconst (v := 1) X dX2_deed_151 rfl ?_
    refine r_dup2 X dX2_deed_152 rfl rfl ?_
    refine r_ialdL X hph 183 5544 ly_183 tn_1 il_1_5544 dX2_deed_153 ?_
    refine r_iconst (v := 1) X dX2_deed_154 rfl ?_
    refine r_iadd X dX2_deed_155 ?_
    refine r_iastL X hph 183 5544 ly_183 tn_1 il_1_5544 dX2_deed_156 (fun s22 e23 => ?_)
    replace h := h s22 e23
    refine r_aload_n X 1 dX2_deed_157 rfl rfl ?_
    refine gr_X2_7 X hph 13 182 183 ly_182 rfl rfl dX2_deed_158 ?_
    refine r_iconst (v := 1) X dX2_deed_161 rfl ?_
    refine r_ialdL X hph 183 5544 ly_183 tn_1 il_1_5544 dX2_deed_162 ?_
    refine r_iconst (v := 1) X dX2_deed_163 rfl ?_
    refine r_isub X dX2_deed_164 ?_
    exact r_iret X h (Nat.le_of_ble_eq_true rfl) (Nat.le_of_ble_eq_true rfl) dX2_deed_165
  · replace h := h.1 c1
    refine r_iconst (v := (-1)) X dX2_deed_71 rfl ?_
    exact r_iret X h (Nat.le_of_ble_eq_true rfl) (Nat.le_of_ble_eq_true rfl) dX2_deed_72
theorem e_X2_deed {x : CT} {G : GT} (X : Cx x G cX2_deed 7 RX2 (some .int) rm_X2_deed) (hph : kP G = 1) (p1 : Int32) (p2 : Int32) (p3 : Int32) (p4 : Int32) (p5 : Int32) (s : PS) (Q : Int32 → PS → Prop) (h : w_X2_deed G p1 p2 p3 p4 p5 s Q) : WB x G 7 (QfI x G 0 0 Q) 0 0 s 0 [(0, .ref (kB G + 182)), (1, .int p1), (2, .int p2), (3, .int p3), (4, .int p4), (5, .int p5)] [] := by
  unfold w_X2_deed at h
  refine r_aload_n X 0 dX2_deed_0 rfl rfl ?_
  refine r_iload_n X 1 dX2_deed_1 rfl rfl ?_
  refine r_ci X (r_okVL (As := [.int p1]) (rest := []) X (m_X2_isHeart (xl x) G X.2.2.2.2.1 hph p1 s _ h) (cl_X2_88 X ⟨(Nat.le_of_ble_eq_true rfl), (Nat.le_of_ble_eq_true rfl)⟩) hph 2 ly_182 rfl rfl rfl rfl (Nat.le_of_ble_eq_true rfl) dX2_deed_2 ⟨Nat.le_of_ble_eq_true rfl, Nat.le_of_ble_eq_true rfl⟩) (fun r2 s1 h => ?_)
  obtain ⟨z3, h⟩ := h
  refine r_if_eq X 71 dX2_deed_5 (by decide) (fun c4 => ?_) (fun c4 => ?_)
  · replace h := h.1 c4
    refine r_iconst (v := (-1)) X dX2_deed_71 rfl ?_
    exact r_iret X h (Nat.le_of_ble_eq_true rfl) (Nat.le_of_ble_eq_true rfl) dX2_deed_72
  · replace h := h.2 c4
    refine r_iload_n X 2 dX2_deed_8 rfl rfl ?_
    refine r_iconst (v := 0) X dX2_deed_9 rfl ?_
    refine r_bipush (v := 9) X dX2_deed_10 rfl ?_
    refine r_ci X (r_okS (As := [.int p2, .int 0, .int 9]) (rest := []) X (m_X2_isIn (xl x) G X.2.2.2.2.1 p2 0 9 s1 _ h) (cl_X2_80 X ⟨(Nat.le_of_ble_eq_true rfl), (Nat.le_of_ble_eq_true rfl)⟩) rfl rfl (Nat.le_of_ble_eq_true rfl) dX2_deed_12 ⟨Nat.le_of_ble_eq_true rfl, Nat.le_of_ble_eq_true rfl⟩) (fun r6 s5 h => ?_)
    obtain ⟨z7, h⟩ := h
    refine r_if_eq X 71 dX2_deed_15 (by decide) (fun c8 => ?_) (fun c8 => ?_)
    · replace h := h.1 c8
      refine r_iconst (v := (-1)) X dX2_deed_71 rfl ?_
      exact r_iret X h (Nat.le_of_ble_eq_true rfl) (Nat.le_of_ble_eq_true rfl) dX2_deed_72
    · replace h := h.2 c8
      refine r_iload_n X 3 dX2_deed_18 rfl rfl ?_
      refine r_iconst (v := 0) X dX2_deed_19 rfl ?_
      refine r_bipush (v := 99) X dX2_deed_20 rfl ?_
      refine r_ci X (r_okS (As := [.int p3, .int 0, .int 99]) (rest := []) X (m_X2_isIn (xl x) G X.2.2.2.2.1 p3 0 99 s5 _ h) (cl_X2_80 X ⟨(Nat.le_of_ble_eq_true rfl), (Nat.le_of_ble_eq_true rfl)⟩) rfl rfl (Nat.le_of_ble_eq_true rfl) dX2_deed_22 ⟨Nat.le_of_ble_eq_true rfl, Nat.le_of_ble_eq_true rfl⟩) (fun r10 s9 h => ?_)
      obtain ⟨z11, h⟩ := h
      refine r_if_eq X 71 dX2_deed_25 (by decide) (fun c12 => ?_) (fun c12 => ?_)
      · replace h := h.1 c12
        refine r_iconst (v := (-1)) X dX2_deed_71 rfl ?_
        exact r_iret X h (Nat.le_of_ble_eq_true rfl) (Nat.le_of_ble_eq_true rfl) dX2_deed_72
      · replace h := h.2 c12
        refine r_iload X 4 dX2_deed_28 rfl ?_
        refine r_iconst (v := 0) X dX2_deed_30 rfl ?_
        refine r_bipush (v := 7) X dX2_deed_31 rfl ?_
        refine r_ci X (r_okS (As := [.int p4, .int 0, .int 7]) (rest := []) X (m_X2_isIn (xl x) G X.2.2.2.2.1 p4 0 7 s9 _ h) (cl_X2_80 X ⟨(Nat.le_of_ble_eq_true rfl), (Nat.le_of_ble_eq_true rfl)⟩) rfl rfl (Nat.le_of_ble_eq_true rfl) dX2_deed_33 ⟨Nat.le_of_ble_eq_true rfl, Nat.le_of_ble_eq_true rfl⟩) (fun r14 s13 h => ?_)
        obtain ⟨z15, h⟩ := h
        refine r_if_eq X 71 dX2_deed_36 (by decide) (fun c16 => ?_) (fun c16 => ?_)
        · replace h := h.1 c16
          refine r_iconst (v := (-1)) X dX2_deed_71 rfl ?_
          exact r_iret X h (Nat.le_of_ble_eq_true rfl) (Nat.le_of_ble_eq_true rfl) dX2_deed_72
        · replace h := h.2 c16
          refine r_iload X 5 dX2_deed_39 rfl ?_
          refine r_iconst (v := (-1)) X dX2_deed_41 rfl ?_
          refine r_ic_eq X 60 dX2_deed_42 (by decide) (fun c17 => ?_) (fun c17 => ?_)
          · replace h := h.1 c17
            exact tb_X2_deed_60 X hph Q p1 p2 p3 p4 p5 s13 h
          · replace h := h.2 c17
            refine r_aload_n X 0 dX2_deed_45 rfl rfl ?_
            refine r_iload X 5 dX2_deed_46 rfl ?_
            refine r_ci X (r_okVL (As := [.int p5]) (rest := []) X (m_X2_isHeart (xl x) G X.2.2.2.2.1 hph p5 s13 _ h) (cl_X2_88 X ⟨(Nat.le_of_ble_eq_true rfl), (Nat.le_of_ble_eq_true rfl)⟩) hph 2 ly_182 rfl rfl rfl rfl (Nat.le_of_ble_eq_true rfl) dX2_deed_48 ⟨Nat.le_of_ble_eq_true rfl, Nat.le_of_ble_eq_true rfl⟩) (fun r19 s18 h => ?_)
            obtain ⟨z20, h⟩ := h
            refine r_if_eq X 71 dX2_deed_51 (by decide) (fun c21 => ?_) (fun c21 => ?_)
            · replace h := h.1 c21
              refine r_iconst (v := (-1)) X dX2_deed_71 rfl ?_
              exact r_iret X h (Nat.le_of_ble_eq_true rfl) (Nat.le_of_ble_eq_true rfl) dX2_deed_72
            · replace h := h.2 c21
              refine r_iload X 5 dX2_deed_54 rfl ?_
              refine r_iload_n X 1 dX2_deed_56 rfl rfl ?_
              refine r_ic_eq X 71 dX2_deed_57 (by decide) (fun c22 => ?_) (fun c22 => ?_)
              · replace h := h.1 c22
                refine r_iconst (v := (-1)) X dX2_deed_71 rfl ?_
                exact r_iret X h (Nat.le_of_ble_eq_true rfl) (Nat.le_of_ble_eq_true rfl) dX2_deed_72
              · replace h := h.2 c22
                exact tb_X2_deed_60 X hph Q p1 p2 p3 p4 p5 s18 h
theorem m_X2_deed (l : Launch) (G : GT) (g : GK G) (hph : kP G = 1) (p1 : Int32) (p2 : Int32) (p3 : Int32) (p4 : Int32) (p5 : Int32) (s : PS) (Q : Int32 → PS → Prop) (h : w_X2_deed G p1 p2 p3 p4 p5 s Q) : Met l yX2_deed (ws_ yX2_deed cX2_deed 7 (some .int)) rm_X2_deed (va_Pc [.ref (kB G + 182), .int p1, .int p2, .int p3, .int p4, .int p5] (Wr G s)) (va_Qi Q (fun u t => Wr G u t) (kF G)) 0 0 (kF G) := by
  refine Met.ofW (cc := cX2_deed) (maxL := 7) (ret := (some .int)) (by decide) rfl ?_
  intro p e s0 m args below meth c s₁ B hml hv
  obtain ⟨rfl, hw⟩ := hv
  exact wb_of [.ref (kB G + 182), .int p1, .int p2, .int p3, .int p4, .int p5] (Nat.le_of_ble_eq_true rfl) hw.1 rfl (e_X2_deed (cx_of g B hml rfl hw) hph p1 p2 p3 p4 p5 s Q h)
theorem e_X2_isDeed {x : CT} {G : GT} (X : Cx x G cX2_isDeed 2 RX2 (some .boolean) rm_X2_isDeed) (hph : kP G = 1) (p1 : Int32) (s : PS) (Q : Int32 → PS → Prop) (h : w_X2_isDeed G p1 s Q) : WB x G 2 (QfI x G 0 0 (fun r u => (r = 0 ∨ r = 1) ∧ Q r u)) 0 0 s 0 [(0, .ref (kB G + 182)), (1, .int p1)] [] := by
  unfold w_X2_isDeed at h
  refine r_iload_n X 1 dX2_isDeed_0 rfl rfl ?_
  refine r_iconst (v := 0) X dX2_isDeed_1 rfl ?_
  refine r_aload_n X 0 dX2_isDeed_2 rfl rfl ?_
  refine gr_X2_7 X hph 13 182 183 ly_182 rfl rfl dX2_isDeed_3 ?_
  refine r_iconst (v := 1) X dX2_isDeed_6 rfl ?_
  refine r_ialdL X hph 183 5544 ly_183 tn_1 il_1_5544 dX2_isDeed_7 ?_
  refine r_iconst (v := 1) X dX2_isDeed_8 rfl ?_
  refine r_isub X dX2_isDeed_9 ?_
  refine r_ci X (r_okS (As := [.int p1, .int 0, .int ((gI s (kB G + 183) 1) - 1)]) (rest := []) X (m_X2_isIn (xl x) G X.2.2.2.2.1 p1 0 ((gI s (kB G + 183) 1) - 1) s _ h) (cl_X2_80 X ⟨(Nat.le_of_ble_eq_true rfl), (Nat.le_of_ble_eq_true rfl)⟩) rfl rfl (Nat.le_of_ble_eq_true rfl) dX2_isDeed_10 ⟨Nat.le_of_ble_eq_true rfl, Nat.le_of_ble_eq_true rfl⟩) (fun r2 s1 h => ?_)
  obtain ⟨z3, h⟩ := h
  exact r_zret X z3 h (Nat.le_of_ble_eq_true rfl) (Nat.le_of_ble_eq_true rfl) dX2_isDeed_13
theorem m_X2_isDeed (l : Launch) (G : GT) (g : GK G) (hph : kP G = 1) (p1 : Int32) (s : PS) (Q : Int32 → PS → Prop) (h : w_X2_isDeed G p1 s Q) : Met l yX2_isDeed (ws_ yX2_isDeed cX2_isDeed 2 (some .boolean)) rm_X2_isDeed (va_Pc [.ref (kB G + 182), .int p1] (Wr G s)) (va_Qi (fun r u => (r = 0 ∨ r = 1) ∧ Q r u) (fun u t => Wr G u t) (kF G)) 0 0 (kF G) := by
  refine Met.ofW (cc := cX2_isDeed) (maxL := 2) (ret := (some .boolean)) (by decide) rfl ?_
  intro p e s0 m args below meth c s₁ B hml hv
  obtain ⟨rfl, hw⟩ := hv
  exact wb_of [.ref (kB G + 182), .int p1] (Nat.le_of_ble_eq_true rfl) hw.1 rfl (e_X2_isDeed (cx_of g B hml rfl hw) hph p1 s Q h)
theorem e_X2_areHearts {x : CT} {G : GT} (X : Cx x G cX2_areHearts 2 RX2 (some .boolean) rm_X2_areHearts) (hph : kP G = 1) (p1 : Int32) (s : PS) (Q : Int32 → PS → Prop) (h : w_X2_areHearts G p1 s Q) : WB x G 2 (QfI x G 0 0 (fun r u => (r = 0 ∨ r = 1) ∧ Q r u)) 0 0 s 0 [(0, .ref (kB G + 182)), (1, .int p1)] [] := by
  unfold w_X2_areHearts at h
  refine r_iload_n X 1 dX2_areHearts_0 rfl rfl ?_
  refine r_iconst (v := 0) X dX2_areHearts_1 rfl ?_
  refine r_iconst (v := 1) X dX2_areHearts_2 rfl ?_
  refine r_aload_n X 0 dX2_areHearts_3 rfl rfl ?_
  refine gr_X2_7 X hph 13 182 183 ly_182 rfl rfl dX2_areHearts_4 ?_
  refine r_iconst (v := 0) X dX2_areHearts_7 rfl ?_
  refine r_ialdL X hph 183 5544 ly_183 tn_0 il_0_5544 dX2_areHearts_8 ?_
  refine r_ishl X dX2_areHearts_9 ?_
  refine r_iconst (v := 1) X dX2_areHearts_10 rfl ?_
  refine r_isub X dX2_areHearts_11 ?_
  refine r_ci X (r_okS (As := [.int p1, .int 0, .int (((1 : Int32) <<< ((gI s (kB G + 183) 0) &&& 31)) - 1)]) (rest := []) X (m_X2_isIn (xl x) G X.2.2.2.2.1 p1 0 (((1 : Int32) <<< ((gI s (kB G + 183) 0) &&& 31)) - 1) s _ h) (cl_X2_80 X ⟨(Nat.le_of_ble_eq_true rfl), (Nat.le_of_ble_eq_true rfl)⟩) rfl rfl (Nat.le_of_ble_eq_true rfl) dX2_areHearts_12 ⟨Nat.le_of_ble_eq_true rfl, Nat.le_of_ble_eq_true rfl⟩) (fun r2 s1 h => ?_)
  obtain ⟨z3, h⟩ := h
  exact r_zret X z3 h (Nat.le_of_ble_eq_true rfl) (Nat.le_of_ble_eq_true rfl) dX2_areHearts_15
theorem m_X2_areHearts (l : Launch) (G : GT) (g : GK G) (hph : kP G = 1) (p1 : Int32) (s : PS) (Q : Int32 → PS → Prop) (h : w_X2_areHearts G p1 s Q) : Met l yX2_areHearts (ws_ yX2_areHearts cX2_areHearts 2 (some .boolean)) rm_X2_areHearts (va_Pc [.ref (kB G + 182), .int p1] (Wr G s)) (va_Qi (fun r u => (r = 0 ∨ r = 1) ∧ Q r u) (fun u t => Wr G u t) (kF G)) 0 0 (kF G) := by
  refine Met.ofW (cc := cX2_areHearts) (maxL := 2) (ret := (some .boolean)) (by decide) rfl ?_
  intro p e s0 m args below meth c s₁ B hml hv
  obtain ⟨rfl, hw⟩ := hv
  exact wb_of [.ref (kB G + 182), .int p1] (Nat.le_of_ble_eq_true rfl) hw.1 rfl (e_X2_areHearts (cx_of g B hml rfl hw) hph p1 s Q h)
theorem e_X2_witness {x : CT} {G : GT} (X : Cx x G cX2_witness 3 RX2 (some .boolean) rm_X2_witness) (hph : kP G = 1) (p1 : Int32) (p2 : Int32) (s : PS) (Q : Int32 → PS → Prop) (h : w_X2_witness G p1 p2 s Q) : WB x G 3 (QfI x G 0 0 (fun r u => (r = 0 ∨ r = 1) ∧ Q r u)) 0 0 s 0 [(0, .ref (kB G + 182)), (1, .int p1), (2, .int p2)] [] := by
  unfold w_X2_witness at h
  refine r_aload_n X 0 dX2_witness_0 rfl rfl ?_
  refine r_iload_n X 1 dX2_witness_1 rfl rfl ?_
  refine r_ci X (r_okVL (As := [.int p1]) (rest := []) X (m_X2_isDeed (xl x) G X.2.2.2.2.1 hph p1 s _ h) (cl_X2_92 X ⟨(Nat.le_of_ble_eq_true rfl), (Nat.le_of_ble_eq_true rfl)⟩) hph 2 ly_182 rfl rfl rfl rfl (Nat.le_of_ble_eq_true rfl) dX2_witness_2 ⟨Nat.le_of_ble_eq_true rfl, Nat.le_of_ble_eq_true rfl⟩) (fun r2 s1 h => ?_)
  obtain ⟨z3, h⟩ := h
  refine r_if_eq X 16 dX2_witness_5 (by decide) (fun c4 => ?_) (fun c4 => ?_)
  · replace h := h.1 c4
    refine r_iconst (v := 0) X dX2_witness_16 rfl ?_
    exact r_zret X (Or.inl rfl) h (Nat.le_of_ble_eq_true rfl) (Nat.le_of_ble_eq_true rfl) dX2_witness_17
  · replace h := h.2 c4
    refine r_aload_n X 0 dX2_witness_8 rfl rfl ?_
    refine r_iload_n X 2 dX2_witness_9 rfl rfl ?_
    refine r_ci X (r_okVL (As := [.int p2]) (rest := []) X (m_X2_areHearts (xl x) G X.2.2.2.2.1 hph p2 s1 _ h) (cl_X2_95 X ⟨(Nat.le_of_ble_eq_true rfl), (Nat.le_of_ble_eq_true rfl)⟩) hph 2 ly_182 rfl rfl rfl rfl (Nat.le_of_ble_eq_true rfl) dX2_witness_10 ⟨Nat.le_of_ble_eq_true rfl, Nat.le_of_ble_eq_true rfl⟩) (fun r6 s5 h => ?_)
    obtain ⟨z7, h⟩ := h
    refine r_if_ne X 18 dX2_witness_13 (by decide) (fun c8 => ?_) (fun c8 => ?_)
    · replace h := h.2 c8
      refine r_aload_n X 0 dX2_witness_18 rfl rfl ?_
      refine gr_X2_7 X hph 13 182 183 ly_182 rfl rfl dX2_witness_19 ?_
      refine r_bipush (v := 90) X dX2_witness_22 rfl ?_
      refine r_bipush (v := 6) X dX2_witness_24 rfl ?_
      refine r_iload_n X 1 dX2_witness_26 rfl rfl ?_
      refine r_imul X dX2_witness_27 ?_
      refine r_iadd X dX2_witness_28 ?_
      refine r_iconst (v := 5) X dX2_witness_29 rfl ?_
      refine r_iadd X dX2_witness_30 ?_
      refine r_iload_n X 2 dX2_witness_31 rfl rfl ?_
      obtain ⟨g9, h⟩ := h
      refine r_iastL X hph 183 5544 ly_183 rfl g9 dX2_witness_32 (fun s10 e11 => ?_)
      replace h := h s10 e11
      refine r_iconst (v := 1) X dX2_witness_33 rfl ?_
      exact r_zret X (Or.inr rfl) h (Nat.le_of_ble_eq_true rfl) (Nat.le_of_ble_eq_true rfl) dX2_witness_34
    · replace h := h.1 c8
      refine r_iconst (v := 0) X dX2_witness_16 rfl ?_
      exact r_zret X (Or.inl rfl) h (Nat.le_of_ble_eq_true rfl) (Nat.le_of_ble_eq_true rfl) dX2_witness_17
theorem m_X2_witness (l : Launch) (G : GT) (g : GK G) (hph : kP G = 1) (p1 : Int32) (p2 : Int32) (s : PS) (Q : Int32 → PS → Prop) (h : w_X2_witness G p1 p2 s Q) : Met l yX2_witness (ws_ yX2_witness cX2_witness 3 (some .boolean)) rm_X2_witness (va_Pc [.ref (kB G + 182), .int p1, .int p2] (Wr G s)) (va_Qi (fun r u => (r = 0 ∨ r = 1) ∧ Q r u) (fun u t => Wr G u t) (kF G)) 0 0 (kF G) := by
  refine Met.ofW (cc := cX2_witness) (maxL := 3) (ret := (some .boolean)) (by decide) rfl ?_
  intro p e s0 m args below meth c s₁ B hml hv
  obtain ⟨rfl, hw⟩ := hv
  exact wb_of [.ref (kB G + 182), .int p1, .int p2] (Nat.le_of_ble_eq_true rfl) hw.1 rfl (e_X2_witness (cx_of g B hml rfl hw) hph p1 p2 s Q h)
theorem e_X2_judge {x : CT} {G : GT} (X : Cx x G cX2_judge 2 RX2 (some .int) rm_X2_judge) (hph : kP G = 1) (p1 : Int32) (s : PS) (Q : Int32 → PS → Prop) (h : w_X2_judge G p1 s Q) : WB x G 2 (QfI x G 0 0 Q) 0 0 s 0 [(0, .ref (kB G + 182)), (1, .int p1)] [] := by
  unfold w_X2_judge at h
  refine r_iload_n X 1 dX2_judge_0 rfl rfl ?_
  refine r_iconst (v := 1) X dX2_judge_1 rfl ?_
  refine r_sipush (v := 1023) X dX2_judge_2 rfl ?_
  refine r_ci X (r_okS (As := [.int p1, .int 1, .int 1023]) (rest := []) X (m_X2_isIn (xl x) G X.2.2.2.2.1 p1 1 1023 s _ h) (cl_X2_80 X ⟨(Nat.le_of_ble_eq_true rfl), (Nat.le_of_ble_eq_true rfl)⟩) rfl rfl (Nat.le_of_ble_eq_true rfl) dX2_judge_5 ⟨Nat.le_of_ble_eq_true rfl, Nat.le_of_ble_eq_true rfl⟩) (fun r2 s1 h => ?_)
  obtain ⟨z3, h⟩ := h
  refine r_if_eq X 22 dX2_judge_8 (by decide) (fun c4 => ?_) (fun c4 => ?_)
  · replace h := h.1 c4
    refine r_iconst (v := (-1)) X dX2_judge_22 rfl ?_
    exact r_iret X h (Nat.le_of_ble_eq_true rfl) (Nat.le_of_ble_eq_true rfl) dX2_judge_23
  · replace h := h.2 c4
    refine r_aload_n X 0 dX2_judge_11 rfl rfl ?_
    refine gr_X2_7 X hph 13 182 183 ly_182 rfl rfl dX2_judge_12 ?_
    refine r_iconst (v := 2) X dX2_judge_15 rfl ?_
    refine r_ialdL X hph 183 5544 ly_183 tn_2 il_2_5544 dX2_judge_16 ?_
    refine r_bipush (v := 8) X dX2_judge_17 rfl ?_
    refine r_ic_ne X 24 dX2_judge_19 (by decide) (fun c5 => ?_) (fun c5 => ?_)
    · replace h := h.2 c5
      refine r_aload_n X 0 dX2_judge_24 rfl rfl ?_
      refine gr_X2_7 X hph 13 182 183 ly_182 rfl rfl dX2_judge_25 ?_
      refine r_sipush (v := 234) X dX2_judge_28 rfl ?_
      refine r_aload_n X 0 dX2_judge_31 rfl rfl ?_
      refine gr_X2_7 X hph 13 182 183 ly_182 rfl rfl dX2_judge_32 ?_
      refine r_iconst (v := 2) X dX2_judge_35 rfl ?_
      refine r_ialdL X hph 183 5544 ly_183 tn_2 il_2_5544 dX2_judge_36 ?_
      refine r_iadd X dX2_judge_37 ?_
      refine r_iload_n X 1 dX2_judge_38 rfl rfl ?_
      obtain ⟨g6, h⟩ := h
      refine r_iastL X hph 183 5544 ly_183 rfl g6 dX2_judge_39 (fun s7 e8 => ?_)
      replace h := h s7 e8
      refine r_aload_n X 0 dX2_judge_40 rfl rfl ?_
      refine gr_X2_7 X hph 13 182 183 ly_182 rfl rfl dX2_judge_41 ?_
      refine r_iconst (v := 2) X dX2_judge_44 rfl ?_
      refine r_dup2 X dX2_judge_45 rfl rfl ?_
      refine r_ialdL X hph 183 5544 ly_183 tn_2 il_2_5544 dX2_judge_46 ?_
      refine r_iconst (v := 1) X dX2_judge_47 rfl ?_
      refine r_iadd X dX2_judge_48 ?_
      refine r_iastL X hph 183 5544 ly_183 tn_2 il_2_5544 dX2_judge_49 (fun s9 e10 => ?_)
      replace h := h s9 e10
      refine r_aload_n X 0 dX2_judge_50 rfl rfl ?_
      refine gr_X2_7 X hph 13 182 183 ly_182 rfl rfl dX2_judge_51 ?_
      refine r_iconst (v := 2) X dX2_judge_54 rfl ?_
      refine r_ialdL X hph 183 5544 ly_183 tn_2 il_2_5544 dX2_judge_55 ?_
      refine r_iconst (v := 1) X dX2_judge_56 rfl ?_
      refine r_isub X dX2_judge_57 ?_
      exact r_iret X h (Nat.le_of_ble_eq_true rfl) (Nat.le_of_ble_eq_true rfl) dX2_judge_58
    · replace h := h.1 c5
      refine r_iconst (v := (-1)) X dX2_judge_22 rfl ?_
      exact r_iret X h (Nat.le_of_ble_eq_true rfl) (Nat.le_of_ble_eq_true rfl) dX2_judge_23
theorem m_X2_judge (l : Launch) (G : GT) (g : GK G) (hph : kP G = 1) (p1 : Int32) (s : PS) (Q : Int32 → PS → Prop) (h : w_X2_judge G p1 s Q) : Met l yX2_judge (ws_ yX2_judge cX2_judge 2 (some .int)) rm_X2_judge (va_Pc [.ref (kB G + 182), .int p1] (Wr G s)) (va_Qi Q (fun u t => Wr G u t) (kF G)) 0 0 (kF G) := by
  refine Met.ofW (cc := cX2_judge) (maxL := 2) (ret := (some .int)) (by decide) rfl ?_
  intro p e s0 m args below meth c s₁ B hml hv
  obtain ⟨rfl, hw⟩ := hv
  exact wb_of [.ref (kB G + 182), .int p1] (Nat.le_of_ble_eq_true rfl) hw.1 rfl (e_X2_judge (cx_of g B hml rfl hw) hph p1 s Q h)
theorem e_X2_stick {x : CT} {G : GT} (X : Cx x G cX2_stick 2 RX2 (some .boolean) rm_X2_stick) (hph : kP G = 1) (p1 : Int32) (s : PS) (Q : Int32 → PS → Prop) (h : w_X2_stick G p1 s Q) : WB x G 2 (QfI x G 0 0 (fun r u => (r = 0 ∨ r = 1) ∧ Q r u)) 0 0 s 0 [(0, .ref (kB G + 182)), (1, .int p1)] [] := by
  unfold w_X2_stick at h
  refine r_iload_n X 1 dX2_stick_0 rfl rfl ?_
  refine r_iconst (v := 0) X dX2_stick_1 rfl ?_
  refine r_bipush (v := 99) X dX2_stick_2 rfl ?_
  refine r_ci X (r_okS (As := [.int p1, .int 0, .int 99]) (rest := []) X (m_X2_isIn (xl x) G X.2.2.2.2.1 p1 0 99 s _ h) (cl_X2_80 X ⟨(Nat.le_of_ble_eq_true rfl), (Nat.le_of_ble_eq_true rfl)⟩) rfl rfl (Nat.le_of_ble_eq_true rfl) dX2_stick_4 ⟨Nat.le_of_ble_eq_true rfl, Nat.le_of_ble_eq_true rfl⟩) (fun r2 s1 h => ?_)
  obtain ⟨z3, h⟩ := h
  refine r_if_ne X 12 dX2_stick_7 (by decide) (fun c4 => ?_) (fun c4 => ?_)
  · replace h := h.2 c4
    refine r_aload_n X 0 dX2_stick_12 rfl rfl ?_
    refine gr_X2_7 X hph 13 182 183 ly_182 rfl rfl dX2_stick_13 ?_
    refine r_iconst (v := 3) X dX2_stick_16 rfl ?_
    refine r_iload_n X 1 dX2_stick_17 rfl rfl ?_
    refine r_iastL X hph 183 5544 ly_183 tn_3 il_3_5544 dX2_stick_18 (fun s5 e6 => ?_)
    replace h := h s5 e6
    refine r_iconst (v := 1) X dX2_stick_19 rfl ?_
    exact r_zret X (Or.inr rfl) h (Nat.le_of_ble_eq_true rfl) (Nat.le_of_ble_eq_true rfl) dX2_stick_20
  · replace h := h.1 c4
    refine r_iconst (v := 0) X dX2_stick_10 rfl ?_
    exact r_zret X (Or.inl rfl) h (Nat.le_of_ble_eq_true rfl) (Nat.le_of_ble_eq_true rfl) dX2_stick_11
theorem m_X2_stick (l : Launch) (G : GT) (g : GK G) (hph : kP G = 1) (p1 : Int32) (s : PS) (Q : Int32 → PS → Prop) (h : w_X2_stick G p1 s Q) : Met l yX2_stick (ws_ yX2_stick cX2_stick 2 (some .boolean)) rm_X2_stick (va_Pc [.ref (kB G + 182), .int p1] (Wr G s)) (va_Qi (fun r u => (r = 0 ∨ r = 1) ∧ Q r u) (fun u t => Wr G u t) (kF G)) 0 0 (kF G) := by
  refine Met.ofW (cc := cX2_stick) (maxL := 2) (ret := (some .boolean)) (by decide) rfl ?_
  intro p e s0 m args below meth c s₁ B hml hv
  obtain ⟨rfl, hw⟩ := hv
  exact wb_of [.ref (kB G + 182), .int p1] (Nat.le_of_ble_eq_true rfl) hw.1 rfl (e_X2_stick (cx_of g B hml rfl hw) hph p1 s Q h)
theorem e_X2_bond {x : CT} {G : GT} (X : Cx x G cX2_bond 4 RX2 (some .boolean) rm_X2_bond) (hph : kP G = 1) (p1 : Int32) (p2 : Int32) (p3 : Int32) (s : PS) (Q : Int32 → PS → Prop) (h : w_X2_bond G p1 p2 p3 s Q) : WB x G 4 (QfI x G 0 0 (fun r u => (r = 0 ∨ r = 1) ∧ Q r u)) 0 0 s 0 [(0, .ref (kB G + 182)), (1, .int p1), (2, .int p2), (3, .int p3)] [] := by
  unfold w_X2_bond at h
  refine r_aload_n X 0 dX2_bond_0 rfl rfl ?_
  refine r_iload_n X 1 dX2_bond_1 rfl rfl ?_
  refine r_ci X (r_okVL (As := [.int p1]) (rest := []) X (m_X2_isHeart (xl x) G X.2.2.2.2.1 hph p1 s _ h) (cl_X2_88 X ⟨(Nat.le_of_ble_eq_true rfl), (Nat.le_of_ble_eq_true rfl)⟩) hph 2 ly_182 rfl rfl rfl rfl (Nat.le_of_ble_eq_true rfl) dX2_bond_2 ⟨Nat.le_of_ble_eq_true rfl, Nat.le_of_ble_eq_true rfl⟩) (fun r2 s1 h => ?_)
  obtain ⟨z3, h⟩ := h
  refine r_if_eq X 31 dX2_bond_5 (by decide) (fun c4 => ?_) (fun c4 => ?_)
  · replace h := h.1 c4
    refine r_iconst (v := 0) X dX2_bond_31 rfl ?_
    exact r_zret X (Or.inl rfl) h (Nat.le_of_ble_eq_true rfl) (Nat.le_of_ble_eq_true rfl) dX2_bond_32
  · replace h := h.2 c4
    refine r_aload_n X 0 dX2_bond_8 rfl rfl ?_
    refine r_iload_n X 2 dX2_bond_9 rfl rfl ?_
    refine r_ci X (r_okVL (As := [.int p2]) (rest := []) X (m_X2_isHeart (xl x) G X.2.2.2.2.1 hph p2 s1 _ h) (cl_X2_88 X ⟨(Nat.le_of_ble_eq_true rfl), (Nat.le_of_ble_eq_true rfl)⟩) hph 2 ly_182 rfl rfl rfl rfl (Nat.le_of_ble_eq_true rfl) dX2_bond_10 ⟨Nat.le_of_ble_eq_true rfl, Nat.le_of_ble_eq_true rfl⟩) (fun r6 s5 h => ?_)
    obtain ⟨z7, h⟩ := h
    refine r_if_eq X 31 dX2_bond_13 (by decide) (fun c8 => ?_) (fun c8 => ?_)
    · replace h := h.1 c8
      refine r_iconst (v := 0) X dX2_bond_31 rfl ?_
      exact r_zret X (Or.inl rfl) h (Nat.le_of_ble_eq_true rfl) (Nat.le_of_ble_eq_true rfl) dX2_bond_32
    · replace h := h.2 c8
      refine r_iload_n X 1 dX2_bond_16 rfl rfl ?_
      refine r_iload_n X 2 dX2_bond_17 rfl rfl ?_
      refine r_ic_eq X 31 dX2_bond_18 (by decide) (fun c9 => ?_) (fun c9 => ?_)
      · replace h := h.1 c9
        refine r_iconst (v := 0) X dX2_bond_31 rfl ?_
        exact r_zret X (Or.inl rfl) h (Nat.le_of_ble_eq_true rfl) (Nat.le_of_ble_eq_true rfl) dX2_bond_32
      · replace h := h.2 c9
        refine r_iload_n X 3 dX2_bond_21 rfl rfl ?_
        refine r_iconst (v := 0) X dX2_bond_22 rfl ?_
        refine r_bipush (v := 99) X dX2_bond_23 rfl ?_
        refine r_ci X (r_okS (As := [.int p3, .int 0, .int 99]) (rest := []) X (m_X2_isIn (xl x) G X.2.2.2.2.1 p3 0 99 s5 _ h) (cl_X2_80 X ⟨(Nat.le_of_ble_eq_true rfl), (Nat.le_of_ble_eq_true rfl)⟩) rfl rfl (Nat.le_of_ble_eq_true rfl) dX2_bond_25 ⟨Nat.le_of_ble_eq_true rfl, Nat.le_of_ble_eq_true rfl⟩) (fun r11 s10 h => ?_)
        obtain ⟨z12, h⟩ := h
        refine r_if_ne X 33 dX2_bond_28 (by decide) (fun c13 => ?_) (fun c13 => ?_)
        · replace h := h.2 c13
          refine r_aload_n X 0 dX2_bond_33 rfl rfl ?_
          refine gr_X2_7 X hph 13 182 183 ly_182 rfl rfl dX2_bond_34 ?_
          refine r_bipush (v := 54) X dX2_bond_37 rfl ?_
          refine r_bipush (v := 6) X dX2_bond_39 rfl ?_
          refine r_iload_n X 1 dX2_bond_41 rfl rfl ?_
          refine r_imul X dX2_bond_42 ?_
          refine r_iadd X dX2_bond_43 ?_
          refine r_iload_n X 2 dX2_bond_44 rfl rfl ?_
          refine r_iadd X dX2_bond_45 ?_
          refine r_iload_n X 3 dX2_bond_46 rfl rfl ?_
          obtain ⟨g14, h⟩ := h
          refine r_iastL X hph 183 5544 ly_183 rfl g14 dX2_bond_47 (fun s15 e16 => ?_)
          replace h := h s15 e16
          refine r_iconst (v := 1) X dX2_bond_48 rfl ?_
          exact r_zret X (Or.inr rfl) h (Nat.le_of_ble_eq_true rfl) (Nat.le_of_ble_eq_true rfl) dX2_bond_49
        · replace h := h.1 c13
          refine r_iconst (v := 0) X dX2_bond_31 rfl ?_
          exact r_zret X (Or.inl rfl) h (Nat.le_of_ble_eq_true rfl) (Nat.le_of_ble_eq_true rfl) dX2_bond_32
theorem m_X2_bond (l : Launch) (G : GT) (g : GK G) (hph : kP G = 1) (p1 : Int32) (p2 : Int32) (p3 : Int32) (s : PS) (Q : Int32 → PS → Prop) (h : w_X2_bond G p1 p2 p3 s Q) : Met l yX2_bond (ws_ yX2_bond cX2_bond 4 (some .boolean)) rm_X2_bond (va_Pc [.ref (kB G + 182), .int p1, .int p2, .int p3] (Wr G s)) (va_Qi (fun r u => (r = 0 ∨ r = 1) ∧ Q r u) (fun u t => Wr G u t) (kF G)) 0 0 (kF G) := by
  refine Met.ofW (cc := cX2_bond) (maxL := 4) (ret := (some .boolean)) (by decide) rfl ?_
  intro p e s0 m args below meth c s₁ B hml hv
  obtain ⟨rfl, hw⟩ := hv
  exact wb_of [.ref (kB G + 182), .int p1, .int p2, .int p3] (Nat.le_of_ble_eq_true rfl) hw.1 rfl (e_X2_bond (cx_of g B hml rfl hw) hph p1 p2 p3 s Q h)
theorem tl_X2_four_3 {x : CT} {G : GT} (X : Cx x G cX2_four 3 RX2 none rm_X2_four) (hph : kP G = 1) (Q : PS → Prop) (v1 : Int32) : ∀ (n : Nat) (v2 : Int32) (s : PS) (h : l_X2_four_3 G Q v1 n v2 s), WB x G 3 (QfV x G 0 0 Q) 0 0 s 3 [(0, .ref (kB G + 182)), (1, .int v1), (2, .int v2)] [] := by
  intro n
  induction n with
  | zero =>
    intro v2 s h
    exact False.elim h
  | succ n ih =>
    intro v2 s h
    unfold l_X2_four_3 at h
    refine r_iload_n X 2 dX2_four_3 rfl rfl ?_
    refine r_if_lt X 39 dX2_four_4 (by decide) (fun c1 => ?_) (fun c1 => ?_)
    · replace h := h.1 c1
      exact r_vret X h (Nat.le_of_ble_eq_true rfl) (Nat.le_of_ble_eq_true rfl) dX2_four_39
    · replace h := h.2 c1
      refine r_aload_n X 0 dX2_four_7 rfl rfl ?_
      refine gr_X2_19 X hph 13 182 186 ly_182 rfl rfl dX2_four_8 ?_
      refine r_aload_n X 0 dX2_four_11 rfl rfl ?_
      refine gl_X2_98 X hph 182 ly_182 dX2_four_12 ?_
      refine r_iload_n X 1 dX2_four_15 rfl rfl ?_
      refine r_iload_n X 2 dX2_four_16 rfl rfl ?_
      refine r_ishr X dX2_four_17 ?_
      refine r_sipush (v := 255) X dX2_four_18 rfl ?_
      refine r_iand X dX2_four_21 ?_
      obtain ⟨g2, h⟩ := h
      refine r_iastL X hph 186 300 ly_186 rfl g2 dX2_four_22 (fun s3 e4 => ?_)
      replace h := h s3 e4
      refine r_aload_n X 0 dX2_four_23 rfl rfl ?_
      refine r_dup X dX2_four_24 rfl ?_
      refine gl_X2_98 X hph 182 ly_182 dX2_four_25 ?_
      refine r_iconst (v := 1) X dX2_four_28 rfl ?_
      refine r_iadd X dX2_four_29 ?_
      refine pl_X2_98 X hph 182 ly_182 dX2_four_30 (fun s5 e6 => ?_)
      replace h := h s5 e6
      refine r_iinc (lv' := [(2, .int (v2 + (-8))), (0, .ref (kB G + 182)), (1, .int v1)]) X 2 dX2_four_33 rfl rfl (Nat.le_of_ble_eq_true rfl) rfl ?_
      refine r_goto X 3 dX2_four_36 (by decide) ?_
      refine r_sub [1, 2, 0] rfl ?_
      exact ih (v2 + (-8)) s5 h
theorem e_X2_four {x : CT} {G : GT} (X : Cx x G cX2_four 3 RX2 none rm_X2_four) (hph : kP G = 1) (p1 : Int32) (s : PS) (Q : PS → Prop) (h : w_X2_four G p1 s Q) : WB x G 3 (QfV x G 0 0 Q) 0 0 s 0 [(0, .ref (kB G + 182)), (1, .int p1)] [] := by
  unfold w_X2_four at h
  refine r_bipush (v := 24) X dX2_four_0 rfl ?_
  refine r_istore_n (lv' := [(2, .int 24), (0, .ref (kB G + 182)), (1, .int p1)]) X dX2_four_2 rfl (Nat.le_of_ble_eq_true rfl) rfl ?_
  refine r_sub [1, 2, 0] rfl ?_
  obtain ⟨n1, h⟩ := h
  exact tl_X2_four_3 X hph Q p1 n1 24 s h
theorem m_X2_four (l : Launch) (G : GT) (g : GK G) (hph : kP G = 1) (p1 : Int32) (s : PS) (Q : PS → Prop) (h : w_X2_four G p1 s Q) : Met l yX2_four (ws_ yX2_four cX2_four 3 none) rm_X2_four (va_Pc [.ref (kB G + 182), .int p1] (Wr G s)) (va_Qv Q (fun u t => Wr G u t) (kF G)) 0 0 (kF G) := by
  refine Met.ofW (cc := cX2_four) (maxL := 3) (ret := none) (by decide) rfl ?_
  intro p e s0 m args below meth c s₁ B hml hv
  obtain ⟨rfl, hw⟩ := hv
  exact wb_of [.ref (kB G + 182), .int p1] (Nat.le_of_ble_eq_true rfl) hw.1 rfl (e_X2_four (cx_of g B hml rfl hw) hph p1 s Q h)
theorem e_X2_feed {x : CT} {G : GT} (X : Cx x G cX2_feed 6 RX2 (some .int) rm_X2_feed) (hph : kP G = 1) (p1 : Int32) (p2 : Int32) (p3 : Int32) (p4 : Int32) (p5 : Int32) (s : PS) (Q : Int32 → PS → Prop) (h : w_X2_feed G p1 p2 p3 p4 p5 s Q) : WB x G 6 (QfI x G 0 0 Q) 0 0 s 0 [(0, .ref (kB G + 182)), (1, .int p1), (2, .int p2), (3, .int p3), (4, .int p4), (5, .int p5)] [] := by
  unfold w_X2_feed at h
  refine r_aload_n X 0 dX2_feed_0 rfl rfl ?_
  refine gl_X2_98 X hph 182 ly_182 dX2_feed_1 ?_
  refine r_bipush (v := 20) X dX2_feed_4 rfl ?_
  refine r_iadd X dX2_feed_6 ?_
  refine r_sipush (v := 300) X dX2_feed_7 rfl ?_
  refine r_ic_le X 15 dX2_feed_10 (by decide) (fun c1 => ?_) (fun c1 => ?_)
  · replace h := h.1 c1
    refine r_aload_n X 0 dX2_feed_15 rfl rfl ?_
    refine r_iload_n X 1 dX2_feed_16 rfl rfl ?_
    refine r_cv X (r_okVL (As := [.int p1]) (rest := []) X (m_X2_four (xl x) G X.2.2.2.2.1 hph p1 s _ h) (cl_X2_101 X ⟨(Nat.le_of_ble_eq_true rfl), (Nat.le_of_ble_eq_true rfl)⟩) hph 2 ly_182 rfl rfl rfl rfl (Nat.le_of_ble_eq_true rfl) dX2_feed_17 ⟨Nat.le_of_ble_eq_true rfl, Nat.le_of_ble_eq_true rfl⟩) (fun s2 h => ?_)
    refine r_aload_n X 0 dX2_feed_20 rfl rfl ?_
    refine r_iload_n X 2 dX2_feed_21 rfl rfl ?_
    refine r_cv X (r_okVL (As := [.int p2]) (rest := []) X (m_X2_four (xl x) G X.2.2.2.2.1 hph p2 s2 _ h) (cl_X2_101 X ⟨(Nat.le_of_ble_eq_true rfl), (Nat.le_of_ble_eq_true rfl)⟩) hph 2 ly_182 rfl rfl rfl rfl (Nat.le_of_ble_eq_true rfl) dX2_feed_22 ⟨Nat.le_of_ble_eq_true rfl, Nat.le_of_ble_eq_true rfl⟩) (fun s3 h => ?_)
    refine r_aload_n X 0 dX2_feed_25 rfl rfl ?_
    refine r_iload_n X 3 dX2_feed_26 rfl rfl ?_
    refine r_cv X (r_okVL (As := [.int p3]) (rest := []) X (m_X2_four (xl x) G X.2.2.2.2.1 hph p3 s3 _ h) (cl_X2_101 X ⟨(Nat.le_of_ble_eq_true rfl), (Nat.le_of_ble_eq_true rfl)⟩) hph 2 ly_182 rfl rfl rfl rfl (Nat.le_of_ble_eq_true rfl) dX2_feed_27 ⟨Nat.le_of_ble_eq_true rfl, Nat.le_of_ble_eq_true rfl⟩) (fun s4 h => ?_)
    refine r_aload_n X 0 dX2_feed_30 rfl rfl ?_
    refine r_iload X 4 dX2_feed_31 rfl ?_
    refine r_cv X (r_okVL (As := [.int p4]) (rest := []) X (m_X2_four (xl x) G X.2.2.2.2.1 hph p4 s4 _ h) (cl_X2_101 X ⟨(Nat.le_of_ble_eq_true rfl), (Nat.le_of_ble_eq_true rfl)⟩) hph 2 ly_182 rfl rfl rfl rfl (Nat.le_of_ble_eq_true rfl) dX2_feed_33 ⟨Nat.le_of_ble_eq_true rfl, Nat.le_of_ble_eq_true rfl⟩) (fun s5 h => ?_)
    refine r_aload_n X 0 dX2_feed_36 rfl rfl ?_
    refine r_iload X 5 dX2_feed_37 rfl ?_
    refine r_cv X (r_okVL (As := [.int p5]) (rest := []) X (m_X2_four (xl x) G X.2.2.2.2.1 hph p5 s5 _ h) (cl_X2_101 X ⟨(Nat.le_of_ble_eq_true rfl), (Nat.le_of_ble_eq_true rfl)⟩) hph 2 ly_182 rfl rfl rfl rfl (Nat.le_of_ble_eq_true rfl) dX2_feed_39 ⟨Nat.le_of_ble_eq_true rfl, Nat.le_of_ble_eq_true rfl⟩) (fun s6 h => ?_)
    refine r_aload_n X 0 dX2_feed_42 rfl rfl ?_
    refine gl_X2_98 X hph 182 ly_182 dX2_feed_43 ?_
    exact r_iret X h (Nat.le_of_ble_eq_true rfl) (Nat.le_of_ble_eq_true rfl) dX2_feed_46
  · replace h := h.2 c1
    refine r_iconst (v := (-1)) X dX2_feed_13 rfl ?_
    exact r_iret X h (Nat.le_of_ble_eq_true rfl) (Nat.le_of_ble_eq_true rfl) dX2_feed_14
theorem m_X2_feed (l : Launch) (G : GT) (g : GK G) (hph : kP G = 1) (p1 : Int32) (p2 : Int32) (p3 : Int32) (p4 : Int32) (p5 : Int32) (s : PS) (Q : Int32 → PS → Prop) (h : w_X2_feed G p1 p2 p3 p4 p5 s Q) : Met l yX2_feed (ws_ yX2_feed cX2_feed 6 (some .int)) rm_X2_feed (va_Pc [.ref (kB G + 182), .int p1, .int p2, .int p3, .int p4, .int p5] (Wr G s)) (va_Qi Q (fun u t => Wr G u t) (kF G)) 0 0 (kF G) := by
  refine Met.ofW (cc := cX2_feed) (maxL := 6) (ret := (some .int)) (by decide) rfl ?_
  intro p e s0 m args below meth c s₁ B hml hv
  obtain ⟨rfl, hw⟩ := hv
  exact wb_of [.ref (kB G + 182), .int p1, .int p2, .int p3, .int p4, .int p5] (Nat.le_of_ble_eq_true rfl) hw.1 rfl (e_X2_feed (cx_of g B hml rfl hw) hph p1 p2 p3 p4 p5 s Q h)
theorem e_X2_end {x : CT} {G : GT} (X : Cx x G cX2_end 2 RX2 (some .int) rm_X2_end) (hph : kP G = 1) (p1 : Int32) (s : PS) (Q : Int32 → PS → Prop) (h : w_X2_end G p1 s Q) : WB x G 2 (QfI x G 0 0 Q) 0 0 s 0 [(0, .ref (kB G + 182)), (1, .int p1)] [] := by
  unfold w_X2_end at h
  refine r_iload_n X 1 dX2_end_0 rfl rfl ?_
  refine r_iconst (v := 0) X dX2_end_1 rfl ?_
  refine r_aload_n X 0 dX2_end_2 rfl rfl ?_
  refine gl_X2_98 X hph 182 ly_182 dX2_end_3 ?_
  refine r_ci X (r_okS (As := [.int p1, .int 0, .int (gI s (kB G + 182) 4)]) (rest := []) X (m_X2_isIn (xl x) G X.2.2.2.2.1 p1 0 (gI s (kB G + 182) 4) s _ h) (cl_X2_80 X ⟨(Nat.le_of_ble_eq_true rfl), (Nat.le_of_ble_eq_true rfl)⟩) rfl rfl (Nat.le_of_ble_eq_true rfl) dX2_end_6 ⟨Nat.le_of_ble_eq_true rfl, Nat.le_of_ble_eq_true rfl⟩) (fun r2 s1 h => ?_)
  obtain ⟨z3, h⟩ := h
  refine r_if_ne X 14 dX2_end_9 (by decide) (fun c4 => ?_) (fun c4 => ?_)
  · replace h := h.2 c4
    refine r_aload_n X 0 dX2_end_14 rfl rfl ?_
    refine r_iload_n X 1 dX2_end_15 rfl rfl ?_
    refine pl_X2_98 X hph 182 ly_182 dX2_end_16 (fun s5 e6 => ?_)
    replace h := h s5 e6
    refine r_iload_n X 1 dX2_end_19 rfl rfl ?_
    exact r_iret X h (Nat.le_of_ble_eq_true rfl) (Nat.le_of_ble_eq_true rfl) dX2_end_20
  · replace h := h.1 c4
    refine r_iconst (v := (-1)) X dX2_end_12 rfl ?_
    exact r_iret X h (Nat.le_of_ble_eq_true rfl) (Nat.le_of_ble_eq_true rfl) dX2_end_13
theorem m_X2_end (l : Launch) (G : GT) (g : GK G) (hph : kP G = 1) (p1 : Int32) (s : PS) (Q : Int32 → PS → Prop) (h : w_X2_end G p1 s Q) : Met l yX2_end (ws_ yX2_end cX2_end 2 (some .int)) rm_X2_end (va_Pc [.ref (kB G + 182), .int p1] (Wr G s)) (va_Qi Q (fun u t => Wr G u t) (kF G)) 0 0 (kF G) := by
  refine Met.ofW (cc := cX2_end) (maxL := 2) (ret := (some .int)) (by decide) rfl ?_
  intro p e s0 m args below meth c s₁ B hml hv
  obtain ⟨rfl, hw⟩ := hv
  exact wb_of [.ref (kB G + 182), .int p1] (Nat.le_of_ble_eq_true rfl) hw.1 rfl (e_X2_end (cx_of g B hml rfl hw) hph p1 s Q h)
theorem e_X2_byteAt {x : CT} {G : GT} (X : Cx x G cX2_byteAt 2 RX2 (some .int) rm_X2_byteAt) (hph : kP G = 1) (p1 : Int32) (s : PS) (Q : Int32 → PS → Prop) (h : w_X2_byteAt G p1 s Q) : WB x G 2 (QfI x G 0 0 Q) 0 0 s 0 [(0, .ref (kB G + 182)), (1, .int p1)] [] := by
  unfold w_X2_byteAt at h
  refine r_iload_n X 1 dX2_byteAt_0 rfl rfl ?_
  refine r_aload_n X 0 dX2_byteAt_1 rfl rfl ?_
  refine gl_X2_98 X hph 182 ly_182 dX2_byteAt_2 ?_
  refine r_ic_ge X 17 dX2_byteAt_5 (by decide) (fun c1 => ?_) (fun c1 => ?_)
  · replace h := h.1 c1
    refine r_iconst (v := (-1)) X dX2_byteAt_17 rfl ?_
    exact r_iret X h (Nat.le_of_ble_eq_true rfl) (Nat.le_of_ble_eq_true rfl) dX2_byteAt_18
  · replace h := h.2 c1
    refine r_aload_n X 0 dX2_byteAt_8 rfl rfl ?_
    refine gr_X2_19 X hph 13 182 186 ly_182 rfl rfl dX2_byteAt_9 ?_
    refine r_iload_n X 1 dX2_byteAt_12 rfl rfl ?_
    obtain ⟨g2, h⟩ := h
    refine r_ialdL X hph 186 300 ly_186 rfl g2 dX2_byteAt_13 ?_
    refine r_goto X 18 dX2_byteAt_14 (by decide) ?_
    exact r_iret X h (Nat.le_of_ble_eq_true rfl) (Nat.le_of_ble_eq_true rfl) dX2_byteAt_18
theorem m_X2_byteAt (l : Launch) (G : GT) (g : GK G) (hph : kP G = 1) (p1 : Int32) (s : PS) (Q : Int32 → PS → Prop) (h : w_X2_byteAt G p1 s Q) : Met l yX2_byteAt (ws_ yX2_byteAt cX2_byteAt 2 (some .int)) rm_X2_byteAt (va_Pc [.ref (kB G + 182), .int p1] (Wr G s)) (va_Qi Q (fun u t => Wr G u t) (kF G)) 0 0 (kF G) := by
  refine Met.ofW (cc := cX2_byteAt) (maxL := 2) (ret := (some .int)) (by decide) rfl ?_
  intro p e s0 m args below meth c s₁ B hml hv
  obtain ⟨rfl, hw⟩ := hv
  exact wb_of [.ref (kB G + 182), .int p1] (Nat.le_of_ble_eq_true rfl) hw.1 rfl (e_X2_byteAt (cx_of g B hml rfl hw) hph p1 s Q h)
theorem e_X2_isFigure {x : CT} {G : GT} (X : Cx x G cX2_isFigure 1 RX2 (some .boolean) rm_X2_isFigure) (p1 : Int32) (s : PS) (Q : Int32 → PS → Prop) (h : w_X2_isFigure G p1 s Q) : WB x G 1 (QfI x G 0 0 (fun r u => (r = 0 ∨ r = 1) ∧ Q r u)) 0 0 s 0 [(0, .int p1)] [] := by
  unfold w_X2_isFigure at h
  refine r_iload_n X 0 dX2_isFigure_0 rfl rfl ?_
  refine r_bipush (v := 48) X dX2_isFigure_1 rfl ?_
  have hJ : WB x G 1 (QfI x G 0 0 (fun r u => (r = 0 ∨ r = 1) ∧ Q r u)) 0 0 s 17 [(0, .int p1)] [.int (if p1 < 48 then 0 else (if 57 < p1 then 0 else 1 : Int32) : Int32)] := by
    exact r_zret X (by (repeat' split) <;> first | exact Or.inl rfl | exact Or.inr rfl) h (Nat.le_of_ble_eq_true rfl) (Nat.le_of_ble_eq_true rfl) dX2_isFigure_17
  refine r_ic_lt X 16 dX2_isFigure_3 (by decide) (fun c2 => ?_) (fun c2 => ?_)
  · rw [if_pos c2] at hJ
    refine r_iconst (v := 0) X dX2_isFigure_16 rfl ?_
    exact hJ
  · rw [if_neg c2] at hJ
    refine r_iload_n X 0 dX2_isFigure_6 rfl rfl ?_
    refine r_bipush (v := 57) X dX2_isFigure_7 rfl ?_
    refine r_ic_gt X 16 dX2_isFigure_9 (by decide) (fun c1 => ?_) (fun c1 => ?_)
    · rw [if_pos c1] at hJ
      refine r_iconst (v := 0) X dX2_isFigure_16 rfl ?_
      exact hJ
    · rw [if_neg c1] at hJ
      refine r_iconst (v := 1) X dX2_isFigure_12 rfl ?_
      refine r_goto X 17 dX2_isFigure_13 (by decide) ?_
      exact hJ
theorem m_X2_isFigure (l : Launch) (G : GT) (g : GK G) (p1 : Int32) (s : PS) (Q : Int32 → PS → Prop) (h : w_X2_isFigure G p1 s Q) : Met l yX2_isFigure (ws_ yX2_isFigure cX2_isFigure 1 (some .boolean)) rm_X2_isFigure (va_Pc [.int p1] (Wr G s)) (va_Qi (fun r u => (r = 0 ∨ r = 1) ∧ Q r u) (fun u t => Wr G u t) (kF G)) 0 0 (kF G) := by
  refine Met.ofW (cc := cX2_isFigure) (maxL := 1) (ret := (some .boolean)) (by decide) rfl ?_
  intro p e s0 m args below meth c s₁ B hml hv
  obtain ⟨rfl, hw⟩ := hv
  exact wb_of [.int p1] (Nat.le_of_ble_eq_true rfl) hw.1 rfl (e_X2_isFigure (cx_of g B hml rfl hw) p1 s Q h)
theorem e_X2_isLetterByte {x : CT} {G : GT} (X : Cx x G cX2_isLetterByte 1 RX2 (some .boolean) rm_X2_isLetterByte) (p1 : Int32) (s : PS) (Q : Int32 → PS → Prop) (h : w_X2_isLetterByte G p1 s Q) : WB x G 1 (QfI x G 0 0 (fun r u => (r = 0 ∨ r = 1) ∧ Q r u)) 0 0 s 0 [(0, .int p1)] [] := by
  unfold w_X2_isLetterByte at h
  refine r_iload_n X 0 dX2_isLetterByte_0 rfl rfl ?_
  refine r_bipush (v := 97) X dX2_isLetterByte_1 rfl ?_
  have hJ : WB x G 1 (QfI x G 0 0 (fun r u => (r = 0 ∨ r = 1) ∧ Q r u)) 0 0 s 29 [(0, .int p1)] [.int (if p1 < 97 then (if p1 < 65 then 0 else (if 90 < p1 then 0 else 1 : Int32) : Int32) else (if p1 ≤ 122 then 1 else (if p1 < 65 then 0 else (if 90 < p1 then 0 else 1 : Int32) : Int32) : Int32) : Int32)] := by
    exact r_zret X (by (repeat' split) <;> first | exact Or.inl rfl | exact Or.inr rfl) h (Nat.le_of_ble_eq_true rfl) (Nat.le_of_ble_eq_true rfl) dX2_isLetterByte_29
  refine r_ic_lt X 12 dX2_isLetterByte_3 (by decide) (fun c6 => ?_) (fun c6 => ?_)
  · rw [if_pos c6] at hJ
    refine r_iload_n X 0 dX2_isLetterByte_12 rfl rfl ?_
    refine r_bipush (v := 65) X dX2_isLetterByte_13 rfl ?_
    refine r_ic_lt X 28 dX2_isLetterByte_15 (by decide) (fun c2 => ?_) (fun c2 => ?_)
    · rw [if_pos c2] at hJ
      refine r_iconst (v := 0) X dX2_isLetterByte_28 rfl ?_
      exact hJ
    · rw [if_neg c2] at hJ
      refine r_iload_n X 0 dX2_isLetterByte_18 rfl rfl ?_
      refine r_bipush (v := 90) X dX2_isLetterByte_19 rfl ?_
      refine r_ic_gt X 28 dX2_isLetterByte_21 (by decide) (fun c1 => ?_) (fun c1 => ?_)
      · rw [if_pos c1] at hJ
        refine r_iconst (v := 0) X dX2_isLetterByte_28 rfl ?_
        exact hJ
      · rw [if_neg c1] at hJ
        refine r_iconst (v := 1) X dX2_isLetterByte_24 rfl ?_
        refine r_goto X 29 dX2_isLetterByte_25 (by decide) ?_
        exact hJ
  · rw [if_neg c6] at hJ
    refine r_iload_n X 0 dX2_isLetterByte_6 rfl rfl ?_
    refine r_bipush (v := 122) X dX2_isLetterByte_7 rfl ?_
    refine r_ic_le X 24 dX2_isLetterByte_9 (by decide) (fun c5 => ?_) (fun c5 => ?_)
    · rw [if_pos c5] at hJ
      refine r_iconst (v := 1) X dX2_isLetterByte_24 rfl ?_
      refine r_goto X 29 dX2_isLetterByte_25 (by decide) ?_
      exact hJ
    · rw [if_neg c5] at hJ
      refine r_iload_n X 0 dX2_isLetterByte_12 rfl rfl ?_
      refine r_bipush (v := 65) X dX2_isLetterByte_13 rfl ?_
      refine r_ic_lt X 28 dX2_isLetterByte_15 (by decide) (fun c4 => ?_) (fun c4 => ?_)
      · rw [if_pos c4] at hJ
        refine r_iconst (v := 0) X dX2_isLetterByte_28 rfl ?_
        exact hJ
      · rw [if_neg c4] at hJ
        refine r_iload_n X 0 dX2_isLetterByte_18 rfl rfl ?_
        refine r_bipush (v := 90) X dX2_isLetterByte_19 rfl ?_
        refine r_ic_gt X 28 dX2_isLetterByte_21 (by decide) (fun c3 => ?_) (fun c3 => ?_)
        · rw [if_pos c3] at hJ
          refine r_iconst (v := 0) X dX2_isLetterByte_28 rfl ?_
          exact hJ
        · rw [if_neg c3] at hJ
          refine r_iconst (v := 1) X dX2_isLetterByte_24 rfl ?_
          refine r_goto X 29 dX2_isLetterByte_25 (by decide) ?_
          exact hJ
theorem m_X2_isLetterByte (l : Launch) (G : GT) (g : GK G) (p1 : Int32) (s : PS) (Q : Int32 → PS → Prop) (h : w_X2_isLetterByte G p1 s Q) : Met l yX2_isLetterByte (ws_ yX2_isLetterByte cX2_isLetterByte 1 (some .boolean)) rm_X2_isLetterByte (va_Pc [.int p1] (Wr G s)) (va_Qi (fun r u => (r = 0 ∨ r = 1) ∧ Q r u) (fun u t => Wr G u t) (kF G)) 0 0 (kF G) := by
  refine Met.ofW (cc := cX2_isLetterByte) (maxL := 1) (ret := (some .boolean)) (by decide) rfl ?_
  intro p e s0 m args below meth c s₁ B hml hv
  obtain ⟨rfl, hw⟩ := hv
  exact wb_of [.int p1] (Nat.le_of_ble_eq_true rfl) hw.1 rfl (e_X2_isLetterByte (cx_of g B hml rfl hw) p1 s Q h)
theorem e_X2_isSign {x : CT} {G : GT} (X : Cx x G cX2_isSign 1 RX2 (some .boolean) rm_X2_isSign) (p1 : Int32) (s : PS) (Q : Int32 → PS → Prop) (h : w_X2_isSign G p1 s Q) : WB x G 1 (QfI x G 0 0 (fun r u => (r = 0 ∨ r = 1) ∧ Q r u)) 0 0 s 0 [(0, .int p1)] [] := by
  unfold w_X2_isSign at h
  refine r_iload_n X 0 dX2_isSign_0 rfl rfl ?_
  by_cases c1 : p1 = 35
  · replace h := h.1 c1
    refine r_lsw X 116 dX2_isSign_1 rfl (by rw [c1] <;> rfl) (by decide) ?_
    refine r_iconst (v := 1) X dX2_isSign_116 rfl ?_
    exact r_zret X (Or.inr rfl) h (Nat.le_of_ble_eq_true rfl) (Nat.le_of_ble_eq_true rfl) dX2_isSign_117
  · replace h := h.2 c1
    by_cases c2 : p1 = 40
    · replace h := h.1 c2
      refine r_lsw X 116 dX2_isSign_1 rfl (by rw [c2] <;> rfl) (by decide) ?_
      refine r_iconst (v := 1) X dX2_isSign_116 rfl ?_
      exact r_zret X (Or.inr rfl) h (Nat.le_of_ble_eq_true rfl) (Nat.le_of_ble_eq_true rfl) dX2_isSign_117
    · replace h := h.2 c2
      by_cases c3 : p1 = 41
      · replace h := h.1 c3
        refine r_lsw X 116 dX2_isSign_1 rfl (by rw [c3] <;> rfl) (by decide) ?_
        refine r_iconst (v := 1) X dX2_isSign_116 rfl ?_
        exact r_zret X (Or.inr rfl) h (Nat.le_of_ble_eq_true rfl) (Nat.le_of_ble_eq_true rfl) dX2_isSign_117
      · replace h := h.2 c3
        by_cases c4 : p1 = 42
        · replace h := h.1 c4
          refine r_lsw X 116 dX2_isSign_1 rfl (by rw [c4] <;> rfl) (by decide) ?_
          refine r_iconst (v := 1) X dX2_isSign_116 rfl ?_
          exact r_zret X (Or.inr rfl) h (Nat.le_of_ble_eq_true rfl) (Nat.le_of_ble_eq_true rfl) dX2_isSign_117
        · replace h := h.2 c4
          by_cases c5 : p1 = 43
          · replace h := h.1 c5
            refine r_lsw X 116 dX2_isSign_1 rfl (by rw [c5] <;> rfl) (by decide) ?_
            refine r_iconst (v := 1) X dX2_isSign_116 rfl ?_
            exact r_zret X (Or.inr rfl) h (Nat.le_of_ble_eq_true rfl) (Nat.le_of_ble_eq_true rfl) dX2_isSign_117
          · replace h := h.2 c5
            by_cases c6 : p1 = 44
            · replace h := h.1 c6
              refine r_lsw X 116 dX2_isSign_1 rfl (by rw [c6] <;> rfl) (by decide) ?_
              refine r_iconst (v := 1) X dX2_isSign_116 rfl ?_
              exact r_zret X (Or.inr rfl) h (Nat.le_of_ble_eq_true rfl) (Nat.le_of_ble_eq_true rfl) dX2_isSign_117
            · replace h := h.2 c6
              by_cases c7 : p1 = 45
              · replace h := h.1 c7
                refine r_lsw X 116 dX2_isSign_1 rfl (by rw [c7] <;> rfl) (by decide) ?_
                refine r_iconst (v := 1) X dX2_isSign_116 rfl ?_
                exact r_zret X (Or.inr rfl) h (Nat.le_of_ble_eq_true rfl) (Nat.le_of_ble_eq_true rfl) dX2_isSign_117
              · replace h := h.2 c7
                by_cases c8 : p1 = 47
                · replace h := h.1 c8
                  refine r_lsw X 116 dX2_isSign_1 rfl (by rw [c8] <;> rfl) (by decide) ?_
                  refine r_iconst (v := 1) X dX2_isSign_116 rfl ?_
                  exact r_zret X (Or.inr rfl) h (Nat.le_of_ble_eq_true rfl) (Nat.le_of_ble_eq_true rfl) dX2_isSign_117
                · replace h := h.2 c8
                  by_cases c9 : p1 = 59
                  · replace h := h.1 c9
                    refine r_lsw X 116 dX2_isSign_1 rfl (by rw [c9] <;> rfl) (by decide) ?_
                    refine r_iconst (v := 1) X dX2_isSign_116 rfl ?_
                    exact r_zret X (Or.inr rfl) h (Nat.le_of_ble_eq_true rfl) (Nat.le_of_ble_eq_true rfl) dX2_isSign_117
                  · replace h := h.2 c9
                    by_cases c10 : p1 = 60
                    · replace h := h.1 c10
                      refine r_lsw X 116 dX2_isSign_1 rfl (by rw [c10] <;> rfl) (by decide) ?_
                      refine r_iconst (v := 1) X dX2_isSign_116 rfl ?_
                      exact r_zret X (Or.inr rfl) h (Nat.le_of_ble_eq_true rfl) (Nat.le_of_ble_eq_true rfl) dX2_isSign_117
                    · replace h := h.2 c10
                      by_cases c11 : p1 = 61
                      · replace h := h.1 c11
                        refine r_lsw X 116 dX2_isSign_1 rfl (by rw [c11] <;> rfl) (by decide) ?_
                        refine r_iconst (v := 1) X dX2_isSign_116 rfl ?_
                        exact r_zret X (Or.inr rfl) h (Nat.le_of_ble_eq_true rfl) (Nat.le_of_ble_eq_true rfl) dX2_isSign_117
                      · replace h := h.2 c11
                        by_cases c12 : p1 = 62
                        · replace h := h.1 c12
                          refine r_lsw X 116 dX2_isSign_1 rfl (by rw [c12] <;> rfl) (by decide) ?_
                          refine r_iconst (v := 1) X dX2_isSign_116 rfl ?_
                          exact r_zret X (Or.inr rfl) h (Nat.le_of_ble_eq_true rfl) (Nat.le_of_ble_eq_true rfl) dX2_isSign_117
                        · replace h := h.2 c12
                          by_cases c13 : p1 = 124
                          · replace h := h.1 c13
                            refine r_lsw X 116 dX2_isSign_1 rfl (by rw [c13] <;> rfl) (by decide) ?_
                            refine r_iconst (v := 1) X dX2_isSign_116 rfl ?_
                            exact r_zret X (Or.inr rfl) h (Nat.le_of_ble_eq_true rfl) (Nat.le_of_ble_eq_true rfl) dX2_isSign_117
                          · replace h := h.2 c13
                            refine r_lsw (off := 117) X 118 dX2_isSign_1 rfl ((lv_osw c1 rfl).trans ((lv_osw c2 rfl).trans ((lv_osw c3 rfl).trans ((lv_osw c4 rfl).trans ((lv_osw c5 rfl).trans ((lv_osw c6 rfl).trans ((lv_osw c7 rfl).trans ((lv_osw c8 rfl).trans ((lv_osw c9 rfl).trans ((lv_osw c10 rfl).trans ((lv_osw c11 rfl).trans ((lv_osw c12 rfl).trans ((lv_osw c13 rfl).trans rfl))))))))))))) (by decide) ?_
                            refine r_iconst (v := 0) X dX2_isSign_118 rfl ?_
                            exact r_zret X (Or.inl rfl) h (Nat.le_of_ble_eq_true rfl) (Nat.le_of_ble_eq_true rfl) dX2_isSign_119
theorem m_X2_isSign (l : Launch) (G : GT) (g : GK G) (p1 : Int32) (s : PS) (Q : Int32 → PS → Prop) (h : w_X2_isSign G p1 s Q) : Met l yX2_isSign (ws_ yX2_isSign cX2_isSign 1 (some .boolean)) rm_X2_isSign (va_Pc [.int p1] (Wr G s)) (va_Qi (fun r u => (r = 0 ∨ r = 1) ∧ Q r u) (fun u t => Wr G u t) (kF G)) 0 0 (kF G) := by
  refine Met.ofW (cc := cX2_isSign) (maxL := 1) (ret := (some .boolean)) (by decide) rfl ?_
  intro p e s0 m args below meth c s₁ B hml hv
  obtain ⟨rfl, hw⟩ := hv
  exact wb_of [.int p1] (Nat.le_of_ble_eq_true rfl) hw.1 rfl (e_X2_isSign (cx_of g B hml rfl hw) p1 s Q h)
theorem tb_X2_nextToken_26 {x : CT} {G : GT} (X : Cx x G cX2_nextToken 2 RX2 none rm_X2_nextToken) (hph : kP G = 1) (Q : PS → Prop) (K0 : PS → Prop) (s : PS) (hK0 : ∀ (s' : PS), K0 s' → WB x G 2 (QfV x G 0 0 Q) 0 0 s' 0 [(0, .ref (kB G + 182))] []) (h : b_X2_nextToken_26 G Q K0 s) : WB x G 2 (QfV x G 0 0 Q) 0 0 s 26 [(0, .ref (kB G + 182))] [] := by
  unfold b_X2_nextToken_26 at h
  refine r_aload_n X 0 dX2_nextToken_26 rfl rfl ?_
  refine r_dup X dX2_nextToken_27 rfl ?_
  refine gl_X2_105 X hph 182 ly_182 dX2_nextToken_28 ?_
  refine r_iconst (v := 1) X dX2_nextToken_31 rfl ?_
  refine r_iadd X dX2_nextToken_32 ?_
  refine pl_X2_105 X hph 182 ly_182 dX2_nextToken_33 (fun s1 e2 => ?_)
  replace h := h s1 e2
  refine r_goto X 0 dX2_nextToken_36 (by decide) ?_
  exact hK0 s1 h
theorem tb_X2_nextToken_135 {x : CT} {G : GT} (X : Cx x G cX2_nextToken 2 RX2 none rm_X2_nextToken) (hph : kP G = 1) (Q : PS → Prop) (K85 : PS → Prop) (t1 : Int32) (s : PS) (hK85 : ∀ (s' : PS), K85 s' → WB x G 2 (QfV x G 0 0 Q) 0 0 s' 85 [(0, .ref (kB G + 182))] []) (h : b_X2_nextToken_135 G Q K85 t1 s) : WB x G 2 (QfV x G 0 0 Q) 0 0 s 135 [(0, .ref (kB G + 182))] [.int t1, .ref (kB G + 182)] := by
  unfold b_X2_nextToken_135 at h
  refine pl_X2_121 X hph 182 ly_182 dX2_nextToken_135 (fun s1 e2 => ?_)
  replace h := h s1 e2
  refine r_aload_n X 0 dX2_nextToken_138 rfl rfl ?_
  refine r_dup X dX2_nextToken_139 rfl ?_
  refine gl_X2_105 X hph 182 ly_182 dX2_nextToken_140 ?_
  refine r_iconst (v := 1) X dX2_nextToken_143 rfl ?_
  refine r_iadd X dX2_nextToken_144 ?_
  refine pl_X2_105 X hph 182 ly_182 dX2_nextToken_145 (fun s3 e4 => ?_)
  replace h := h s3 e4
  refine r_goto X 85 dX2_nextToken_148 (by decide) ?_
  exact hK85 s3 h
theorem tl_X2_nextToken_85 {x : CT} {G : GT} (X : Cx x G cX2_nextToken 2 RX2 none rm_X2_nextToken) (hph : kP G = 1) (Q : PS → Prop) : ∀ (n : Nat) (s : PS) (h : l_X2_nextToken_85 G Q n s), WB x G 2 (QfV x G 0 0 Q) 0 0 s 85 [(0, .ref (kB G + 182))] [] := by
  intro n
  induction n with
  | zero =>
    intro s h
    exact False.elim h
  | succ n ih =>
    intro s h
    unfold l_X2_nextToken_85 at h
    refine r_aload_n X 0 dX2_nextToken_85 rfl rfl ?_
    refine r_aload_n X 0 dX2_nextToken_86 rfl rfl ?_
    refine gl_X2_105 X hph 182 ly_182 dX2_nextToken_87 ?_
    refine r_ci X (r_okVL (As := [.int (gI s (kB G + 182) 7)]) (rest := []) X (m_X2_byteAt (xl x) G X.2.2.2.2.1 hph (gI s (kB G + 182) 7) s _ h) (cl_X2_108 X ⟨(Nat.le_of_ble_eq_true rfl), (Nat.le_of_ble_eq_true rfl)⟩) hph 2 ly_182 rfl rfl rfl rfl (Nat.le_of_ble_eq_true rfl) dX2_nextToken_90 ⟨Nat.le_of_ble_eq_true rfl, Nat.le_of_ble_eq_true rfl⟩) (fun r2 s1 h => ?_)
    refine r_ci X (r_okS (As := [.int r2]) (rest := []) X (m_X2_isFigure (xl x) G X.2.2.2.2.1 r2 s1 _ h) (cl_X2_118 X ⟨(Nat.le_of_ble_eq_true rfl), (Nat.le_of_ble_eq_true rfl)⟩) rfl rfl (Nat.le_of_ble_eq_true rfl) dX2_nextToken_93 ⟨Nat.le_of_ble_eq_true rfl, Nat.le_of_ble_eq_true rfl⟩) (fun r4 s3 h => ?_)
    obtain ⟨z5, h⟩ := h
    refine r_if_eq X 310 dX2_nextToken_96 (by decide) (fun c6 => ?_) (fun c6 => ?_)
    · replace h := h.1 c6
      exact r_vret X h (Nat.le_of_ble_eq_true rfl) (Nat.le_of_ble_eq_true rfl) dX2_nextToken_310
    · replace h := h.2 c6
      refine r_aload_n X 0 dX2_nextToken_99 rfl rfl ?_
      refine r_aload_n X 0 dX2_nextToken_100 rfl rfl ?_
      refine gl_X2_121 X hph 182 ly_182 dX2_nextToken_101 ?_
      refine r_ldc X q1519 dX2_nextToken_104 ?_
      refine r_ic_le X 116 dX2_nextToken_106 (by decide) (fun c7 => ?_) (fun c7 => ?_)
      · replace h := h.1 c7
        refine r_bipush (v := 10) X dX2_nextToken_116 rfl ?_
        refine r_aload_n X 0 dX2_nextToken_118 rfl rfl ?_
        refine gl_X2_121 X hph 182 ly_182 dX2_nextToken_119 ?_
        refine r_imul X dX2_nextToken_122 ?_
        refine r_aload_n X 0 dX2_nextToken_123 rfl rfl ?_
        refine r_aload_n X 0 dX2_nextToken_124 rfl rfl ?_
        refine gl_X2_105 X hph 182 ly_182 dX2_nextToken_125 ?_
        refine r_ci X (r_okVL (As := [.int (gI s3 (kB G + 182) 7)]) (rest := [.int (10 * (gI s3 (kB G + 182) 10)), .ref (kB G + 182)]) X (m_X2_byteAt (xl x) G X.2.2.2.2.1 hph (gI s3 (kB G + 182) 7) s3 _ h) (cl_X2_108 X ⟨(Nat.le_of_ble_eq_true rfl), (Nat.le_of_ble_eq_true rfl)⟩) hph 2 ly_182 rfl rfl rfl rfl (Nat.le_of_ble_eq_true rfl) dX2_nextToken_128 ⟨Nat.le_of_ble_eq_true rfl, Nat.le_of_ble_eq_true rfl⟩) (fun r9 s8 h => ?_)
        refine r_iadd X dX2_nextToken_131 ?_
        refine r_bipush (v := 48) X dX2_nextToken_132 rfl ?_
        refine r_isub X dX2_nextToken_134 ?_
        exact tb_X2_nextToken_135 X hph Q (l_X2_nextToken_85 G Q n) (((10 * (gI s3 (kB G + 182) 10)) + r9) - 48) s8 ih h
      · replace h := h.2 c7
        refine r_aload_n X 0 dX2_nextToken_109 rfl rfl ?_
        refine gl_X2_121 X hph 182 ly_182 dX2_nextToken_110 ?_
        refine r_goto X 135 dX2_nextToken_113 (by decide) ?_
        exact tb_X2_nextToken_135 X hph Q (l_X2_nextToken_85 G Q n) (gI s3 (kB G + 182) 10) s3 ih h
theorem tb_X2_nextToken_218 {x : CT} {G : GT} (X : Cx x G cX2_nextToken 2 RX2 none rm_X2_nextToken) (hph : kP G = 1) (Q : PS → Prop) (K168 : PS → Prop) (t1 : Int64) (s : PS) (hK168 : ∀ (s' : PS), K168 s' → WB x G 2 (QfV x G 0 0 Q) 0 0 s' 168 [(0, .ref (kB G + 182))] []) (h : b_X2_nextToken_218 G Q K168 t1 s) : WB x G 2 (QfV x G 0 0 Q) 0 0 s 218 [(0, .ref (kB G + 182))] [.long t1, .ref (kB G + 182)] := by
  unfold b_X2_nextToken_218 at h
  refine pl_X2_128 X hph 182 ly_182 dX2_nextToken_218 (fun s1 e2 => ?_)
  replace h := h s1 e2
  refine r_aload_n X 0 dX2_nextToken_221 rfl rfl ?_
  refine r_dup X dX2_nextToken_222 rfl ?_
  refine gl_X2_105 X hph 182 ly_182 dX2_nextToken_223 ?_
  refine r_iconst (v := 1) X dX2_nextToken_226 rfl ?_
  refine r_iadd X dX2_nextToken_227 ?_
  refine pl_X2_105 X hph 182 ly_182 dX2_nextToken_228 (fun s3 e4 => ?_)
  replace h := h s3 e4
  refine r_goto X 168 dX2_nextToken_231 (by decide) ?_
  exact hK168 s3 h
theorem tl_X2_nextToken_168 {x : CT} {G : GT} (X : Cx x G cX2_nextToken 2 RX2 none rm_X2_nextToken) (hph : kP G = 1) (Q : PS → Prop) : ∀ (n : Nat) (s : PS) (h : l_X2_nextToken_168 G Q n s), WB x G 2 (QfV x G 0 0 Q) 0 0 s 168 [(0, .ref (kB G + 182))] [] := by
  intro n
  induction n with
  | zero =>
    intro s h
    exact False.elim h
  | succ n ih =>
    intro s h
    unfold l_X2_nextToken_168 at h
    refine r_aload_n X 0 dX2_nextToken_168 rfl rfl ?_
    refine r_aload_n X 0 dX2_nextToken_169 rfl rfl ?_
    refine gl_X2_105 X hph 182 ly_182 dX2_nextToken_170 ?_
    refine r_ci X (r_okVL (As := [.int (gI s (kB G + 182) 7)]) (rest := []) X (m_X2_byteAt (xl x) G X.2.2.2.2.1 hph (gI s (kB G + 182) 7) s _ h) (cl_X2_108 X ⟨(Nat.le_of_ble_eq_true rfl), (Nat.le_of_ble_eq_true rfl)⟩) hph 2 ly_182 rfl rfl rfl rfl (Nat.le_of_ble_eq_true rfl) dX2_nextToken_173 ⟨Nat.le_of_ble_eq_true rfl, Nat.le_of_ble_eq_true rfl⟩) (fun r2 s1 h => ?_)
    refine r_ci X (r_okS (As := [.int r2]) (rest := []) X (m_X2_isLetterByte (xl x) G X.2.2.2.2.1 r2 s1 _ h) (cl_X2_125 X ⟨(Nat.le_of_ble_eq_true rfl), (Nat.le_of_ble_eq_true rfl)⟩) rfl rfl (Nat.le_of_ble_eq_true rfl) dX2_nextToken_176 ⟨Nat.le_of_ble_eq_true rfl, Nat.le_of_ble_eq_true rfl⟩) (fun r4 s3 h => ?_)
    obtain ⟨z5, h⟩ := h
    refine r_if_eq X 310 dX2_nextToken_179 (by decide) (fun c6 => ?_) (fun c6 => ?_)
    · replace h := h.1 c6
      exact r_vret X h (Nat.le_of_ble_eq_true rfl) (Nat.le_of_ble_eq_true rfl) dX2_nextToken_310
    · replace h := h.2 c6
      refine r_aload_n X 0 dX2_nextToken_182 rfl rfl ?_
      refine r_aload_n X 0 dX2_nextToken_183 rfl rfl ?_
      refine gl_X2_128 X hph 182 ly_182 dX2_nextToken_184 ?_
      refine r_bipush (v := 48) X dX2_nextToken_187 rfl ?_
      refine r_lshr X dX2_nextToken_189 ?_
      refine r_lconst (v := 0) X dX2_nextToken_190 rfl ?_
      refine r_lcmp X dX2_nextToken_191 ?_
      refine r_if_eq X 201 dX2_nextToken_192 (by decide) (fun c7 => ?_) (fun c7 => ?_)
      · replace h := h.1 c7
        refine r_aload_n X 0 dX2_nextToken_201 rfl rfl ?_
        refine gl_X2_128 X hph 182 ly_182 dX2_nextToken_202 ?_
        refine r_bipush (v := 8) X dX2_nextToken_205 rfl ?_
        refine r_lshl X dX2_nextToken_207 ?_
        refine r_aload_n X 0 dX2_nextToken_208 rfl rfl ?_
        refine r_aload_n X 0 dX2_nextToken_209 rfl rfl ?_
        refine gl_X2_105 X hph 182 ly_182 dX2_nextToken_210 ?_
        refine r_ci X (r_okVL (As := [.int (gI s3 (kB G + 182) 7)]) (rest := [.long ((gL s3 (kB G + 182) 11) <<< ((8 : Int32).toInt64 &&& 63)), .ref (kB G + 182)]) X (m_X2_byteAt (xl x) G X.2.2.2.2.1 hph (gI s3 (kB G + 182) 7) s3 _ h) (cl_X2_108 X ⟨(Nat.le_of_ble_eq_true rfl), (Nat.le_of_ble_eq_true rfl)⟩) hph 2 ly_182 rfl rfl rfl rfl (Nat.le_of_ble_eq_true rfl) dX2_nextToken_213 ⟨Nat.le_of_ble_eq_true rfl, Nat.le_of_ble_eq_true rfl⟩) (fun r9 s8 h => ?_)
        refine r_i2l X dX2_nextToken_216 ?_
        refine r_lor X dX2_nextToken_217 ?_
        exact tb_X2_nextToken_218 X hph Q (l_X2_nextToken_168 G Q n) (((gL s3 (kB G + 182) 11) <<< ((8 : Int32).toInt64 &&& 63)) ||| r9.toInt64) s8 ih h
      · replace h := h.2 c7
        refine r_ldc2 X q1523 dX2_nextToken_195 ?_
        refine r_goto X 218 dX2_nextToken_198 (by decide) ?_
        exact tb_X2_nextToken_218 X hph Q (l_X2_nextToken_168 G Q n) 1152921504606846976 s3 ih h
theorem tb_X2_nextToken_272 {x : CT} {G : GT} (X : Cx x G cX2_nextToken 2 RX2 none rm_X2_nextToken) (hph : kP G = 1) (Q : PS → Prop) (v1 : Int32) (s : PS) (h : b_X2_nextToken_272 G Q v1 s) : WB x G 2 (QfV x G 0 0 Q) 0 0 s 272 [(0, .ref (kB G + 182)), (1, .int v1)] [] := by
  unfold b_X2_nextToken_272 at h
  refine r_aload_n X 0 dX2_nextToken_272 rfl rfl ?_
  refine r_aload_n X 0 dX2_nextToken_273 rfl rfl ?_
  refine gl_X2_105 X hph 182 ly_182 dX2_nextToken_274 ?_
  refine r_ci X (r_okVL (As := [.int (gI s (kB G + 182) 7)]) (rest := []) X (m_X2_byteAt (xl x) G X.2.2.2.2.1 hph (gI s (kB G + 182) 7) s _ h) (cl_X2_108 X ⟨(Nat.le_of_ble_eq_true rfl), (Nat.le_of_ble_eq_true rfl)⟩) hph 2 ly_182 rfl rfl rfl rfl (Nat.le_of_ble_eq_true rfl) dX2_nextToken_277 ⟨Nat.le_of_ble_eq_true rfl, Nat.le_of_ble_eq_true rfl⟩) (fun r2 s1 h => ?_)
  refine r_bipush (v := 61) X dX2_nextToken_280 rfl ?_
  refine r_ic_ne X 310 dX2_nextToken_282 (by decide) (fun c3 => ?_) (fun c3 => ?_)
  · replace h := h.2 c3
    exact r_vret X h (Nat.le_of_ble_eq_true rfl) (Nat.le_of_ble_eq_true rfl) dX2_nextToken_310
  · replace h := h.1 c3
    refine r_aload_n X 0 dX2_nextToken_285 rfl rfl ?_
    refine r_iload_n X 1 dX2_nextToken_286 rfl rfl ?_
    refine r_bipush (v := 60) X dX2_nextToken_287 rfl ?_
    have hJ : WB x G 2 (QfV x G 0 0 Q) 0 0 s1 297 [(0, .ref (kB G + 182)), (1, .int v1)] [.int (if v1 = 60 then 4 else 5 : Int32), .ref (kB G + 182)] := by
      refine pl_X2_115 X hph 182 ly_182 dX2_nextToken_297 (fun s5 e6 => ?_)
      replace h := h s5 e6
      refine r_aload_n X 0 dX2_nextToken_300 rfl rfl ?_
      refine r_dup X dX2_nextToken_301 rfl ?_
      refine gl_X2_105 X hph 182 ly_182 dX2_nextToken_302 ?_
      refine r_iconst (v := 1) X dX2_nextToken_305 rfl ?_
      refine r_iadd X dX2_nextToken_306 ?_
      refine pl_X2_105 X hph 182 ly_182 dX2_nextToken_307 (fun s7 e8 => ?_)
      replace h := h s7 e8
      exact r_vret X h (Nat.le_of_ble_eq_true rfl) (Nat.le_of_ble_eq_true rfl) dX2_nextToken_310
    refine r_ic_ne X 296 dX2_nextToken_289 (by decide) (fun c4 => ?_) (fun c4 => ?_)
    · rw [if_neg c4] at hJ
      refine r_iconst (v := 5) X dX2_nextToken_296 rfl ?_
      exact hJ
    · rw [if_pos c4] at hJ
      refine r_iconst (v := 4) X dX2_nextToken_292 rfl ?_
      refine r_goto X 297 dX2_nextToken_293 (by decide) ?_
      exact hJ
theorem tl_X2_nextToken_0 {x : CT} {G : GT} (X : Cx x G cX2_nextToken 2 RX2 none rm_X2_nextToken) (hph : kP G = 1) (Q : PS → Prop) : ∀ (n : Nat) (s : PS) (h : l_X2_nextToken_0 G Q n s), WB x G 2 (QfV x G 0 0 Q) 0 0 s 0 [(0, .ref (kB G + 182))] [] := by
  intro n
  induction n with
  | zero =>
    intro s h
    exact False.elim h
  | succ n ih =>
    intro s h
    unfold l_X2_nextToken_0 at h
    refine r_aload_n X 0 dX2_nextToken_0 rfl rfl ?_
    refine r_aload_n X 0 dX2_nextToken_1 rfl rfl ?_
    refine gl_X2_105 X hph 182 ly_182 dX2_nextToken_2 ?_
    refine r_ci X (r_okVL (As := [.int (gI s (kB G + 182) 7)]) (rest := []) X (m_X2_byteAt (xl x) G X.2.2.2.2.1 hph (gI s (kB G + 182) 7) s _ h) (cl_X2_108 X ⟨(Nat.le_of_ble_eq_true rfl), (Nat.le_of_ble_eq_true rfl)⟩) hph 2 ly_182 rfl rfl rfl rfl (Nat.le_of_ble_eq_true rfl) dX2_nextToken_5 ⟨Nat.le_of_ble_eq_true rfl, Nat.le_of_ble_eq_true rfl⟩) (fun r2 s1 h => ?_)
    refine r_bipush (v := 32) X dX2_nextToken_8 rfl ?_
    refine r_ic_eq X 26 dX2_nextToken_10 (by decide) (fun c3 => ?_) (fun c3 => ?_)
    · replace h := h.1 c3
      exact tb_X2_nextToken_26 X hph Q (l_X2_nextToken_0 G Q n) s1 ih h
    · replace h := h.2 c3
      refine r_aload_n X 0 dX2_nextToken_13 rfl rfl ?_
      refine r_aload_n X 0 dX2_nextToken_14 rfl rfl ?_
      refine gl_X2_105 X hph 182 ly_182 dX2_nextToken_15 ?_
      refine r_ci X (r_okVL (As := [.int (gI s1 (kB G + 182) 7)]) (rest := []) X (m_X2_byteAt (xl x) G X.2.2.2.2.1 hph (gI s1 (kB G + 182) 7) s1 _ h) (cl_X2_108 X ⟨(Nat.le_of_ble_eq_true rfl), (Nat.le_of_ble_eq_true rfl)⟩) hph 2 ly_182 rfl rfl rfl rfl (Nat.le_of_ble_eq_true rfl) dX2_nextToken_18 ⟨Nat.le_of_ble_eq_true rfl, Nat.le_of_ble_eq_true rfl⟩) (fun r5 s4 h => ?_)
      refine r_bipush (v := 10) X dX2_nextToken_21 rfl ?_
      refine r_ic_ne X 39 dX2_nextToken_23 (by decide) (fun c6 => ?_) (fun c6 => ?_)
      · replace h := h.2 c6
        refine r_aload_n X 0 dX2_nextToken_39 rfl rfl ?_
        refine r_aload_n X 0 dX2_nextToken_40 rfl rfl ?_
        refine gl_X2_105 X hph 182 ly_182 dX2_nextToken_41 ?_
        refine pl_X2_112 X hph 182 ly_182 dX2_nextToken_44 (fun s7 e8 => ?_)
        replace h := h s7 e8
        refine r_aload_n X 0 dX2_nextToken_47 rfl rfl ?_
        refine r_aload_n X 0 dX2_nextToken_48 rfl rfl ?_
        refine gl_X2_105 X hph 182 ly_182 dX2_nextToken_49 ?_
        refine r_ci X (r_okVL (As := [.int (gI s7 (kB G + 182) 7)]) (rest := []) X (m_X2_byteAt (xl x) G X.2.2.2.2.1 hph (gI s7 (kB G + 182) 7) s7 _ h) (cl_X2_108 X ⟨(Nat.le_of_ble_eq_true rfl), (Nat.le_of_ble_eq_true rfl)⟩) hph 2 ly_182 rfl rfl rfl rfl (Nat.le_of_ble_eq_true rfl) dX2_nextToken_52 ⟨Nat.le_of_ble_eq_true rfl, Nat.le_of_ble_eq_true rfl⟩) (fun r10 s9 h => ?_)
        refine r_istore_n (lv' := [(1, .int r10), (0, .ref (kB G + 182))]) X dX2_nextToken_55 rfl (Nat.le_of_ble_eq_true rfl) rfl ?_
        refine r_iload_n X 0 dX2_nextToken_56 rfl rfl ?_
        refine r_if_ge X 68 dX2_nextToken_57 (by decide) (fun c11 => ?_) (fun c11 => ?_)
        · replace h := h.1 c11
          refine r_iload_n X 0 dX2_nextToken_68 rfl rfl ?_
          refine r_ci X (r_okS (As := [.int r10]) (rest := []) X (m_X2_isFigure (xl x) G X.2.2.2.2.1 r10 s9 _ h) (cl_X2_118 X ⟨(Nat.le_of_ble_eq_true rfl), (Nat.le_of_ble_eq_true rfl)⟩) rfl rfl (Nat.le_of_ble_eq_true rfl) dX2_nextToken_69 ⟨Nat.le_of_ble_eq_true rfl, Nat.le_of_ble_eq_true rfl⟩) (fun r13 s12 h => ?_)
          obtain ⟨z14, h⟩ := h
          refine r_if_eq X 151 dX2_nextToken_72 (by decide) (fun c15 => ?_) (fun c15 => ?_)
          · replace h := h.1 c15
            refine r_iload_n X 0 dX2_nextToken_151 rfl rfl ?_
            refine r_ci X (r_okS (As := [.int r10]) (rest := []) X (m_X2_isLetterByte (xl x) G X.2.2.2.2.1 r10 s12 _ h) (cl_X2_125 X ⟨(Nat.le_of_ble_eq_true rfl), (Nat.le_of_ble_eq_true rfl)⟩) rfl rfl (Nat.le_of_ble_eq_true rfl) dX2_nextToken_152 ⟨Nat.le_of_ble_eq_true rfl, Nat.le_of_ble_eq_true rfl⟩) (fun r17 s16 h => ?_)
            obtain ⟨z18, h⟩ := h
            refine r_if_eq X 234 dX2_nextToken_155 (by decide) (fun c19 => ?_) (fun c19 => ?_)
            · replace h := h.1 c19
              refine r_aload_n X 1 dX2_nextToken_234 rfl rfl ?_
              refine r_iload_n X 0 dX2_nextToken_235 rfl rfl ?_
              refine r_ci X (r_okS (As := [.int r10]) (rest := [.ref (kB G + 182)]) X (m_X2_isSign (xl x) G X.2.2.2.2.1 r10 s16 _ h) (cl_X2_134 X ⟨(Nat.le_of_ble_eq_true rfl), (Nat.le_of_ble_eq_true rfl)⟩) rfl rfl (Nat.le_of_ble_eq_true rfl) dX2_nextToken_236 ⟨Nat.le_of_ble_eq_true rfl, Nat.le_of_ble_eq_true rfl⟩) (fun r21 s20 h => ?_)
              obtain ⟨z22, h⟩ := h
              have hJ : WB x G 2 (QfV x G 0 0 Q) 0 0 s20 247 [(1, .int r10), (0, .ref (kB G + 182))] [.int (if r21 = 0 then 3 else r10 : Int32), .ref (kB G + 182)] := by
                refine pl_X2_115 X hph 182 ly_182 dX2_nextToken_247 (fun s24 e25 => ?_)
                replace h := h s24 e25
                refine r_aload_n X 1 dX2_nextToken_250 rfl rfl ?_
                refine r_dup X dX2_nextToken_251 rfl ?_
                refine gl_X2_105 X hph 182 ly_182 dX2_nextToken_252 ?_
                refine r_iconst (v := 1) X dX2_nextToken_255 rfl ?_
                refine r_iadd X dX2_nextToken_256 ?_
                refine pl_X2_105 X hph 182 ly_182 dX2_nextToken_257 (fun s26 e27 => ?_)
                replace h := h s26 e27
                refine r_iload_n X 0 dX2_nextToken_260 rfl rfl ?_
                refine r_bipush (v := 60) X dX2_nextToken_261 rfl ?_
                refine r_ic_eq X 272 dX2_nextToken_263 (by decide) (fun c28 => ?_) (fun c28 => ?_)
                · replace h := h.1 c28
                  refine r_sub [1, 0] rfl ?_
                  exact tb_X2_nextToken_272 X hph Q r10 s26 h
                · replace h := h.2 c28
                  refine r_iload_n X 0 dX2_nextToken_266 rfl rfl ?_
                  refine r_bipush (v := 62) X dX2_nextToken_267 rfl ?_
                  refine r_ic_ne X 310 dX2_nextToken_269 (by decide) (fun c29 => ?_) (fun c29 => ?_)
                  · replace h := h.2 c29
                    exact r_vret X h (Nat.le_of_ble_eq_true rfl) (Nat.le_of_ble_eq_true rfl) dX2_nextToken_310
                  · replace h := h.1 c29
                    refine r_sub [1, 0] rfl ?_
                    exact tb_X2_nextToken_272 X hph Q r10 s26 h
              refine r_if_eq X 246 dX2_nextToken_239 (by decide) (fun c23 => ?_) (fun c23 => ?_)
              · rw [if_pos c23] at hJ
                refine r_iconst (v := 3) X dX2_nextToken_246 rfl ?_
                exact hJ
              · rw [if_neg c23] at hJ
                refine r_iload_n X 0 dX2_nextToken_242 rfl rfl ?_
                refine r_goto X 247 dX2_nextToken_243 (by decide) ?_
                exact hJ
            · replace h := h.2 c19
              refine r_aload_n X 1 dX2_nextToken_158 rfl rfl ?_
              refine r_iconst (v := 2) X dX2_nextToken_159 rfl ?_
              refine pl_X2_115 X hph 182 ly_182 dX2_nextToken_160 (fun s30 e31 => ?_)
              replace h := h s30 e31
              refine r_aload_n X 1 dX2_nextToken_163 rfl rfl ?_
              refine r_lconst (v := 0) X dX2_nextToken_164 rfl ?_
              refine pl_X2_128 X hph 182 ly_182 dX2_nextToken_165 (fun s32 e33 => ?_)
              replace h := h s32 e33
              refine r_sub [1] rfl ?_
              obtain ⟨n34, h⟩ := h
              exact tl_X2_nextToken_168 X hph Q n34 s32 h
          · replace h := h.2 c15
            refine r_aload_n X 1 dX2_nextToken_75 rfl rfl ?_
            refine r_iconst (v := 1) X dX2_nextToken_76 rfl ?_
            refine pl_X2_115 X hph 182 ly_182 dX2_nextToken_77 (fun s35 e36 => ?_)
            replace h := h s35 e36
            refine r_aload_n X 1 dX2_nextToken_80 rfl rfl ?_
            refine r_iconst (v := 0) X dX2_nextToken_81 rfl ?_
            refine pl_X2_121 X hph 182 ly_182 dX2_nextToken_82 (fun s37 e38 => ?_)
            replace h := h s37 e38
            refine r_sub [1] rfl ?_
            obtain ⟨n39, h⟩ := h
            exact tl_X2_nextToken_85 X hph Q n39 s37 h
        · replace h := h.2 c11
          refine r_aload_n X 1 dX2_nextToken_60 rfl rfl ?_
          refine r_iconst (v := 0) X dX2_nextToken_61 rfl ?_
          refine pl_X2_115 X hph 182 ly_182 dX2_nextToken_62 (fun s40 e41 => ?_)
          replace h := h s40 e41
          refine r_goto X 310 dX2_nextToken_65 (by decide) ?_
          exact r_vret X h (Nat.le_of_ble_eq_true rfl) (Nat.le_of_ble_eq_true rfl) dX2_nextToken_310
      · replace h := h.1 c6
        exact tb_X2_nextToken_26 X hph Q (l_X2_nextToken_0 G Q n) s4 ih h
theorem e_X2_nextToken {x : CT} {G : GT} (X : Cx x G cX2_nextToken 2 RX2 none rm_X2_nextToken) (hph : kP G = 1) (s : PS) (Q : PS → Prop) (h : w_X2_nextToken G s Q) : WB x G 2 (QfV x G 0 0 Q) 0 0 s 0 [(0, .ref (kB G + 182))] [] := by
  unfold w_X2_nextToken at h
  obtain ⟨n1, h⟩ := h
  exact tl_X2_nextToken_0 X hph Q n1 s h
theorem m_X2_nextToken (l : Launch) (G : GT) (g : GK G) (hph : kP G = 1) (s : PS) (Q : PS → Prop) (h : w_X2_nextToken G s Q) : Met l yX2_nextToken (ws_ yX2_nextToken cX2_nextToken 2 none) rm_X2_nextToken (va_Pc [.ref (kB G + 182)] (Wr G s)) (va_Qv Q (fun u t => Wr G u t) (kF G)) 0 0 (kF G) := by
  refine Met.ofW (cc := cX2_nextToken) (maxL := 2) (ret := none) (by decide) rfl ?_
  intro p e s0 m args below meth c s₁ B hml hv
  obtain ⟨rfl, hw⟩ := hv
  exact wb_of [.ref (kB G + 182)] (Nat.le_of_ble_eq_true rfl) hw.1 rfl (e_X2_nextToken (cx_of g B hml rfl hw) hph s Q h)
theorem e_X2_w3 {x : CT} {G : GT} (X : Cx x G cX2_w3 3 RX2 (some .long) rm_X2_w3) (p1 : Int32) (p2 : Int32) (p3 : Int32) (s : PS) (Q : Int64 → PS → Prop) (h : w_X2_w3 G p1 p2 p3 s Q) : WB x G 3 (QfL x G 0 0 Q) 0 0 s 0 [(0, .int p1), (1, .int p2), (2, .int p3)] [] := by
  unfold w_X2_w3 at h
  refine r_iload_n X 0 dX2_w3_0 rfl rfl ?_
  refine r_i2l X dX2_w3_1 ?_
  refine r_bipush (v := 16) X dX2_w3_2 rfl ?_
  refine r_lshl X dX2_w3_4 ?_
  refine r_iload_n X 1 dX2_w3_5 rfl rfl ?_
  refine r_bipush (v := 8) X dX2_w3_6 rfl ?_
  refine r_ishl X dX2_w3_8 ?_
  refine r_i2l X dX2_w3_9 ?_
  refine r_lor X dX2_w3_10 ?_
  refine r_iload_n X 2 dX2_w3_11 rfl rfl ?_
  refine r_i2l X dX2_w3_12 ?_
  refine r_lor X dX2_w3_13 ?_
  exact r_lret X h (Nat.le_of_ble_eq_true rfl) (Nat.le_of_ble_eq_true rfl) dX2_w3_14
theorem m_X2_w3 (l : Launch) (G : GT) (g : GK G) (p1 : Int32) (p2 : Int32) (p3 : Int32) (s : PS) (Q : Int64 → PS → Prop) (h : w_X2_w3 G p1 p2 p3 s Q) : Met l yX2_w3 (ws_ yX2_w3 cX2_w3 3 (some .long)) rm_X2_w3 (va_Pc [.int p1, .int p2, .int p3] (Wr G s)) (va_Ql Q (fun u t => Wr G u t) (kF G)) 0 0 (kF G) := by
  refine Met.ofW (cc := cX2_w3) (maxL := 3) (ret := (some .long)) (by decide) rfl ?_
  intro p e s0 m args below meth c s₁ B hml hv
  obtain ⟨rfl, hw⟩ := hv
  exact wb_of [.int p1, .int p2, .int p3] (Nat.le_of_ble_eq_true rfl) hw.1 rfl (e_X2_w3 (cx_of g B hml rfl hw) p1 p2 p3 s Q h)
theorem e_X2_w4 {x : CT} {G : GT} (X : Cx x G cX2_w4 4 RX2 (some .long) rm_X2_w4) (p1 : Int32) (p2 : Int32) (p3 : Int32) (p4 : Int32) (s : PS) (Q : Int64 → PS → Prop) (h : w_X2_w4 G p1 p2 p3 p4 s Q) : WB x G 4 (QfL x G 0 0 Q) 0 0 s 0 [(0, .int p1), (1, .int p2), (2, .int p3), (3, .int p4)] [] := by
  unfold w_X2_w4 at h
  refine r_iload_n X 0 dX2_w4_0 rfl rfl ?_
  refine r_iload_n X 1 dX2_w4_1 rfl rfl ?_
  refine r_iload_n X 2 dX2_w4_2 rfl rfl ?_
  refine r_cl X (r_okS (As := [.int p1, .int p2, .int p3]) (rest := []) X (m_X2_w3 (xl x) G X.2.2.2.2.1 p1 p2 p3 s _ h) (cl_X2_137 X ⟨(Nat.le_of_ble_eq_true rfl), (Nat.le_of_ble_eq_true rfl)⟩) rfl rfl (Nat.le_of_ble_eq_true rfl) dX2_w4_3 ⟨Nat.le_of_ble_eq_true rfl, Nat.le_of_ble_eq_true rfl⟩) (fun r2 s1 h => ?_)
  refine r_bipush (v := 8) X dX2_w4_6 rfl ?_
  refine r_lshl X dX2_w4_8 ?_
  refine r_iload_n X 3 dX2_w4_9 rfl rfl ?_
  refine r_i2l X dX2_w4_10 ?_
  refine r_lor X dX2_w4_11 ?_
  exact r_lret X h (Nat.le_of_ble_eq_true rfl) (Nat.le_of_ble_eq_true rfl) dX2_w4_12
theorem m_X2_w4 (l : Launch) (G : GT) (g : GK G) (p1 : Int32) (p2 : Int32) (p3 : Int32) (p4 : Int32) (s : PS) (Q : Int64 → PS → Prop) (h : w_X2_w4 G p1 p2 p3 p4 s Q) : Met l yX2_w4 (ws_ yX2_w4 cX2_w4 4 (some .long)) rm_X2_w4 (va_Pc [.int p1, .int p2, .int p3, .int p4] (Wr G s)) (va_Ql Q (fun u t => Wr G u t) (kF G)) 0 0 (kF G) := by
  refine Met.ofW (cc := cX2_w4) (maxL := 4) (ret := (some .long)) (by decide) rfl ?_
  intro p e s0 m args below meth c s₁ B hml hv
  obtain ⟨rfl, hw⟩ := hv
  exact wb_of [.int p1, .int p2, .int p3, .int p4] (Nat.le_of_ble_eq_true rfl) hw.1 rfl (e_X2_w4 (cx_of g B hml rfl hw) p1 p2 p3 p4 s Q h)
theorem e_X2_w5 {x : CT} {G : GT} (X : Cx x G cX2_w5 5 RX2 (some .long) rm_X2_w5) (p1 : Int32) (p2 : Int32) (p3 : Int32) (p4 : Int32) (p5 : Int32) (s : PS) (Q : Int64 → PS → Prop) (h : w_X2_w5 G p1 p2 p3 p4 p5 s Q) : WB x G 5 (QfL x G 0 0 Q) 0 0 s 0 [(0, .int p1), (1, .int p2), (2, .int p3), (3, .int p4), (4, .int p5)] [] := by
  unfold w_X2_w5 at h
  refine r_iload_n X 0 dX2_w5_0 rfl rfl ?_
  refine r_iload_n X 1 dX2_w5_1 rfl rfl ?_
  refine r_iload_n X 2 dX2_w5_2 rfl rfl ?_
  refine r_iload_n X 3 dX2_w5_3 rfl rfl ?_
  refine r_cl X (r_okS (As := [.int p1, .int p2, .int p3, .int p4]) (rest := []) X (m_X2_w4 (xl x) G X.2.2.2.2.1 p1 p2 p3 p4 s _ h) (cl_X2_141 X ⟨(Nat.le_of_ble_eq_true rfl), (Nat.le_of_ble_eq_true rfl)⟩) rfl rfl (Nat.le_of_ble_eq_true rfl) dX2_w5_4 ⟨Nat.le_of_ble_eq_true rfl, Nat.le_of_ble_eq_true rfl⟩) (fun r2 s1 h => ?_)
  refine r_bipush (v := 8) X dX2_w5_7 rfl ?_
  refine r_lshl X dX2_w5_9 ?_
  refine r_iload X 4 dX2_w5_10 rfl ?_
  refine r_i2l X dX2_w5_12 ?_
  refine r_lor X dX2_w5_13 ?_
  exact r_lret X h (Nat.le_of_ble_eq_true rfl) (Nat.le_of_ble_eq_true rfl) dX2_w5_14
theorem m_X2_w5 (l : Launch) (G : GT) (g : GK G) (p1 : Int32) (p2 : Int32) (p3 : Int32) (p4 : Int32) (p5 : Int32) (s : PS) (Q : Int64 → PS → Prop) (h : w_X2_w5 G p1 p2 p3 p4 p5 s Q) : Met l yX2_w5 (ws_ yX2_w5 cX2_w5 5 (some .long)) rm_X2_w5 (va_Pc [.int p1, .int p2, .int p3, .int p4, .int p5] (Wr G s)) (va_Ql Q (fun u t => Wr G u t) (kF G)) 0 0 (kF G) := by
  refine Met.ofW (cc := cX2_w5) (maxL := 5) (ret := (some .long)) (by decide) rfl ?_
  intro p e s0 m args below meth c s₁ B hml hv
  obtain ⟨rfl, hw⟩ := hv
  exact wb_of [.int p1, .int p2, .int p3, .int p4, .int p5] (Nat.le_of_ble_eq_true rfl) hw.1 rfl (e_X2_w5 (cx_of g B hml rfl hw) p1 p2 p3 p4 p5 s Q h)
theorem e_X2_w6 {x : CT} {G : GT} (X : Cx x G cX2_w6 6 RX2 (some .long) rm_X2_w6) (p1 : Int32) (p2 : Int32) (p3 : Int32) (p4 : Int32) (p5 : Int32) (p6 : Int32) (s : PS) (Q : Int64 → PS → Prop) (h : w_X2_w6 G p1 p2 p3 p4 p5 p6 s Q) : WB x G 6 (QfL x G 0 0 Q) 0 0 s 0 [(0, .int p1), (1, .int p2), (2, .int p3), (3, .int p4), (4, .int p5), (5, .int p6)] [] := by
  unfold w_X2_w6 at h
  refine r_iload_n X 0 dX2_w6_0 rfl rfl ?_
  refine r_iload_n X 1 dX2_w6_1 rfl rfl ?_
  refine r_iload_n X 2 dX2_w6_2 rfl rfl ?_
  refine r_iload_n X 3 dX2_w6_3 rfl rfl ?_
  refine r_iload X 4 dX2_w6_4 rfl ?_
  refine r_cl X (r_okS (As := [.int p1, .int p2, .int p3, .int p4, .int p5]) (rest := []) X (m_X2_w5 (xl x) G X.2.2.2.2.1 p1 p2 p3 p4 p5 s _ h) (cl_X2_145 X ⟨(Nat.le_of_ble_eq_true rfl), (Nat.le_of_ble_eq_true rfl)⟩) rfl rfl (Nat.le_of_ble_eq_true rfl) dX2_w6_6 ⟨Nat.le_of_ble_eq_true rfl, Nat.le_of_ble_eq_true rfl⟩) (fun r2 s1 h => ?_)
  refine r_bipush (v := 8) X dX2_w6_9 rfl ?_
  refine r_lshl X dX2_w6_11 ?_
  refine r_iload X 5 dX2_w6_12 rfl ?_
  refine r_i2l X dX2_w6_14 ?_
  refine r_lor X dX2_w6_15 ?_
  exact r_lret X h (Nat.le_of_ble_eq_true rfl) (Nat.le_of_ble_eq_true rfl) dX2_w6_16
theorem m_X2_w6 (l : Launch) (G : GT) (g : GK G) (p1 : Int32) (p2 : Int32) (p3 : Int32) (p4 : Int32) (p5 : Int32) (p6 : Int32) (s : PS) (Q : Int64 → PS → Prop) (h : w_X2_w6 G p1 p2 p3 p4 p5 p6 s Q) : Met l yX2_w6 (ws_ yX2_w6 cX2_w6 6 (some .long)) rm_X2_w6 (va_Pc [.int p1, .int p2, .int p3, .int p4, .int p5, .int p6] (Wr G s)) (va_Ql Q (fun u t => Wr G u t) (kF G)) 0 0 (kF G) := by
  refine Met.ofW (cc := cX2_w6) (maxL := 6) (ret := (some .long)) (by decide) rfl ?_
  intro p e s0 m args below meth c s₁ B hml hv
  obtain ⟨rfl, hw⟩ := hv
  exact wb_of [.int p1, .int p2, .int p3, .int p4, .int p5, .int p6] (Nat.le_of_ble_eq_true rfl) hw.1 rfl (e_X2_w6 (cx_of g B hml rfl hw) p1 p2 p3 p4 p5 p6 s Q h)
theorem e_X2_isWord {x : CT} {G : GT} (X : Cx x G cX2_isWord 3 RX2 (some .boolean) rm_X2_isWord) (hph : kP G = 1) (p1 : Int64) (s : PS) (Q : Int32 → PS → Prop) (h : w_X2_isWord G p1 s Q) : WB x G 3 (QfI x G 0 0 (fun r u => (r = 0 ∨ r = 1) ∧ Q r u)) 0 0 s 0 [(0, .ref (kB G + 182)), (1, .long p1)] [] := by
  unfold w_X2_isWord at h
  refine r_aload_n X 0 dX2_isWord_0 rfl rfl ?_
  refine gl_X2_115 X hph 182 ly_182 dX2_isWord_1 ?_
  refine r_iconst (v := 2) X dX2_isWord_4 rfl ?_
  have hJ : WB x G 3 (QfI x G 0 0 (fun r u => (r = 0 ∨ r = 1) ∧ Q r u)) 0 0 s 22 [(0, .ref (kB G + 182)), (1, .long p1)] [.int (if (gI s (kB G + 182) 9) = 2 then (if (lg_cmp (gL s (kB G + 182) 11) p1) = 0 then 1 else 0 : Int32) else 0 : Int32)] := by
    exact r_zret X (by (repeat' split) <;> first | exact Or.inl rfl | exact Or.inr rfl) h (Nat.le_of_ble_eq_true rfl) (Nat.le_of_ble_eq_true rfl) dX2_isWord_22
  refine r_ic_ne X 21 dX2_isWord_5 (by decide) (fun c2 => ?_) (fun c2 => ?_)
  · rw [if_neg c2] at hJ
    refine r_iconst (v := 0) X dX2_isWord_21 rfl ?_
    exact hJ
  · rw [if_pos c2] at hJ
    refine r_aload_n X 0 dX2_isWord_8 rfl rfl ?_
    refine gl_X2_128 X hph 182 ly_182 dX2_isWord_9 ?_
    refine r_lload_n X 1 dX2_isWord_12 rfl rfl ?_
    refine r_lcmp X dX2_isWord_13 ?_
    refine r_if_ne X 21 dX2_isWord_14 (by decide) (fun c1 => ?_) (fun c1 => ?_)
    · rw [if_neg c1] at hJ
      refine r_iconst (v := 0) X dX2_isWord_21 rfl ?_
      exact hJ
    · rw [if_pos c1] at hJ
      refine r_iconst (v := 1) X dX2_isWord_17 rfl ?_
      refine r_goto X 22 dX2_isWord_18 (by decide) ?_
      exact hJ
theorem m_X2_isWord (l : Launch) (G : GT) (g : GK G) (hph : kP G = 1) (p1 : Int64) (s : PS) (Q : Int32 → PS → Prop) (h : w_X2_isWord G p1 s Q) : Met l yX2_isWord (ws_ yX2_isWord cX2_isWord 3 (some .boolean)) rm_X2_isWord (va_Pc [.ref (kB G + 182), .long p1] (Wr G s)) (va_Qi (fun r u => (r = 0 ∨ r = 1) ∧ Q r u) (fun u t => Wr G u t) (kF G)) 0 0 (kF G) := by
  refine Met.ofW (cc := cX2_isWord) (maxL := 3) (ret := (some .boolean)) (by decide) rfl ?_
  intro p e s0 m args below meth c s₁ B hml hv
  obtain ⟨rfl, hw⟩ := hv
  exact wb_of [.ref (kB G + 182), .long p1] (Nat.le_of_ble_eq_true rfl) hw.1 rfl (e_X2_isWord (cx_of g B hml rfl hw) hph p1 s Q h)
theorem e_X2_sortOf {x : CT} {G : GT} (X : Cx x G cX2_sortOf 1 RX2 (some .int) rm_X2_sortOf) (hph : kP G = 1) (s : PS) (Q : Int32 → PS → Prop) (h : w_X2_sortOf G s Q) : WB x G 1 (QfI x G 0 0 Q) 0 0 s 0 [(0, .ref (kB G + 182))] [] := by
  unfold w_X2_sortOf at h
  refine r_aload_n X 0 dX2_sortOf_0 rfl rfl ?_
  refine r_bipush (v := 119) X dX2_sortOf_1 rfl ?_
  refine r_bipush (v := 101) X dX2_sortOf_3 rfl ?_
  refine r_bipush (v := 105) X dX2_sortOf_5 rfl ?_
  refine r_bipush (v := 103) X dX2_sortOf_7 rfl ?_
  refine r_bipush (v := 104) X dX2_sortOf_9 rfl ?_
  refine r_bipush (v := 116) X dX2_sortOf_11 rfl ?_
  refine r_cl X (r_okS (As := [.int 119, .int 101, .int 105, .int 103, .int 104, .int 116]) (rest := [.ref (kB G + 182)]) X (m_X2_w6 (xl x) G X.2.2.2.2.1 119 101 105 103 104 116 s _ h) (cl_X2_155 X ⟨(Nat.le_of_ble_eq_true rfl), (Nat.le_of_ble_eq_true rfl)⟩) rfl rfl (Nat.le_of_ble_eq_true rfl) dX2_sortOf_13 ⟨Nat.le_of_ble_eq_true rfl, Nat.le_of_ble_eq_true rfl⟩) (fun r2 s1 h => ?_)
  refine r_ci X (r_okVL (As := [.long r2]) (rest := []) X (m_X2_isWord (xl x) G X.2.2.2.2.1 hph r2 s1 _ h) (cl_X2_207 X ⟨(Nat.le_of_ble_eq_true rfl), (Nat.le_of_ble_eq_true rfl)⟩) hph 2 ly_182 rfl rfl rfl rfl (Nat.le_of_ble_eq_true rfl) dX2_sortOf_16 ⟨Nat.le_of_ble_eq_true rfl, Nat.le_of_ble_eq_true rfl⟩) (fun r4 s3 h => ?_)
  obtain ⟨z5, h⟩ := h
  refine r_if_eq X 24 dX2_sortOf_19 (by decide) (fun c6 => ?_) (fun c6 => ?_)
  · replace h := h.1 c6
    refine r_aload_n X 0 dX2_sortOf_24 rfl rfl ?_
    refine r_bipush (v := 115) X dX2_sortOf_25 rfl ?_
    refine r_bipush (v := 116) X dX2_sortOf_27 rfl ?_
    refine r_bipush (v := 105) X dX2_sortOf_29 rfl ?_
    refine r_bipush (v := 99) X dX2_sortOf_31 rfl ?_
    refine r_bipush (v := 107) X dX2_sortOf_33 rfl ?_
    refine r_bipush (v := 115) X dX2_sortOf_35 rfl ?_
    refine r_cl X (r_okS (As := [.int 115, .int 116, .int 105, .int 99, .int 107, .int 115]) (rest := [.ref (kB G + 182)]) X (m_X2_w6 (xl x) G X.2.2.2.2.1 115 116 105 99 107 115 s3 _ h) (cl_X2_155 X ⟨(Nat.le_of_ble_eq_true rfl), (Nat.le_of_ble_eq_true rfl)⟩) rfl rfl (Nat.le_of_ble_eq_true rfl) dX2_sortOf_37 ⟨Nat.le_of_ble_eq_true rfl, Nat.le_of_ble_eq_true rfl⟩) (fun r8 s7 h => ?_)
    refine r_ci X (r_okVL (As := [.long r8]) (rest := []) X (m_X2_isWord (xl x) G X.2.2.2.2.1 hph r8 s7 _ h) (cl_X2_207 X ⟨(Nat.le_of_ble_eq_true rfl), (Nat.le_of_ble_eq_true rfl)⟩) hph 2 ly_182 rfl rfl rfl rfl (Nat.le_of_ble_eq_true rfl) dX2_sortOf_40 ⟨Nat.le_of_ble_eq_true rfl, Nat.le_of_ble_eq_true rfl⟩) (fun r10 s9 h => ?_)
    obtain ⟨z11, h⟩ := h
    refine r_if_eq X 48 dX2_sortOf_43 (by decide) (fun c12 => ?_) (fun c12 => ?_)
    · replace h := h.1 c12
      refine r_aload_n X 0 dX2_sortOf_48 rfl rfl ?_
      refine r_bipush (v := 108) X dX2_sortOf_49 rfl ?_
      refine r_bipush (v := 105) X dX2_sortOf_51 rfl ?_
      refine r_bipush (v := 101) X dX2_sortOf_53 rfl ?_
      refine r_cl X (r_okS (As := [.int 108, .int 105, .int 101]) (rest := [.ref (kB G + 182)]) X (m_X2_w3 (xl x) G X.2.2.2.2.1 108 105 101 s9 _ h) (cl_X2_137 X ⟨(Nat.le_of_ble_eq_true rfl), (Nat.le_of_ble_eq_true rfl)⟩) rfl rfl (Nat.le_of_ble_eq_true rfl) dX2_sortOf_55 ⟨Nat.le_of_ble_eq_true rfl, Nat.le_of_ble_eq_true rfl⟩) (fun r14 s13 h => ?_)
      refine r_ci X (r_okVL (As := [.long r14]) (rest := []) X (m_X2_isWord (xl x) G X.2.2.2.2.1 hph r14 s13 _ h) (cl_X2_207 X ⟨(Nat.le_of_ble_eq_true rfl), (Nat.le_of_ble_eq_true rfl)⟩) hph 2 ly_182 rfl rfl rfl rfl (Nat.le_of_ble_eq_true rfl) dX2_sortOf_58 ⟨Nat.le_of_ble_eq_true rfl, Nat.le_of_ble_eq_true rfl⟩) (fun r16 s15 h => ?_)
      obtain ⟨z17, h⟩ := h
      refine r_if_eq X 66 dX2_sortOf_61 (by decide) (fun c18 => ?_) (fun c18 => ?_)
      · replace h := h.1 c18
        refine r_aload_n X 0 dX2_sortOf_66 rfl rfl ?_
        refine r_ldc2 X q1551 dX2_sortOf_67 ?_
        refine r_ci X (r_okVL (As := [.long 30064]) (rest := []) X (m_X2_isWord (xl x) G X.2.2.2.2.1 hph 30064 s15 _ h) (cl_X2_207 X ⟨(Nat.le_of_ble_eq_true rfl), (Nat.le_of_ble_eq_true rfl)⟩) hph 2 ly_182 rfl rfl rfl rfl (Nat.le_of_ble_eq_true rfl) dX2_sortOf_70 ⟨Nat.le_of_ble_eq_true rfl, Nat.le_of_ble_eq_true rfl⟩) (fun r20 s19 h => ?_)
        obtain ⟨z21, h⟩ := h
        refine r_if_eq X 78 dX2_sortOf_73 (by decide) (fun c22 => ?_) (fun c22 => ?_)
        · replace h := h.1 c22
          refine r_aload_n X 0 dX2_sortOf_78 rfl rfl ?_
          refine r_bipush (v := 104) X dX2_sortOf_79 rfl ?_
          refine r_bipush (v := 101) X dX2_sortOf_81 rfl ?_
          refine r_bipush (v := 97) X dX2_sortOf_83 rfl ?_
          refine r_bipush (v := 114) X dX2_sortOf_85 rfl ?_
          refine r_bipush (v := 116) X dX2_sortOf_87 rfl ?_
          refine r_cl X (r_okS (As := [.int 104, .int 101, .int 97, .int 114, .int 116]) (rest := [.ref (kB G + 182)]) X (m_X2_w5 (xl x) G X.2.2.2.2.1 104 101 97 114 116 s19 _ h) (cl_X2_145 X ⟨(Nat.le_of_ble_eq_true rfl), (Nat.le_of_ble_eq_true rfl)⟩) rfl rfl (Nat.le_of_ble_eq_true rfl) dX2_sortOf_89 ⟨Nat.le_of_ble_eq_true rfl, Nat.le_of_ble_eq_true rfl⟩) (fun r24 s23 h => ?_)
          refine r_ci X (r_okVL (As := [.long r24]) (rest := []) X (m_X2_isWord (xl x) G X.2.2.2.2.1 hph r24 s23 _ h) (cl_X2_207 X ⟨(Nat.le_of_ble_eq_true rfl), (Nat.le_of_ble_eq_true rfl)⟩) hph 2 ly_182 rfl rfl rfl rfl (Nat.le_of_ble_eq_true rfl) dX2_sortOf_92 ⟨Nat.le_of_ble_eq_true rfl, Nat.le_of_ble_eq_true rfl⟩) (fun r26 s25 h => ?_)
          obtain ⟨z27, h⟩ := h
          refine r_if_eq X 100 dX2_sortOf_95 (by decide) (fun c28 => ?_) (fun c28 => ?_)
          · replace h := h.1 c28
            refine r_aload_n X 0 dX2_sortOf_100 rfl rfl ?_
            refine r_bipush (v := 100) X dX2_sortOf_101 rfl ?_
            refine r_bipush (v := 101) X dX2_sortOf_103 rfl ?_
            refine r_bipush (v := 101) X dX2_sortOf_105 rfl ?_
            refine r_bipush (v := 100) X dX2_sortOf_107 rfl ?_
            refine r_cl X (r_okS (As := [.int 100, .int 101, .int 101, .int 100]) (rest := [.ref (kB G + 182)]) X (m_X2_w4 (xl x) G X.2.2.2.2.1 100 101 101 100 s25 _ h) (cl_X2_141 X ⟨(Nat.le_of_ble_eq_true rfl), (Nat.le_of_ble_eq_true rfl)⟩) rfl rfl (Nat.le_of_ble_eq_true rfl) dX2_sortOf_109 ⟨Nat.le_of_ble_eq_true rfl, Nat.le_of_ble_eq_true rfl⟩) (fun r30 s29 h => ?_)
            refine r_ci X (r_okVL (As := [.long r30]) (rest := []) X (m_X2_isWord (xl x) G X.2.2.2.2.1 hph r30 s29 _ h) (cl_X2_207 X ⟨(Nat.le_of_ble_eq_true rfl), (Nat.le_of_ble_eq_true rfl)⟩) hph 2 ly_182 rfl rfl rfl rfl (Nat.le_of_ble_eq_true rfl) dX2_sortOf_112 ⟨Nat.le_of_ble_eq_true rfl, Nat.le_of_ble_eq_true rfl⟩) (fun r32 s31 h => ?_)
            obtain ⟨z33, h⟩ := h
            refine r_if_eq X 120 dX2_sortOf_115 (by decide) (fun c34 => ?_) (fun c34 => ?_)
            · replace h := h.1 c34
              refine r_aload_n X 0 dX2_sortOf_120 rfl rfl ?_
              refine r_bipush (v := 106) X dX2_sortOf_121 rfl ?_
              refine r_bipush (v := 117) X dX2_sortOf_123 rfl ?_
              refine r_bipush (v := 100) X dX2_sortOf_125 rfl ?_
              refine r_bipush (v := 103) X dX2_sortOf_127 rfl ?_
              refine r_bipush (v := 101) X dX2_sortOf_129 rfl ?_
              refine r_cl X (r_okS (As := [.int 106, .int 117, .int 100, .int 103, .int 101]) (rest := [.ref (kB G + 182)]) X (m_X2_w5 (xl x) G X.2.2.2.2.1 106 117 100 103 101 s31 _ h) (cl_X2_145 X ⟨(Nat.le_of_ble_eq_true rfl), (Nat.le_of_ble_eq_true rfl)⟩) rfl rfl (Nat.le_of_ble_eq_true rfl) dX2_sortOf_131 ⟨Nat.le_of_ble_eq_true rfl, Nat.le_of_ble_eq_true rfl⟩) (fun r36 s35 h => ?_)
              refine r_ci X (r_okVL (As := [.long r36]) (rest := []) X (m_X2_isWord (xl x) G X.2.2.2.2.1 hph r36 s35 _ h) (cl_X2_207 X ⟨(Nat.le_of_ble_eq_true rfl), (Nat.le_of_ble_eq_true rfl)⟩) hph 2 ly_182 rfl rfl rfl rfl (Nat.le_of_ble_eq_true rfl) dX2_sortOf_134 ⟨Nat.le_of_ble_eq_true rfl, Nat.le_of_ble_eq_true rfl⟩) (fun r38 s37 h => ?_)
              obtain ⟨z39, h⟩ := h
              refine r_if_eq X 143 dX2_sortOf_137 (by decide) (fun c40 => ?_) (fun c40 => ?_)
              · replace h := h.1 c40
                refine r_aload_n X 0 dX2_sortOf_143 rfl rfl ?_
                refine r_bipush (v := 108) X dX2_sortOf_144 rfl ?_
                refine r_bipush (v := 101) X dX2_sortOf_146 rfl ?_
                refine r_bipush (v := 110) X dX2_sortOf_148 rfl ?_
                refine r_bipush (v := 100) X dX2_sortOf_150 rfl ?_
                refine r_cl X (r_okS (As := [.int 108, .int 101, .int 110, .int 100]) (rest := [.ref (kB G + 182)]) X (m_X2_w4 (xl x) G X.2.2.2.2.1 108 101 110 100 s37 _ h) (cl_X2_141 X ⟨(Nat.le_of_ble_eq_true rfl), (Nat.le_of_ble_eq_true rfl)⟩) rfl rfl (Nat.le_of_ble_eq_true rfl) dX2_sortOf_152 ⟨Nat.le_of_ble_eq_true rfl, Nat.le_of_ble_eq_true rfl⟩) (fun r42 s41 h => ?_)
                refine r_ci X (r_okVL (As := [.long r42]) (rest := []) X (m_X2_isWord (xl x) G X.2.2.2.2.1 hph r42 s41 _ h) (cl_X2_207 X ⟨(Nat.le_of_ble_eq_true rfl), (Nat.le_of_ble_eq_true rfl)⟩) hph 2 ly_182 rfl rfl rfl rfl (Nat.le_of_ble_eq_true rfl) dX2_sortOf_155 ⟨Nat.le_of_ble_eq_true rfl, Nat.le_of_ble_eq_true rfl⟩) (fun r44 s43 h => ?_)
                obtain ⟨z45, h⟩ := h
                refine r_if_eq X 164 dX2_sortOf_158 (by decide) (fun c46 => ?_) (fun c46 => ?_)
                · replace h := h.1 c46
                  refine r_aload_n X 0 dX2_sortOf_164 rfl rfl ?_
                  refine r_bipush (v := 119) X dX2_sortOf_165 rfl ?_
                  refine r_bipush (v := 101) X dX2_sortOf_167 rfl ?_
                  refine r_bipush (v := 105) X dX2_sortOf_169 rfl ?_
                  refine r_bipush (v := 103) X dX2_sortOf_171 rfl ?_
                  refine r_bipush (v := 104) X dX2_sortOf_173 rfl ?_
                  refine r_cl X (r_okS (As := [.int 119, .int 101, .int 105, .int 103, .int 104]) (rest := [.ref (kB G + 182)]) X (m_X2_w5 (xl x) G X.2.2.2.2.1 119 101 105 103 104 s43 _ h) (cl_X2_145 X ⟨(Nat.le_of_ble_eq_true rfl), (Nat.le_of_ble_eq_true rfl)⟩) rfl rfl (Nat.le_of_ble_eq_true rfl) dX2_sortOf_175 ⟨Nat.le_of_ble_eq_true rfl, Nat.le_of_ble_eq_true rfl⟩) (fun r48 s47 h => ?_)
                  refine r_ci X (r_okVL (As := [.long r48]) (rest := []) X (m_X2_isWord (xl x) G X.2.2.2.2.1 hph r48 s47 _ h) (cl_X2_207 X ⟨(Nat.le_of_ble_eq_true rfl), (Nat.le_of_ble_eq_true rfl)⟩) hph 2 ly_182 rfl rfl rfl rfl (Nat.le_of_ble_eq_true rfl) dX2_sortOf_178 ⟨Nat.le_of_ble_eq_true rfl, Nat.le_of_ble_eq_true rfl⟩) (fun r50 s49 h => ?_)
                  obtain ⟨z51, h⟩ := h
                  refine r_if_eq X 187 dX2_sortOf_181 (by decide) (fun c52 => ?_) (fun c52 => ?_)
                  · replace h := h.1 c52
                    refine r_aload_n X 0 dX2_sortOf_187 rfl rfl ?_
                    refine r_bipush (v := 108) X dX2_sortOf_188 rfl ?_
                    refine r_bipush (v := 97) X dX2_sortOf_190 rfl ?_
                    refine r_bipush (v := 121) X dX2_sortOf_192 rfl ?_
                    refine r_cl X (r_okS (As := [.int 108, .int 97, .int 121]) (rest := [.ref (kB G + 182)]) X (m_X2_w3 (xl x) G X.2.2.2.2.1 108 97 121 s49 _ h) (cl_X2_137 X ⟨(Nat.le_of_ble_eq_true rfl), (Nat.le_of_ble_eq_true rfl)⟩) rfl rfl (Nat.le_of_ble_eq_true rfl) dX2_sortOf_194 ⟨Nat.le_of_ble_eq_true rfl, Nat.le_of_ble_eq_true rfl⟩) (fun r54 s53 h => ?_)
                    refine r_ci X (r_okVL (As := [.long r54]) (rest := []) X (m_X2_isWord (xl x) G X.2.2.2.2.1 hph r54 s53 _ h) (cl_X2_207 X ⟨(Nat.le_of_ble_eq_true rfl), (Nat.le_of_ble_eq_true rfl)⟩) hph 2 ly_182 rfl rfl rfl rfl (Nat.le_of_ble_eq_true rfl) dX2_sortOf_197 ⟨Nat.le_of_ble_eq_true rfl, Nat.le_of_ble_eq_true rfl⟩) (fun r56 s55 h => ?_)
                    obtain ⟨z57, h⟩ := h
                    refine r_if_eq X 206 dX2_sortOf_200 (by decide) (fun c58 => ?_) (fun c58 => ?_)
                    · replace h := h.1 c58
                      refine r_aload_n X 0 dX2_sortOf_206 rfl rfl ?_
                      refine r_bipush (v := 121) X dX2_sortOf_207 rfl ?_
                      refine r_bipush (v := 101) X dX2_sortOf_209 rfl ?_
                      refine r_bipush (v := 115) X dX2_sortOf_211 rfl ?_
                      refine r_cl X (r_okS (As := [.int 121, .int 101, .int 115]) (rest := [.ref (kB G + 182)]) X (m_X2_w3 (xl x) G X.2.2.2.2.1 121 101 115 s55 _ h) (cl_X2_137 X ⟨(Nat.le_of_ble_eq_true rfl), (Nat.le_of_ble_eq_true rfl)⟩) rfl rfl (Nat.le_of_ble_eq_true rfl) dX2_sortOf_213 ⟨Nat.le_of_ble_eq_true rfl, Nat.le_of_ble_eq_true rfl⟩) (fun r60 s59 h => ?_)
                      refine r_ci X (r_okVL (As := [.long r60]) (rest := []) X (m_X2_isWord (xl x) G X.2.2.2.2.1 hph r60 s59 _ h) (cl_X2_207 X ⟨(Nat.le_of_ble_eq_true rfl), (Nat.le_of_ble_eq_true rfl)⟩) hph 2 ly_182 rfl rfl rfl rfl (Nat.le_of_ble_eq_true rfl) dX2_sortOf_216 ⟨Nat.le_of_ble_eq_true rfl, Nat.le_of_ble_eq_true rfl⟩) (fun r62 s61 h => ?_)
                      obtain ⟨z63, h⟩ := h
                      refine r_if_eq X 225 dX2_sortOf_219 (by decide) (fun c64 => ?_) (fun c64 => ?_)
                      · replace h := h.1 c64
                        refine r_aload_n X 0 dX2_sortOf_225 rfl rfl ?_
                        refine r_ldc2 X q1552 dX2_sortOf_226 ?_
                        refine r_ci X (r_okVL (As := [.long 28271]) (rest := []) X (m_X2_isWord (xl x) G X.2.2.2.2.1 hph 28271 s61 _ h) (cl_X2_207 X ⟨(Nat.le_of_ble_eq_true rfl), (Nat.le_of_ble_eq_true rfl)⟩) hph 2 ly_182 rfl rfl rfl rfl (Nat.le_of_ble_eq_true rfl) dX2_sortOf_229 ⟨Nat.le_of_ble_eq_true rfl, Nat.le_of_ble_eq_true rfl⟩) (fun r66 s65 h => ?_)
                        obtain ⟨z67, h⟩ := h
                        refine r_if_eq X 240 dX2_sortOf_232 (by decide) (fun c68 => ?_) (fun c68 => ?_)
                        · replace h := h.1 c68
                          refine r_aload_n X 0 dX2_sortOf_240 rfl rfl ?_
                          refine r_bipush (v := 101) X dX2_sortOf_241 rfl ?_
                          refine r_bipush (v := 110) X dX2_sortOf_243 rfl ?_
                          refine r_bipush (v := 100) X dX2_sortOf_245 rfl ?_
                          refine r_cl X (r_okS (As := [.int 101, .int 110, .int 100]) (rest := [.ref (kB G + 182)]) X (m_X2_w3 (xl x) G X.2.2.2.2.1 101 110 100 s65 _ h) (cl_X2_137 X ⟨(Nat.le_of_ble_eq_true rfl), (Nat.le_of_ble_eq_true rfl)⟩) rfl rfl (Nat.le_of_ble_eq_true rfl) dX2_sortOf_247 ⟨Nat.le_of_ble_eq_true rfl, Nat.le_of_ble_eq_true rfl⟩) (fun r70 s69 h => ?_)
                          refine r_ci X (r_okVL (As := [.long r70]) (rest := []) X (m_X2_isWord (xl x) G X.2.2.2.2.1 hph r70 s69 _ h) (cl_X2_207 X ⟨(Nat.le_of_ble_eq_true rfl), (Nat.le_of_ble_eq_true rfl)⟩) hph 2 ly_182 rfl rfl rfl rfl (Nat.le_of_ble_eq_true rfl) dX2_sortOf_250 ⟨Nat.le_of_ble_eq_true rfl, Nat.le_of_ble_eq_true rfl⟩) (fun r72 s71 h => ?_)
                          obtain ⟨z73, h⟩ := h
                          have hJ : WB x G 1 (QfI x G 0 0 Q) 0 0 s71 262 [(0, .ref (kB G + 182))] [.int (if r72 = 0 then (-1) else 12 : Int32)] := by
                            exact r_iret X h (Nat.le_of_ble_eq_true rfl) (Nat.le_of_ble_eq_true rfl) dX2_sortOf_262
                          refine r_if_eq X 261 dX2_sortOf_253 (by decide) (fun c74 => ?_) (fun c74 => ?_)
                          · rw [if_pos c74] at hJ
                            refine r_iconst (v := (-1)) X dX2_sortOf_261 rfl ?_
                            exact hJ
                          · rw [if_neg c74] at hJ
                            refine r_bipush (v := 12) X dX2_sortOf_256 rfl ?_
                            refine r_goto X 262 dX2_sortOf_258 (by decide) ?_
                            exact hJ
                        · replace h := h.2 c68
                          refine r_bipush (v := 11) X dX2_sortOf_235 rfl ?_
                          refine r_goto X 262 dX2_sortOf_237 (by decide) ?_
                          exact r_iret X h (Nat.le_of_ble_eq_true rfl) (Nat.le_of_ble_eq_true rfl) dX2_sortOf_262
                      · replace h := h.2 c64
                        refine r_bipush (v := 10) X dX2_sortOf_222 rfl ?_
                        exact r_iret X h (Nat.le_of_ble_eq_true rfl) (Nat.le_of_ble_eq_true rfl) dX2_sortOf_224
                    · replace h := h.2 c58
                      refine r_bipush (v := 9) X dX2_sortOf_203 rfl ?_
                      exact r_iret X h (Nat.le_of_ble_eq_true rfl) (Nat.le_of_ble_eq_true rfl) dX2_sortOf_205
                  · replace h := h.2 c52
                    refine r_bipush (v := 8) X dX2_sortOf_184 rfl ?_
                    exact r_iret X h (Nat.le_of_ble_eq_true rfl) (Nat.le_of_ble_eq_true rfl) dX2_sortOf_186
                · replace h := h.2 c46
                  refine r_bipush (v := 7) X dX2_sortOf_161 rfl ?_
                  exact r_iret X h (Nat.le_of_ble_eq_true rfl) (Nat.le_of_ble_eq_true rfl) dX2_sortOf_163
              · replace h := h.2 c40
                refine r_bipush (v := 6) X dX2_sortOf_140 rfl ?_
                exact r_iret X h (Nat.le_of_ble_eq_true rfl) (Nat.le_of_ble_eq_true rfl) dX2_sortOf_142
            · replace h := h.2 c34
              refine r_iconst (v := 5) X dX2_sortOf_118 rfl ?_
              exact r_iret X h (Nat.le_of_ble_eq_true rfl) (Nat.le_of_ble_eq_true rfl) dX2_sortOf_119
          · replace h := h.2 c28
            refine r_iconst (v := 4) X dX2_sortOf_98 rfl ?_
            exact r_iret X h (Nat.le_of_ble_eq_true rfl) (Nat.le_of_ble_eq_true rfl) dX2_sortOf_99
        · replace h := h.2 c22
          refine r_iconst (v := 3) X dX2_sortOf_76 rfl ?_
          exact r_iret X h (Nat.le_of_ble_eq_true rfl) (Nat.le_of_ble_eq_true rfl) dX2_sortOf_77
      · replace h := h.2 c18
        refine r_iconst (v := 2) X dX2_sortOf_64 rfl ?_
        exact r_iret X h (Nat.le_of_ble_eq_true rfl) (Nat.le_of_ble_eq_true rfl) dX2_sortOf_65
    · replace h := h.2 c12
      refine r_iconst (v := 1) X dX2_sortOf_46 rfl ?_
      exact r_iret X h (Nat.le_of_ble_eq_true rfl) (Nat.le_of_ble_eq_true rfl) dX2_sortOf_47
  · replace h := h.2 c6
    refine r_iconst (v := 0) X dX2_sortOf_22 rfl ?_
    exact r_iret X h (Nat.le_of_ble_eq_true rfl) (Nat.le_of_ble_eq_true rfl) dX2_sortOf_23
theorem m_X2_sortOf (l : Launch) (G : GT) (g : GK G) (hph : kP G = 1) (s : PS) (Q : Int32 → PS → Prop) (h : w_X2_sortOf G s Q) : Met l yX2_sortOf (ws_ yX2_sortOf cX2_sortOf 1 (some .int)) rm_X2_sortOf (va_Pc [.ref (kB G + 182)] (Wr G s)) (va_Qi Q (fun u t => Wr G u t) (kF G)) 0 0 (kF G) := by
  refine Met.ofW (cc := cX2_sortOf) (maxL := 1) (ret := (some .int)) (by decide) rfl ?_
  intro p e s0 m args below meth c s₁ B hml hv
  obtain ⟨rfl, hw⟩ := hv
  exact wb_of [.ref (kB G + 182)] (Nat.le_of_ble_eq_true rfl) hw.1 rfl (e_X2_sortOf (cx_of g B hml rfl hw) hph s Q h)
theorem e_X2_has {x : CT} {G : GT} (X : Cx x G cX2_has 2 RX2 (some .boolean) rm_X2_has) (p1 : Int32) (p2 : Int32) (s : PS) (Q : Int32 → PS → Prop) (h : w_X2_has G p1 p2 s Q) : WB x G 2 (QfI x G 0 0 (fun r u => (r = 0 ∨ r = 1) ∧ Q r u)) 0 0 s 0 [(0, .int p1), (1, .int p2)] [] := by
  unfold w_X2_has at h
  refine r_iload_n X 0 dX2_has_0 rfl rfl ?_
  refine r_iload_n X 1 dX2_has_1 rfl rfl ?_
  refine r_ishr X dX2_has_2 ?_
  refine r_iconst (v := 1) X dX2_has_3 rfl ?_
  refine r_iand X dX2_has_4 ?_
  refine r_iconst (v := 1) X dX2_has_5 rfl ?_
  have hJ : WB x G 2 (QfI x G 0 0 (fun r u => (r = 0 ∨ r = 1) ∧ Q r u)) 0 0 s 14 [(0, .int p1), (1, .int p2)] [.int (if ((p1 >>> (p2 &&& 31)) &&& 1) = 1 then 1 else 0 : Int32)] := by
    exact r_zret X (by (repeat' split) <;> first | exact Or.inl rfl | exact Or.inr rfl) h (Nat.le_of_ble_eq_true rfl) (Nat.le_of_ble_eq_true rfl) dX2_has_14
  refine r_ic_ne X 13 dX2_has_6 (by decide) (fun c1 => ?_) (fun c1 => ?_)
  · rw [if_neg c1] at hJ
    refine r_iconst (v := 0) X dX2_has_13 rfl ?_
    exact hJ
  · rw [if_pos c1] at hJ
    refine r_iconst (v := 1) X dX2_has_9 rfl ?_
    refine r_goto X 14 dX2_has_10 (by decide) ?_
    exact hJ
theorem m_X2_has (l : Launch) (G : GT) (g : GK G) (p1 : Int32) (p2 : Int32) (s : PS) (Q : Int32 → PS → Prop) (h : w_X2_has G p1 p2 s Q) : Met l yX2_has (ws_ yX2_has cX2_has 2 (some .boolean)) rm_X2_has (va_Pc [.int p1, .int p2] (Wr G s)) (va_Qi (fun r u => (r = 0 ∨ r = 1) ∧ Q r u) (fun u t => Wr G u t) (kF G)) 0 0 (kF G) := by
  refine Met.ofW (cc := cX2_has) (maxL := 2) (ret := (some .boolean)) (by decide) rfl ?_
  intro p e s0 m args below meth c s₁ B hml hv
  obtain ⟨rfl, hw⟩ := hv
  exact wb_of [.int p1, .int p2] (Nat.le_of_ble_eq_true rfl) hw.1 rfl (e_X2_has (cx_of g B hml rfl hw) p1 p2 s Q h)
theorem e_X2_figure {x : CT} {G : GT} (X : Cx x G cX2_figure 4 RX2 (some .int) rm_X2_figure) (hph : kP G = 1) (p1 : Int32) (p2 : Int32) (p3 : Int32) (s : PS) (Q : Int32 → PS → Prop) (h : w_X2_figure G p1 p2 p3 s Q) : WB x G 4 (QfI x G 0 0 Q) 0 0 s 0 [(0, .ref (kB G + 182)), (1, .int p1), (2, .int p2), (3, .int p3)] [] := by
  unfold w_X2_figure at h
  refine r_aload_n X 0 dX2_figure_0 rfl rfl ?_
  refine gl_X2_115 X hph 182 ly_182 dX2_figure_1 ?_
  refine r_iconst (v := 1) X dX2_figure_4 rfl ?_
  refine r_ic_eq X 10 dX2_figure_5 (by decide) (fun c1 => ?_) (fun c1 => ?_)
  · replace h := h.1 c1
    refine r_aload_n X 0 dX2_figure_10 rfl rfl ?_
    refine gl_X2_121 X hph 182 ly_182 dX2_figure_11 ?_
    refine r_iload_n X 2 dX2_figure_14 rfl rfl ?_
    refine r_iload_n X 3 dX2_figure_15 rfl rfl ?_
    refine r_ci X (r_okS (As := [.int (gI s (kB G + 182) 10), .int p2, .int p3]) (rest := []) X (m_X2_isIn (xl x) G X.2.2.2.2.1 (gI s (kB G + 182) 10) p2 p3 s _ h) (cl_X2_80 X ⟨(Nat.le_of_ble_eq_true rfl), (Nat.le_of_ble_eq_true rfl)⟩) rfl rfl (Nat.le_of_ble_eq_true rfl) dX2_figure_16 ⟨Nat.le_of_ble_eq_true rfl, Nat.le_of_ble_eq_true rfl⟩) (fun r3 s2 h => ?_)
    obtain ⟨z4, h⟩ := h
    refine r_if_ne X 24 dX2_figure_19 (by decide) (fun c5 => ?_) (fun c5 => ?_)
    · replace h := h.2 c5
      refine r_aload_n X 0 dX2_figure_24 rfl rfl ?_
      refine gr_X2_16 X hph 13 182 185 ly_182 rfl rfl dX2_figure_25 ?_
      refine r_iload_n X 1 dX2_figure_28 rfl rfl ?_
      refine r_aload_n X 0 dX2_figure_29 rfl rfl ?_
      refine gl_X2_121 X hph 182 ly_182 dX2_figure_30 ?_
      obtain ⟨g6, h⟩ := h
      refine r_iastL X hph 185 3012 ly_185 rfl g6 dX2_figure_33 (fun s7 e8 => ?_)
      replace h := h s7 e8
      refine r_aload_n X 0 dX2_figure_34 rfl rfl ?_
      refine r_cv X (r_okVL (As := []) (rest := []) X (m_X2_nextToken (xl x) G X.2.2.2.2.1 hph s7 _ h) (cl_X2_179 X ⟨(Nat.le_of_ble_eq_true rfl), (Nat.le_of_ble_eq_true rfl)⟩) hph 2 ly_182 rfl rfl rfl rfl (Nat.le_of_ble_eq_true rfl) dX2_figure_35 ⟨Nat.le_of_ble_eq_true rfl, Nat.le_of_ble_eq_true rfl⟩) (fun s9 h => ?_)
      refine r_iconst (v := 0) X dX2_figure_38 rfl ?_
      exact r_iret X h (Nat.le_of_ble_eq_true rfl) (Nat.le_of_ble_eq_true rfl) dX2_figure_39
    · replace h := h.1 c5
      refine r_iconst (v := 2) X dX2_figure_22 rfl ?_
      exact r_iret X h (Nat.le_of_ble_eq_true rfl) (Nat.le_of_ble_eq_true rfl) dX2_figure_23
  · replace h := h.2 c1
    refine r_iconst (v := 1) X dX2_figure_8 rfl ?_
    exact r_iret X h (Nat.le_of_ble_eq_true rfl) (Nat.le_of_ble_eq_true rfl) dX2_figure_9
theorem m_X2_figure (l : Launch) (G : GT) (g : GK G) (hph : kP G = 1) (p1 : Int32) (p2 : Int32) (p3 : Int32) (s : PS) (Q : Int32 → PS → Prop) (h : w_X2_figure G p1 p2 p3 s Q) : Met l yX2_figure (ws_ yX2_figure cX2_figure 4 (some .int)) rm_X2_figure (va_Pc [.ref (kB G + 182), .int p1, .int p2, .int p3] (Wr G s)) (va_Qi Q (fun u t => Wr G u t) (kF G)) 0 0 (kF G) := by
  refine Met.ofW (cc := cX2_figure) (maxL := 4) (ret := (some .int)) (by decide) rfl ?_
  intro p e s0 m args below meth c s₁ B hml hv
  obtain ⟨rfl, hw⟩ := hv
  exact wb_of [.ref (kB G + 182), .int p1, .int p2, .int p3] (Nat.le_of_ble_eq_true rfl) hw.1 rfl (e_X2_figure (cx_of g B hml rfl hw) hph p1 p2 p3 s Q h)
theorem e_X2_worded {x : CT} {G : GT} (X : Cx x G cX2_worded 6 RX2 (some .int) rm_X2_worded) (hph : kP G = 1) (p1 : Int64) (p2 : Int32) (p3 : Int32) (p4 : Int32) (s : PS) (Q : Int32 → PS → Prop) (h : w_X2_worded G p1 p2 p3 p4 s Q) : WB x G 6 (QfI x G 0 0 Q) 0 0 s 0 [(0, .ref (kB G + 182)), (1, .long p1), (3, .int p2), (4, .int p3), (5, .int p4)] [] := by
  unfold w_X2_worded at h
  refine r_aload_n X 0 dX2_worded_0 rfl rfl ?_
  refine r_lload_n X 1 dX2_worded_1 rfl rfl ?_
  refine r_ci X (r_okVL (As := [.long p1]) (rest := []) X (m_X2_isWord (xl x) G X.2.2.2.2.1 hph p1 s _ h) (cl_X2_207 X ⟨(Nat.le_of_ble_eq_true rfl), (Nat.le_of_ble_eq_true rfl)⟩) hph 2 ly_182 rfl rfl rfl rfl (Nat.le_of_ble_eq_true rfl) dX2_worded_2 ⟨Nat.le_of_ble_eq_true rfl, Nat.le_of_ble_eq_true rfl⟩) (fun r2 s1 h => ?_)
  obtain ⟨z3, h⟩ := h
  refine r_if_ne X 10 dX2_worded_5 (by decide) (fun c4 => ?_) (fun c4 => ?_)
  · replace h := h.2 c4
    refine r_aload_n X 0 dX2_worded_10 rfl rfl ?_
    refine r_cv X (r_okVL (As := []) (rest := []) X (m_X2_nextToken (xl x) G X.2.2.2.2.1 hph s1 _ h) (cl_X2_179 X ⟨(Nat.le_of_ble_eq_true rfl), (Nat.le_of_ble_eq_true rfl)⟩) hph 2 ly_182 rfl rfl rfl rfl (Nat.le_of_ble_eq_true rfl) dX2_worded_11 ⟨Nat.le_of_ble_eq_true rfl, Nat.le_of_ble_eq_true rfl⟩) (fun s5 h => ?_)
    refine r_aload_n X 0 dX2_worded_14 rfl rfl ?_
    refine r_iload_n X 2 dX2_worded_15 rfl rfl ?_
    refine r_iload X 3 dX2_worded_16 rfl ?_
    refine r_iload X 4 dX2_worded_18 rfl ?_
    refine r_ci X (r_okVL (As := [.int p2, .int p3, .int p4]) (rest := []) X (m_X2_figure (xl x) G X.2.2.2.2.1 hph p2 p3 p4 s5 _ h) (cl_X2_211 X ⟨(Nat.le_of_ble_eq_true rfl), (Nat.le_of_ble_eq_true rfl)⟩) hph 2 ly_182 rfl rfl rfl rfl (Nat.le_of_ble_eq_true rfl) dX2_worded_20 ⟨Nat.le_of_ble_eq_true rfl, Nat.le_of_ble_eq_true rfl⟩) (fun r7 s6 h => ?_)
    exact r_iret X h (Nat.le_of_ble_eq_true rfl) (Nat.le_of_ble_eq_true rfl) dX2_worded_23
  · replace h := h.1 c4
    refine r_iconst (v := 1) X dX2_worded_8 rfl ?_
    exact r_iret X h (Nat.le_of_ble_eq_true rfl) (Nat.le_of_ble_eq_true rfl) dX2_worded_9
theorem m_X2_worded (l : Launch) (G : GT) (g : GK G) (hph : kP G = 1) (p1 : Int64) (p2 : Int32) (p3 : Int32) (p4 : Int32) (s : PS) (Q : Int32 → PS → Prop) (h : w_X2_worded G p1 p2 p3 p4 s Q) : Met l yX2_worded (ws_ yX2_worded cX2_worded 6 (some .int)) rm_X2_worded (va_Pc [.ref (kB G + 182), .long p1, .int p2, .int p3, .int p4] (Wr G s)) (va_Qi Q (fun u t => Wr G u t) (kF G)) 0 0 (kF G) := by
  refine Met.ofW (cc := cX2_worded) (maxL := 6) (ret := (some .int)) (by decide) rfl ?_
  intro p e s0 m args below meth c s₁ B hml hv
  obtain ⟨rfl, hw⟩ := hv
  exact wb_of [.ref (kB G + 182), .long p1, .int p2, .int p3, .int p4] (Nat.le_of_ble_eq_true rfl) hw.1 rfl (e_X2_worded (cx_of g B hml rfl hw) hph p1 p2 p3 p4 s Q h)
theorem e_X2_marksOf {x : CT} {G : GT} (X : Cx x G cX2_marksOf 1 RX2 (some .int) rm_X2_marksOf) (hph : kP G = 1) (s : PS) (Q : Int32 → PS → Prop) (h : w_X2_marksOf G s Q) : WB x G 1 (QfI x G 0 0 Q) 0 0 s 0 [(0, .ref (kB G + 182))] [] := by
  unfold w_X2_marksOf at h
  refine r_aload_n X 0 dX2_marksOf_0 rfl rfl ?_
  refine r_bipush (v := 115) X dX2_marksOf_1 rfl ?_
  refine r_bipush (v := 101) X dX2_marksOf_3 rfl ?_
  refine r_bipush (v := 101) X dX2_marksOf_5 rfl ?_
  refine r_bipush (v := 110) X dX2_marksOf_7 rfl ?_
  refine r_cl X (r_okS (As := [.int 115, .int 101, .int 101, .int 110]) (rest := [.ref (kB G + 182)]) X (m_X2_w4 (xl x) G X.2.2.2.2.1 115 101 101 110 s _ h) (cl_X2_141 X ⟨(Nat.le_of_ble_eq_true rfl), (Nat.le_of_ble_eq_true rfl)⟩) rfl rfl (Nat.le_of_ble_eq_true rfl) dX2_marksOf_9 ⟨Nat.le_of_ble_eq_true rfl, Nat.le_of_ble_eq_true rfl⟩) (fun r2 s1 h => ?_)
  refine r_ci X (r_okVL (As := [.long r2]) (rest := []) X (m_X2_isWord (xl x) G X.2.2.2.2.1 hph r2 s1 _ h) (cl_X2_207 X ⟨(Nat.le_of_ble_eq_true rfl), (Nat.le_of_ble_eq_true rfl)⟩) hph 2 ly_182 rfl rfl rfl rfl (Nat.le_of_ble_eq_true rfl) dX2_marksOf_12 ⟨Nat.le_of_ble_eq_true rfl, Nat.le_of_ble_eq_true rfl⟩) (fun r4 s3 h => ?_)
  obtain ⟨z5, h⟩ := h
  refine r_if_eq X 22 dX2_marksOf_15 (by decide) (fun c6 => ?_) (fun c6 => ?_)
  · replace h := h.1 c6
    refine r_aload_n X 0 dX2_marksOf_22 rfl rfl ?_
    refine r_bipush (v := 114) X dX2_marksOf_23 rfl ?_
    refine r_bipush (v := 101) X dX2_marksOf_25 rfl ?_
    refine r_bipush (v := 112) X dX2_marksOf_27 rfl ?_
    refine r_bipush (v := 97) X dX2_marksOf_29 rfl ?_
    refine r_bipush (v := 105) X dX2_marksOf_31 rfl ?_
    refine r_bipush (v := 100) X dX2_marksOf_33 rfl ?_
    refine r_cl X (r_okS (As := [.int 114, .int 101, .int 112, .int 97, .int 105, .int 100]) (rest := [.ref (kB G + 182)]) X (m_X2_w6 (xl x) G X.2.2.2.2.1 114 101 112 97 105 100 s3 _ h) (cl_X2_155 X ⟨(Nat.le_of_ble_eq_true rfl), (Nat.le_of_ble_eq_true rfl)⟩) rfl rfl (Nat.le_of_ble_eq_true rfl) dX2_marksOf_35 ⟨Nat.le_of_ble_eq_true rfl, Nat.le_of_ble_eq_true rfl⟩) (fun r8 s7 h => ?_)
    refine r_ci X (r_okVL (As := [.long r8]) (rest := []) X (m_X2_isWord (xl x) G X.2.2.2.2.1 hph r8 s7 _ h) (cl_X2_207 X ⟨(Nat.le_of_ble_eq_true rfl), (Nat.le_of_ble_eq_true rfl)⟩) hph 2 ly_182 rfl rfl rfl rfl (Nat.le_of_ble_eq_true rfl) dX2_marksOf_38 ⟨Nat.le_of_ble_eq_true rfl, Nat.le_of_ble_eq_true rfl⟩) (fun r10 s9 h => ?_)
    obtain ⟨z11, h⟩ := h
    refine r_if_eq X 48 dX2_marksOf_41 (by decide) (fun c12 => ?_) (fun c12 => ?_)
    · replace h := h.1 c12
      refine r_aload_n X 0 dX2_marksOf_48 rfl rfl ?_
      refine r_bipush (v := 102) X dX2_marksOf_49 rfl ?_
      refine r_bipush (v := 101) X dX2_marksOf_51 rfl ?_
      refine r_bipush (v := 97) X dX2_marksOf_53 rfl ?_
      refine r_bipush (v := 114) X dX2_marksOf_55 rfl ?_
      refine r_cl X (r_okS (As := [.int 102, .int 101, .int 97, .int 114]) (rest := [.ref (kB G + 182)]) X (m_X2_w4 (xl x) G X.2.2.2.2.1 102 101 97 114 s9 _ h) (cl_X2_141 X ⟨(Nat.le_of_ble_eq_true rfl), (Nat.le_of_ble_eq_true rfl)⟩) rfl rfl (Nat.le_of_ble_eq_true rfl) dX2_marksOf_57 ⟨Nat.le_of_ble_eq_true rfl, Nat.le_of_ble_eq_true rfl⟩) (fun r14 s13 h => ?_)
      refine r_ci X (r_okVL (As := [.long r14]) (rest := []) X (m_X2_isWord (xl x) G X.2.2.2.2.1 hph r14 s13 _ h) (cl_X2_207 X ⟨(Nat.le_of_ble_eq_true rfl), (Nat.le_of_ble_eq_true rfl)⟩) hph 2 ly_182 rfl rfl rfl rfl (Nat.le_of_ble_eq_true rfl) dX2_marksOf_60 ⟨Nat.le_of_ble_eq_true rfl, Nat.le_of_ble_eq_true rfl⟩) (fun r16 s15 h => ?_)
      obtain ⟨z17, h⟩ := h
      have hJ : WB x G 1 (QfI x G 0 0 Q) 0 0 s15 71 [(0, .ref (kB G + 182))] [.int (if r16 = 0 then 0 else 4 : Int32)] := by
        exact r_iret X h (Nat.le_of_ble_eq_true rfl) (Nat.le_of_ble_eq_true rfl) dX2_marksOf_71
      refine r_if_eq X 70 dX2_marksOf_63 (by decide) (fun c18 => ?_) (fun c18 => ?_)
      · rw [if_pos c18] at hJ
        refine r_iconst (v := 0) X dX2_marksOf_70 rfl ?_
        exact hJ
      · rw [if_neg c18] at hJ
        refine r_iconst (v := 4) X dX2_marksOf_66 rfl ?_
        refine r_goto X 71 dX2_marksOf_67 (by decide) ?_
        exact hJ
    · replace h := h.2 c12
      refine r_iconst (v := 2) X dX2_marksOf_44 rfl ?_
      refine r_goto X 71 dX2_marksOf_45 (by decide) ?_
      exact r_iret X h (Nat.le_of_ble_eq_true rfl) (Nat.le_of_ble_eq_true rfl) dX2_marksOf_71
  · replace h := h.2 c6
    refine r_iconst (v := 1) X dX2_marksOf_18 rfl ?_
    refine r_goto X 71 dX2_marksOf_19 (by decide) ?_
    exact r_iret X h (Nat.le_of_ble_eq_true rfl) (Nat.le_of_ble_eq_true rfl) dX2_marksOf_71
theorem m_X2_marksOf (l : Launch) (G : GT) (g : GK G) (hph : kP G = 1) (s : PS) (Q : Int32 → PS → Prop) (h : w_X2_marksOf G s Q) : Met l yX2_marksOf (ws_ yX2_marksOf cX2_marksOf 1 (some .int)) rm_X2_marksOf (va_Pc [.ref (kB G + 182)] (Wr G s)) (va_Qi Q (fun u t => Wr G u t) (kF G)) 0 0 (kF G) := by
  refine Met.ofW (cc := cX2_marksOf) (maxL := 1) (ret := (some .int)) (by decide) rfl ?_
  intro p e s0 m args below meth c s₁ B hml hv
  obtain ⟨rfl, hw⟩ := hv
  exact wb_of [.ref (kB G + 182)] (Nat.le_of_ble_eq_true rfl) hw.1 rfl (e_X2_marksOf (cx_of g B hml rfl hw) hph s Q h)
theorem tl_X2_deedClause_63 {x : CT} {G : GT} (X : Cx x G cX2_deedClause 4 RX2 (some .int) rm_X2_deedClause) (hph : kP G = 1) (Q : Int32 → PS → Prop) (v1 : Int32) (v2 : Int32) : ∀ (n : Nat) (s : PS) (h : l_X2_deedClause_63 G Q v1 v2 n s), WB x G 4 (QfI x G 0 0 Q) 0 0 s 63 [(0, .ref (kB G + 182)), (1, .int v1), (2, .int v2)] [] := by
  intro n
  induction n with
  | zero =>
    intro s h
    exact False.elim h
  | succ n ih =>
    intro s h
    unfold l_X2_deedClause_63 at h
    refine r_iload_n X 2 dX2_deedClause_63 rfl rfl ?_
    refine r_if_ne X 125 dX2_deedClause_64 (by decide) (fun c1 => ?_) (fun c1 => ?_)
    · replace h := h.2 c1
      refine r_iload_n X 2 dX2_deedClause_125 rfl rfl ?_
      exact r_iret X h (Nat.le_of_ble_eq_true rfl) (Nat.le_of_ble_eq_true rfl) dX2_deedClause_126
    · replace h := h.1 c1
      refine r_aload_n X 0 dX2_deedClause_67 rfl rfl ?_
      refine gl_X2_115 X hph 182 ly_182 dX2_deedClause_68 ?_
      refine r_bipush (v := 44) X dX2_deedClause_71 rfl ?_
      refine r_ic_ne X 125 dX2_deedClause_73 (by decide) (fun c2 => ?_) (fun c2 => ?_)
      · replace h := h.2 c2
        refine r_iload_n X 2 dX2_deedClause_125 rfl rfl ?_
        exact r_iret X h (Nat.le_of_ble_eq_true rfl) (Nat.le_of_ble_eq_true rfl) dX2_deedClause_126
      · replace h := h.1 c2
        refine r_aload_n X 0 dX2_deedClause_76 rfl rfl ?_
        refine r_cv X (r_okVL (As := []) (rest := []) X (m_X2_nextToken (xl x) G X.2.2.2.2.1 hph s _ h) (cl_X2_179 X ⟨(Nat.le_of_ble_eq_true rfl), (Nat.le_of_ble_eq_true rfl)⟩) hph 2 ly_182 rfl rfl rfl rfl (Nat.le_of_ble_eq_true rfl) dX2_deedClause_77 ⟨Nat.le_of_ble_eq_true rfl, Nat.le_of_ble_eq_true rfl⟩) (fun s3 h => ?_)
        refine r_aload_n X 0 dX2_deedClause_80 rfl rfl ?_
        refine r_ci X (r_okVL (As := []) (rest := []) X (m_X2_marksOf (xl x) G X.2.2.2.2.1 hph s3 _ h) (cl_X2_221 X ⟨(Nat.le_of_ble_eq_true rfl), (Nat.le_of_ble_eq_true rfl)⟩) hph 2 ly_182 rfl rfl rfl rfl (Nat.le_of_ble_eq_true rfl) dX2_deedClause_81 ⟨Nat.le_of_ble_eq_true rfl, Nat.le_of_ble_eq_true rfl⟩) (fun r5 s4 h => ?_)
        refine r_istore_n (lv' := [(3, .int r5), (0, .ref (kB G + 182)), (1, .int v1), (2, .int v2)]) X dX2_deedClause_84 rfl (Nat.le_of_ble_eq_true rfl) rfl ?_
        refine r_iload_n X 0 dX2_deedClause_85 rfl rfl ?_
        refine r_if_ne X 91 dX2_deedClause_86 (by decide) (fun c6 => ?_) (fun c6 => ?_)
        · replace h := h.2 c6
          refine r_aload_n X 1 dX2_deedClause_91 rfl rfl ?_
          refine gr_X2_16 X hph 13 182 185 ly_182 rfl rfl dX2_deedClause_92 ?_
          refine r_iload_n X 2 dX2_deedClause_95 rfl rfl ?_
          refine r_iconst (v := 4) X dX2_deedClause_96 rfl ?_
          refine r_iadd X dX2_deedClause_97 ?_
          obtain ⟨g7, h⟩ := h
          refine r_ialdL X hph 185 3012 ly_185 rfl g7 dX2_deedClause_98 ?_
          refine r_iload_n X 0 dX2_deedClause_99 rfl rfl ?_
          refine r_iand X dX2_deedClause_100 ?_
          refine r_if_eq X 106 dX2_deedClause_101 (by decide) (fun c8 => ?_) (fun c8 => ?_)
          · replace h := h.1 c8
            refine r_aload_n X 1 dX2_deedClause_106 rfl rfl ?_
            refine gr_X2_16 X hph 13 182 185 ly_182 rfl rfl dX2_deedClause_107 ?_
            refine r_iload_n X 2 dX2_deedClause_110 rfl rfl ?_
            refine r_iconst (v := 4) X dX2_deedClause_111 rfl ?_
            refine r_iadd X dX2_deedClause_112 ?_
            refine r_dup2 X dX2_deedClause_113 rfl rfl ?_
            refine r_ialdL X hph 185 3012 ly_185 rfl g7 dX2_deedClause_114 ?_
            refine r_iload_n X 0 dX2_deedClause_115 rfl rfl ?_
            refine r_ior X dX2_deedClause_116 ?_
            refine r_iastL X hph 185 3012 ly_185 rfl g7 dX2_deedClause_117 (fun s9 e10 => ?_)
            replace h := h s9 e10
            refine r_aload_n X 1 dX2_deedClause_118 rfl rfl ?_
            refine r_cv X (r_okVL (As := []) (rest := []) X (m_X2_nextToken (xl x) G X.2.2.2.2.1 hph s9 _ h) (cl_X2_179 X ⟨(Nat.le_of_ble_eq_true rfl), (Nat.le_of_ble_eq_true rfl)⟩) hph 2 ly_182 rfl rfl rfl rfl (Nat.le_of_ble_eq_true rfl) dX2_deedClause_119 ⟨Nat.le_of_ble_eq_true rfl, Nat.le_of_ble_eq_true rfl⟩) (fun s11 h => ?_)
            refine r_goto X 63 dX2_deedClause_122 (by decide) ?_
            refine r_sub [1, 2, 3] rfl ?_
            exact ih s11 h
          · replace h := h.2 c8
            refine r_iconst (v := 4) X dX2_deedClause_104 rfl ?_
            exact r_iret X h (Nat.le_of_ble_eq_true rfl) (Nat.le_of_ble_eq_true rfl) dX2_deedClause_105
        · replace h := h.1 c6
          refine r_iconst (v := 1) X dX2_deedClause_89 rfl ?_
          exact r_iret X h (Nat.le_of_ble_eq_true rfl) (Nat.le_of_ble_eq_true rfl) dX2_deedClause_90
theorem tb_X2_deedClause_54 {x : CT} {G : GT} (X : Cx x G cX2_deedClause 4 RX2 (some .int) rm_X2_deedClause) (hph : kP G = 1) (Q : Int32 → PS → Prop) (v1 : Int32) (v2 : Int32) (s : PS) (h : b_X2_deedClause_54 G Q v1 v2 s) : WB x G 4 (QfI x G 0 0 Q) 0 0 s 54 [(0, .ref (kB G + 182)), (1, .int v1), (2, .int v2)] [] := by
  unfold b_X2_deedClause_54 at h
  refine r_aload_n X 0 dX2_deedClause_54 rfl rfl ?_
  refine gr_X2_16 X hph 13 182 185 ly_182 rfl rfl dX2_deedClause_55 ?_
  refine r_iload_n X 1 dX2_deedClause_58 rfl rfl ?_
  refine r_iconst (v := 4) X dX2_deedClause_59 rfl ?_
  refine r_iadd X dX2_deedClause_60 ?_
  refine r_iconst (v := 0) X dX2_deedClause_61 rfl ?_
  obtain ⟨g1, h⟩ := h
  refine r_iastL X hph 185 3012 ly_185 rfl g1 dX2_deedClause_62 (fun s2 e3 => ?_)
  replace h := h s2 e3
  obtain ⟨n4, h⟩ := h
  exact tl_X2_deedClause_63 X hph Q v1 v2 n4 s2 h
theorem tb_X2_deedClause_37 {x : CT} {G : GT} (X : Cx x G cX2_deedClause 4 RX2 (some .int) rm_X2_deedClause) (hph : kP G = 1) (Q : Int32 → PS → Prop) (v1 : Int32) (v2 : Int32) (s : PS) (h : b_X2_deedClause_37 G Q v1 v2 s) : WB x G 4 (QfI x G 0 0 Q) 0 0 s 37 [(0, .ref (kB G + 182)), (1, .int v1), (2, .int v2)] [] := by
  unfold b_X2_deedClause_37 at h
  refine r_iload_n X 2 dX2_deedClause_37 rfl rfl ?_
  refine r_if_ne X 54 dX2_deedClause_38 (by decide) (fun c1 => ?_) (fun c1 => ?_)
  · replace h := h.2 c1
    exact tb_X2_deedClause_54 X hph Q v1 v2 s h
  · replace h := h.1 c1
    refine r_aload_n X 0 dX2_deedClause_41 rfl rfl ?_
    refine r_ldc2 X q1572 dX2_deedClause_42 ?_
    refine r_iload_n X 1 dX2_deedClause_45 rfl rfl ?_
    refine r_iconst (v := 3) X dX2_deedClause_46 rfl ?_
    refine r_iadd X dX2_deedClause_47 ?_
    refine r_iconst (v := 0) X dX2_deedClause_48 rfl ?_
    refine r_iconst (v := 5) X dX2_deedClause_49 rfl ?_
    refine r_ci X (r_okVL (As := [.long 28518, .int (v1 + 3), .int 0, .int 5]) (rest := []) X (m_X2_worded (xl x) G X.2.2.2.2.1 hph 28518 (v1 + 3) 0 5 s _ h) (cl_X2_215 X ⟨(Nat.le_of_ble_eq_true rfl), (Nat.le_of_ble_eq_true rfl)⟩) hph 2 ly_182 rfl rfl rfl rfl (Nat.le_of_ble_eq_true rfl) dX2_deedClause_50 ⟨Nat.le_of_ble_eq_true rfl, Nat.le_of_ble_eq_true rfl⟩) (fun r3 s2 h => ?_)
    refine r_istore_n (lv' := [(2, .int r3), (0, .ref (kB G + 182)), (1, .int v1)]) X dX2_deedClause_53 rfl (Nat.le_of_ble_eq_true rfl) rfl ?_
    refine r_sub [1, 2, 0] rfl ?_
    exact tb_X2_deedClause_54 X hph Q v1 r3 s2 h
theorem e_X2_deedClause {x : CT} {G : GT} (X : Cx x G cX2_deedClause 4 RX2 (some .int) rm_X2_deedClause) (hph : kP G = 1) (p1 : Int32) (s : PS) (Q : Int32 → PS → Prop) (h : w_X2_deedClause G p1 s Q) : WB x G 4 (QfI x G 0 0 Q) 0 0 s 0 [(0, .ref (kB G + 182)), (1, .int p1)] [] := by
  unfold w_X2_deedClause at h
  refine r_aload_n X 0 dX2_deedClause_0 rfl rfl ?_
  refine r_iload_n X 1 dX2_deedClause_1 rfl rfl ?_
  refine r_iconst (v := 1) X dX2_deedClause_2 rfl ?_
  refine r_iadd X dX2_deedClause_3 ?_
  refine r_iconst (v := 0) X dX2_deedClause_4 rfl ?_
  refine r_bipush (v := 9) X dX2_deedClause_5 rfl ?_
  refine r_ci X (r_okVL (As := [.int (p1 + 1), .int 0, .int 9]) (rest := []) X (m_X2_figure (xl x) G X.2.2.2.2.1 hph (p1 + 1) 0 9 s _ h) (cl_X2_211 X ⟨(Nat.le_of_ble_eq_true rfl), (Nat.le_of_ble_eq_true rfl)⟩) hph 2 ly_182 rfl rfl rfl rfl (Nat.le_of_ble_eq_true rfl) dX2_deedClause_7 ⟨Nat.le_of_ble_eq_true rfl, Nat.le_of_ble_eq_true rfl⟩) (fun r2 s1 h => ?_)
  refine r_istore_n (lv' := [(2, .int r2), (0, .ref (kB G + 182)), (1, .int p1)]) X dX2_deedClause_10 rfl (Nat.le_of_ble_eq_true rfl) rfl ?_
  refine r_iload_n X 0 dX2_deedClause_11 rfl rfl ?_
  refine r_if_ne X 37 dX2_deedClause_12 (by decide) (fun c3 => ?_) (fun c3 => ?_)
  · replace h := h.2 c3
    refine r_sub [1, 2, 0] rfl ?_
    exact tb_X2_deedClause_37 X hph Q p1 r2 s1 h
  · replace h := h.1 c3
    refine r_aload_n X 1 dX2_deedClause_15 rfl rfl ?_
    refine r_bipush (v := 115) X dX2_deedClause_16 rfl ?_
    refine r_bipush (v := 105) X dX2_deedClause_18 rfl ?_
    refine r_bipush (v := 122) X dX2_deedClause_20 rfl ?_
    refine r_bipush (v := 101) X dX2_deedClause_22 rfl ?_
    refine r_cl X (r_okS (As := [.int 115, .int 105, .int 122, .int 101]) (rest := [.ref (kB G + 182)]) X (m_X2_w4 (xl x) G X.2.2.2.2.1 115 105 122 101 s1 _ h) (cl_X2_141 X ⟨(Nat.le_of_ble_eq_true rfl), (Nat.le_of_ble_eq_true rfl)⟩) rfl rfl (Nat.le_of_ble_eq_true rfl) dX2_deedClause_24 ⟨Nat.le_of_ble_eq_true rfl, Nat.le_of_ble_eq_true rfl⟩) (fun r5 s4 h => ?_)
    refine r_iload_n X 2 dX2_deedClause_27 rfl rfl ?_
    refine r_iconst (v := 2) X dX2_deedClause_28 rfl ?_
    refine r_iadd X dX2_deedClause_29 ?_
    refine r_iconst (v := 0) X dX2_deedClause_30 rfl ?_
    refine r_bipush (v := 99) X dX2_deedClause_31 rfl ?_
    refine r_ci X (r_okVL (As := [.long r5, .int (p1 + 2), .int 0, .int 99]) (rest := []) X (m_X2_worded (xl x) G X.2.2.2.2.1 hph r5 (p1 + 2) 0 99 s4 _ h) (cl_X2_215 X ⟨(Nat.le_of_ble_eq_true rfl), (Nat.le_of_ble_eq_true rfl)⟩) hph 2 ly_182 rfl rfl rfl rfl (Nat.le_of_ble_eq_true rfl) dX2_deedClause_33 ⟨Nat.le_of_ble_eq_true rfl, Nat.le_of_ble_eq_true rfl⟩) (fun r7 s6 h => ?_)
    refine r_istore_n (lv' := [(2, .int r7), (0, .ref (kB G + 182)), (1, .int p1)]) X dX2_deedClause_36 rfl (Nat.le_of_ble_eq_true rfl) rfl ?_
    refine r_sub [1, 2, 0] rfl ?_
    exact tb_X2_deedClause_37 X hph Q p1 r7 s6 h
theorem m_X2_deedClause (l : Launch) (G : GT) (g : GK G) (hph : kP G = 1) (p1 : Int32) (s : PS) (Q : Int32 → PS → Prop) (h : w_X2_deedClause G p1 s Q) : Met l yX2_deedClause (ws_ yX2_deedClause cX2_deedClause 4 (some .int)) rm_X2_deedClause (va_Pc [.ref (kB G + 182), .int p1] (Wr G s)) (va_Qi Q (fun u t => Wr G u t) (kF G)) 0 0 (kF G) := by
  refine Met.ofW (cc := cX2_deedClause) (maxL := 4) (ret := (some .int)) (by decide) rfl ?_
  intro p e s0 m args below meth c s₁ B hml hv
  obtain ⟨rfl, hw⟩ := hv
  exact wb_of [.ref (kB G + 182), .int p1] (Nat.le_of_ble_eq_true rfl) hw.1 rfl (e_X2_deedClause (cx_of g B hml rfl hw) hph p1 s Q h)
theorem tl_X2_judgeClause_4 {x : CT} {G : GT} (X : Cx x G cX2_judgeClause 4 RX2 (some .int) rm_X2_judgeClause) (hph : kP G = 1) (Q : Int32 → PS → Prop) (v1 : Int32) : ∀ (n : Nat) (v2 : Int32) (v3 : Int32) (s : PS) (h : l_X2_judgeClause_4 G Q v1 n v2 v3 s), WB x G 4 (QfI x G 0 0 Q) 0 0 s 4 [(0, .ref (kB G + 182)), (1, .int v1), (2, .int v2), (3, .int v3)] [] := by
  intro n
  induction n with
  | zero =>
    intro v2 v3 s h
    exact False.elim h
  | succ n ih =>
    intro v2 v3 s h
    unfold l_X2_judgeClause_4 at h
    refine r_iload_n X 3 dX2_judgeClause_4 rfl rfl ?_
    refine r_if_eq X 81 dX2_judgeClause_5 (by decide) (fun c1 => ?_) (fun c1 => ?_)
    · replace h := h.1 c1
      refine r_aload_n X 0 dX2_judgeClause_81 rfl rfl ?_
      refine gr_X2_16 X hph 13 182 185 ly_182 rfl rfl dX2_judgeClause_82 ?_
      refine r_iload_n X 1 dX2_judgeClause_85 rfl rfl ?_
      refine r_iconst (v := 1) X dX2_judgeClause_86 rfl ?_
      refine r_iadd X dX2_judgeClause_87 ?_
      refine r_iload_n X 2 dX2_judgeClause_88 rfl rfl ?_
      obtain ⟨g2, h⟩ := h
      refine r_iastL X hph 185 3012 ly_185 rfl g2 dX2_judgeClause_89 (fun s3 e4 => ?_)
      replace h := h s3 e4
      refine r_iconst (v := 0) X dX2_judgeClause_90 rfl ?_
      exact r_iret X h (Nat.le_of_ble_eq_true rfl) (Nat.le_of_ble_eq_true rfl) dX2_judgeClause_91
    · replace h := h.2 c1
      refine r_aload_n X 0 dX2_judgeClause_8 rfl rfl ?_
      refine gl_X2_115 X hph 182 ly_182 dX2_judgeClause_9 ?_
      refine r_iconst (v := 1) X dX2_judgeClause_12 rfl ?_
      refine r_ic_eq X 18 dX2_judgeClause_13 (by decide) (fun c5 => ?_) (fun c5 => ?_)
      · replace h := h.1 c5
        refine r_aload_n X 0 dX2_judgeClause_18 rfl rfl ?_
        refine gl_X2_121 X hph 182 ly_182 dX2_judgeClause_19 ?_
        refine r_bipush (v := 9) X dX2_judgeClause_22 rfl ?_
        refine r_ic_le X 29 dX2_judgeClause_24 (by decide) (fun c6 => ?_) (fun c6 => ?_)
        · replace h := h.1 c6
          refine r_iload_n X 2 dX2_judgeClause_29 rfl rfl ?_
          refine r_aload_n X 0 dX2_judgeClause_30 rfl rfl ?_
          refine gl_X2_121 X hph 182 ly_182 dX2_judgeClause_31 ?_
          refine r_ci X (r_okS (As := [.int v2, .int (gI s (kB G + 182) 10)]) (rest := []) X (m_X2_has (xl x) G X.2.2.2.2.1 v2 (gI s (kB G + 182) 10) s _ h) (cl_X2_224 X ⟨(Nat.le_of_ble_eq_true rfl), (Nat.le_of_ble_eq_true rfl)⟩) rfl rfl (Nat.le_of_ble_eq_true rfl) dX2_judgeClause_34 ⟨Nat.le_of_ble_eq_true rfl, Nat.le_of_ble_eq_true rfl⟩) (fun r8 s7 h => ?_)
          obtain ⟨z9, h⟩ := h
          refine r_if_eq X 42 dX2_judgeClause_37 (by decide) (fun c10 => ?_) (fun c10 => ?_)
          · replace h := h.1 c10
            refine r_iload_n X 2 dX2_judgeClause_42 rfl rfl ?_
            refine r_iconst (v := 1) X dX2_judgeClause_43 rfl ?_
            refine r_aload_n X 0 dX2_judgeClause_44 rfl rfl ?_
            refine gl_X2_121 X hph 182 ly_182 dX2_judgeClause_45 ?_
            refine r_ishl X dX2_judgeClause_48 ?_
            refine r_ior X dX2_judgeClause_49 ?_
            refine r_nmI (fun y11 e12 => ?_)
            replace h := h y11 e12
            refine r_istore_n (lv' := [(2, .int y11), (0, .ref (kB G + 182)), (1, .int v1), (3, .int v3)]) X dX2_judgeClause_50 rfl (Nat.le_of_ble_eq_true rfl) rfl ?_
            refine r_aload_n X 1 dX2_judgeClause_51 rfl rfl ?_
            refine r_cv X (r_okVL (As := []) (rest := []) X (m_X2_nextToken (xl x) G X.2.2.2.2.1 hph s7 _ h) (cl_X2_179 X ⟨(Nat.le_of_ble_eq_true rfl), (Nat.le_of_ble_eq_true rfl)⟩) hph 2 ly_182 rfl rfl rfl rfl (Nat.le_of_ble_eq_true rfl) dX2_judgeClause_52 ⟨Nat.le_of_ble_eq_true rfl, Nat.le_of_ble_eq_true rfl⟩) (fun s13 h => ?_)
            refine r_aload_n X 1 dX2_judgeClause_55 rfl rfl ?_
            refine gl_X2_115 X hph 182 ly_182 dX2_judgeClause_56 ?_
            refine r_bipush (v := 44) X dX2_judgeClause_59 rfl ?_
            have hJ : WB x G 4 (QfI x G 0 0 Q) 0 0 s13 69 [(2, .int y11), (0, .ref (kB G + 182)), (1, .int v1), (3, .int v3)] [.int (if (gI s13 (kB G + 182) 9) = 44 then 1 else 0 : Int32)] := by
              refine r_nmI (fun y15 e16 => ?_)
              replace h := h y15 e16
              refine r_istore_n (lv' := [(3, .int y15), (2, .int y11), (0, .ref (kB G + 182)), (1, .int v1)]) X dX2_judgeClause_69 rfl (Nat.le_of_ble_eq_true rfl) rfl ?_
              refine r_iload_n X 0 dX2_judgeClause_70 rfl rfl ?_
              refine r_if_eq X 4 dX2_judgeClause_71 (by decide) (fun c17 => ?_) (fun c17 => ?_)
              · replace h := h.1 c17
                refine r_sub [2, 3, 1, 0] rfl ?_
                exact ih y11 y15 s13 h
              · replace h := h.2 c17
                refine r_aload_n X 2 dX2_judgeClause_74 rfl rfl ?_
                refine r_cv X (r_okVL (As := []) (rest := []) X (m_X2_nextToken (xl x) G X.2.2.2.2.1 hph s13 _ h) (cl_X2_179 X ⟨(Nat.le_of_ble_eq_true rfl), (Nat.le_of_ble_eq_true rfl)⟩) hph 2 ly_182 rfl rfl rfl rfl (Nat.le_of_ble_eq_true rfl) dX2_judgeClause_75 ⟨Nat.le_of_ble_eq_true rfl, Nat.le_of_ble_eq_true rfl⟩) (fun s18 h => ?_)
                refine r_goto X 4 dX2_judgeClause_78 (by decide) ?_
                refine r_sub [2, 3, 1, 0] rfl ?_
                exact ih y11 y15 s18 h
            refine r_ic_ne X 68 dX2_judgeClause_61 (by decide) (fun c14 => ?_) (fun c14 => ?_)
            · rw [if_neg c14] at hJ
              refine r_iconst (v := 0) X dX2_judgeClause_68 rfl ?_
              exact hJ
            · rw [if_pos c14] at hJ
              refine r_iconst (v := 1) X dX2_judgeClause_64 rfl ?_
              refine r_goto X 69 dX2_judgeClause_65 (by decide) ?_
              exact hJ
          · replace h := h.2 c10
            refine r_iconst (v := 4) X dX2_judgeClause_40 rfl ?_
            exact r_iret X h (Nat.le_of_ble_eq_true rfl) (Nat.le_of_ble_eq_true rfl) dX2_judgeClause_41
        · replace h := h.2 c6
          refine r_iconst (v := 2) X dX2_judgeClause_27 rfl ?_
          exact r_iret X h (Nat.le_of_ble_eq_true rfl) (Nat.le_of_ble_eq_true rfl) dX2_judgeClause_28
      · replace h := h.2 c5
        refine r_iconst (v := 1) X dX2_judgeClause_16 rfl ?_
        exact r_iret X h (Nat.le_of_ble_eq_true rfl) (Nat.le_of_ble_eq_true rfl) dX2_judgeClause_17
theorem e_X2_judgeClause {x : CT} {G : GT} (X : Cx x G cX2_judgeClause 4 RX2 (some .int) rm_X2_judgeClause) (hph : kP G = 1) (p1 : Int32) (s : PS) (Q : Int32 → PS → Prop) (h : w_X2_judgeClause G p1 s Q) : WB x G 4 (QfI x G 0 0 Q) 0 0 s 0 [(0, .ref (kB G + 182)), (1, .int p1)] [] := by
  unfold w_X2_judgeClause at h
  refine r_iconst (v := 0) X dX2_judgeClause_0 rfl ?_
  refine r_istore_n (lv' := [(2, .int 0), (0, .ref (kB G + 182)), (1, .int p1)]) X dX2_judgeClause_1 rfl (Nat.le_of_ble_eq_true rfl) rfl ?_
  refine r_iconst (v := 1) X dX2_judgeClause_2 rfl ?_
  refine r_istore_n (lv' := [(3, .int 1), (2, .int 0), (0, .ref (kB G + 182)), (1, .int p1)]) X dX2_judgeClause_3 rfl (Nat.le_of_ble_eq_true rfl) rfl ?_
  refine r_sub [2, 3, 1, 0] rfl ?_
  obtain ⟨n1, h⟩ := h
  exact tl_X2_judgeClause_4 X hph Q p1 n1 0 1 s h
theorem m_X2_judgeClause (l : Launch) (G : GT) (g : GK G) (hph : kP G = 1) (p1 : Int32) (s : PS) (Q : Int32 → PS → Prop) (h : w_X2_judgeClause G p1 s Q) : Met l yX2_judgeClause (ws_ yX2_judgeClause cX2_judgeClause 4 (some .int)) rm_X2_judgeClause (va_Pc [.ref (kB G + 182), .int p1] (Wr G s)) (va_Qi Q (fun u t => Wr G u t) (kF G)) 0 0 (kF G) := by
  refine Met.ofW (cc := cX2_judgeClause) (maxL := 4) (ret := (some .int)) (by decide) rfl ?_
  intro p e s0 m args below meth c s₁ B hml hv
  obtain ⟨rfl, hw⟩ := hv
  exact wb_of [.ref (kB G + 182), .int p1] (Nat.le_of_ble_eq_true rfl) hw.1 rfl (e_X2_judgeClause (cx_of g B hml rfl hw) hph p1 s Q h)
theorem tb_X2_lendClause_27 {x : CT} {G : GT} (X : Cx x G cX2_lendClause 3 RX2 (some .int) rm_X2_lendClause) (hph : kP G = 1) (Q : Int32 → PS → Prop) (v1 : Int32) (v2 : Int32) (s : PS) (h : b_X2_lendClause_27 G Q v1 v2 s) : WB x G 3 (QfI x G 0 0 Q) 0 0 s 27 [(0, .ref (kB G + 182)), (1, .int v1), (2, .int v2)] [] := by
  unfold b_X2_lendClause_27 at h
  refine r_iload_n X 2 dX2_lendClause_27 rfl rfl ?_
  refine r_if_eq X 35 dX2_lendClause_28 (by decide) (fun c1 => ?_) (fun c1 => ?_)
  · replace h := h.1 c1
    refine r_aload_n X 0 dX2_lendClause_35 rfl rfl ?_
    refine r_ldc2 X q1586 dX2_lendClause_36 ?_
    refine r_iload_n X 1 dX2_lendClause_39 rfl rfl ?_
    refine r_iconst (v := 3) X dX2_lendClause_40 rfl ?_
    refine r_iadd X dX2_lendClause_41 ?_
    refine r_iconst (v := 0) X dX2_lendClause_42 rfl ?_
    refine r_bipush (v := 99) X dX2_lendClause_43 rfl ?_
    refine r_ci X (r_okVL (As := [.long 25209, .int (v1 + 3), .int 0, .int 99]) (rest := []) X (m_X2_worded (xl x) G X.2.2.2.2.1 hph 25209 (v1 + 3) 0 99 s _ h) (cl_X2_215 X ⟨(Nat.le_of_ble_eq_true rfl), (Nat.le_of_ble_eq_true rfl)⟩) hph 2 ly_182 rfl rfl rfl rfl (Nat.le_of_ble_eq_true rfl) dX2_lendClause_45 ⟨Nat.le_of_ble_eq_true rfl, Nat.le_of_ble_eq_true rfl⟩) (fun r3 s2 h => ?_)
    exact r_iret X h (Nat.le_of_ble_eq_true rfl) (Nat.le_of_ble_eq_true rfl) dX2_lendClause_48
  · replace h := h.2 c1
    refine r_iload_n X 2 dX2_lendClause_31 rfl rfl ?_
    refine r_goto X 48 dX2_lendClause_32 (by decide) ?_
    exact r_iret X h (Nat.le_of_ble_eq_true rfl) (Nat.le_of_ble_eq_true rfl) dX2_lendClause_48
theorem e_X2_lendClause {x : CT} {G : GT} (X : Cx x G cX2_lendClause 3 RX2 (some .int) rm_X2_lendClause) (hph : kP G = 1) (p1 : Int32) (s : PS) (Q : Int32 → PS → Prop) (h : w_X2_lendClause G p1 s Q) : WB x G 3 (QfI x G 0 0 Q) 0 0 s 0 [(0, .ref (kB G + 182)), (1, .int p1)] [] := by
  unfold w_X2_lendClause at h
  refine r_aload_n X 0 dX2_lendClause_0 rfl rfl ?_
  refine r_iload_n X 1 dX2_lendClause_1 rfl rfl ?_
  refine r_iconst (v := 1) X dX2_lendClause_2 rfl ?_
  refine r_iadd X dX2_lendClause_3 ?_
  refine r_iconst (v := 0) X dX2_lendClause_4 rfl ?_
  refine r_iconst (v := 5) X dX2_lendClause_5 rfl ?_
  refine r_ci X (r_okVL (As := [.int (p1 + 1), .int 0, .int 5]) (rest := []) X (m_X2_figure (xl x) G X.2.2.2.2.1 hph (p1 + 1) 0 5 s _ h) (cl_X2_211 X ⟨(Nat.le_of_ble_eq_true rfl), (Nat.le_of_ble_eq_true rfl)⟩) hph 2 ly_182 rfl rfl rfl rfl (Nat.le_of_ble_eq_true rfl) dX2_lendClause_6 ⟨Nat.le_of_ble_eq_true rfl, Nat.le_of_ble_eq_true rfl⟩) (fun r2 s1 h => ?_)
  refine r_istore_n (lv' := [(2, .int r2), (0, .ref (kB G + 182)), (1, .int p1)]) X dX2_lendClause_9 rfl (Nat.le_of_ble_eq_true rfl) rfl ?_
  refine r_iload_n X 0 dX2_lendClause_10 rfl rfl ?_
  refine r_if_ne X 27 dX2_lendClause_11 (by decide) (fun c3 => ?_) (fun c3 => ?_)
  · replace h := h.2 c3
    refine r_sub [1, 2, 0] rfl ?_
    exact tb_X2_lendClause_27 X hph Q p1 r2 s1 h
  · replace h := h.1 c3
    refine r_aload_n X 1 dX2_lendClause_14 rfl rfl ?_
    refine r_ldc2 X q1585 dX2_lendClause_15 ?_
    refine r_iload_n X 2 dX2_lendClause_18 rfl rfl ?_
    refine r_iconst (v := 2) X dX2_lendClause_19 rfl ?_
    refine r_iadd X dX2_lendClause_20 ?_
    refine r_iconst (v := 0) X dX2_lendClause_21 rfl ?_
    refine r_iconst (v := 5) X dX2_lendClause_22 rfl ?_
    refine r_ci X (r_okVL (As := [.long 29807, .int (p1 + 2), .int 0, .int 5]) (rest := []) X (m_X2_worded (xl x) G X.2.2.2.2.1 hph 29807 (p1 + 2) 0 5 s1 _ h) (cl_X2_215 X ⟨(Nat.le_of_ble_eq_true rfl), (Nat.le_of_ble_eq_true rfl)⟩) hph 2 ly_182 rfl rfl rfl rfl (Nat.le_of_ble_eq_true rfl) dX2_lendClause_23 ⟨Nat.le_of_ble_eq_true rfl, Nat.le_of_ble_eq_true rfl⟩) (fun r5 s4 h => ?_)
    refine r_istore_n (lv' := [(2, .int r5), (0, .ref (kB G + 182)), (1, .int p1)]) X dX2_lendClause_26 rfl (Nat.le_of_ble_eq_true rfl) rfl ?_
    refine r_sub [1, 2, 0] rfl ?_
    exact tb_X2_lendClause_27 X hph Q p1 r5 s4 h
theorem m_X2_lendClause (l : Launch) (G : GT) (g : GK G) (hph : kP G = 1) (p1 : Int32) (s : PS) (Q : Int32 → PS → Prop) (h : w_X2_lendClause G p1 s Q) : Met l yX2_lendClause (ws_ yX2_lendClause cX2_lendClause 3 (some .int)) rm_X2_lendClause (va_Pc [.ref (kB G + 182), .int p1] (Wr G s)) (va_Qi Q (fun u t => Wr G u t) (kF G)) 0 0 (kF G) := by
  refine Met.ofW (cc := cX2_lendClause) (maxL := 3) (ret := (some .int)) (by decide) rfl ?_
  intro p e s0 m args below meth c s₁ B hml hv
  obtain ⟨rfl, hw⟩ := hv
  exact wb_of [.ref (kB G + 182), .int p1] (Nat.le_of_ble_eq_true rfl) hw.1 rfl (e_X2_lendClause (cx_of g B hml rfl hw) hph p1 s Q h)
theorem e_X2_rank {x : CT} {G : GT} (X : Cx x G cX2_rank 1 RX2 (some .int) rm_X2_rank) (p1 : Int32) (s : PS) (Q : Int32 → PS → Prop) (h : w_X2_rank G p1 s Q) : WB x G 1 (QfI x G 0 0 Q) 0 0 s 0 [(0, .int p1)] [] := by
  unfold w_X2_rank at h
  refine r_iload_n X 0 dX2_rank_0 rfl rfl ?_
  refine r_bipush (v := 40) X dX2_rank_1 rfl ?_
  have hJ : WB x G 1 (QfI x G 0 0 Q) 0 0 s 30 [(0, .int p1)] [.int (if p1 < 40 then (if p1 = 2 then 3 else (if p1 < 6 then 1 else 2 : Int32) : Int32) else 0 : Int32)] := by
    exact r_iret X h (Nat.le_of_ble_eq_true rfl) (Nat.le_of_ble_eq_true rfl) dX2_rank_30
  refine r_ic_lt X 10 dX2_rank_3 (by decide) (fun c3 => ?_) (fun c3 => ?_)
  · rw [if_pos c3] at hJ
    refine r_iload_n X 0 dX2_rank_10 rfl rfl ?_
    refine r_iconst (v := 2) X dX2_rank_11 rfl ?_
    refine r_ic_ne X 19 dX2_rank_12 (by decide) (fun c2 => ?_) (fun c2 => ?_)
    · rw [if_neg c2] at hJ
      refine r_iload_n X 0 dX2_rank_19 rfl rfl ?_
      refine r_bipush (v := 6) X dX2_rank_20 rfl ?_
      refine r_ic_lt X 29 dX2_rank_22 (by decide) (fun c1 => ?_) (fun c1 => ?_)
      · rw [if_pos c1] at hJ
        refine r_iconst (v := 1) X dX2_rank_29 rfl ?_
        exact hJ
      · rw [if_neg c1] at hJ
        refine r_iconst (v := 2) X dX2_rank_25 rfl ?_
        refine r_goto X 30 dX2_rank_26 (by decide) ?_
        exact hJ
    · rw [if_pos c2] at hJ
      refine r_iconst (v := 3) X dX2_rank_15 rfl ?_
      refine r_goto X 30 dX2_rank_16 (by decide) ?_
      exact hJ
  · rw [if_neg c3] at hJ
    refine r_iconst (v := 0) X dX2_rank_6 rfl ?_
    refine r_goto X 30 dX2_rank_7 (by decide) ?_
    exact hJ
theorem m_X2_rank (l : Launch) (G : GT) (g : GK G) (p1 : Int32) (s : PS) (Q : Int32 → PS → Prop) (h : w_X2_rank G p1 s Q) : Met l yX2_rank (ws_ yX2_rank cX2_rank 1 (some .int)) rm_X2_rank (va_Pc [.int p1] (Wr G s)) (va_Qi Q (fun u t => Wr G u t) (kF G)) 0 0 (kF G) := by
  refine Met.ofW (cc := cX2_rank) (maxL := 1) (ret := (some .int)) (by decide) rfl ?_
  intro p e s0 m args below meth c s₁ B hml hv
  obtain ⟨rfl, hw⟩ := hv
  exact wb_of [.int p1] (Nat.le_of_ble_eq_true rfl) hw.1 rfl (e_X2_rank (cx_of g B hml rfl hw) p1 s Q h)
theorem e_X2_emit {x : CT} {G : GT} (X : Cx x G cX2_emit 3 RX2 none rm_X2_emit) (hph : kP G = 1) (p1 : Int32) (p2 : Int32) (s : PS) (Q : PS → Prop) (h : w_X2_emit G p1 p2 s Q) : WB x G 3 (QfV x G 0 0 Q) 0 0 s 0 [(0, .ref (kB G + 182)), (1, .int p1), (2, .int p2)] [] := by
  unfold w_X2_emit at h
  refine r_aload_n X 0 dX2_emit_0 rfl rfl ?_
  refine gr_X2_16 X hph 13 182 185 ly_182 rfl rfl dX2_emit_1 ?_
  refine r_aload_n X 0 dX2_emit_4 rfl rfl ?_
  refine gl_X2_149 X hph 182 ly_182 dX2_emit_5 ?_
  refine r_sipush (v := 145) X dX2_emit_8 rfl ?_
  refine r_iadd X dX2_emit_11 ?_
  refine r_iconst (v := 2) X dX2_emit_12 rfl ?_
  refine r_aload_n X 0 dX2_emit_13 rfl rfl ?_
  refine gl_X2_152 X hph 182 ly_182 dX2_emit_14 ?_
  refine r_imul X dX2_emit_17 ?_
  refine r_iadd X dX2_emit_18 ?_
  refine r_iload_n X 1 dX2_emit_19 rfl rfl ?_
  obtain ⟨g1, h⟩ := h
  refine r_iastL X hph 185 3012 ly_185 rfl g1 dX2_emit_20 (fun s2 e3 => ?_)
  replace h := h s2 e3
  refine r_aload_n X 0 dX2_emit_21 rfl rfl ?_
  refine gr_X2_16 X hph 13 182 185 ly_182 rfl rfl dX2_emit_22 ?_
  refine r_aload_n X 0 dX2_emit_25 rfl rfl ?_
  refine gl_X2_149 X hph 182 ly_182 dX2_emit_26 ?_
  refine r_sipush (v := 145) X dX2_emit_29 rfl ?_
  refine r_iadd X dX2_emit_32 ?_
  refine r_iconst (v := 2) X dX2_emit_33 rfl ?_
  refine r_aload_n X 0 dX2_emit_34 rfl rfl ?_
  refine gl_X2_152 X hph 182 ly_182 dX2_emit_35 ?_
  refine r_imul X dX2_emit_38 ?_
  refine r_iadd X dX2_emit_39 ?_
  refine r_iconst (v := 1) X dX2_emit_40 rfl ?_
  refine r_iadd X dX2_emit_41 ?_
  refine r_iload_n X 2 dX2_emit_42 rfl rfl ?_
  obtain ⟨g4, h⟩ := h
  refine r_iastL X hph 185 3012 ly_185 rfl g4 dX2_emit_43 (fun s5 e6 => ?_)
  replace h := h s5 e6
  refine r_aload_n X 0 dX2_emit_44 rfl rfl ?_
  refine r_dup X dX2_emit_45 rfl ?_
  refine gl_X2_152 X hph 182 ly_182 dX2_emit_46 ?_
  refine r_iconst (v := 1) X dX2_emit_49 rfl ?_
  refine r_iadd X dX2_emit_50 ?_
  refine pl_X2_152 X hph 182 ly_182 dX2_emit_51 (fun s7 e8 => ?_)
  replace h := h s7 e8
  exact r_vret X h (Nat.le_of_ble_eq_true rfl) (Nat.le_of_ble_eq_true rfl) dX2_emit_54
theorem m_X2_emit (l : Launch) (G : GT) (g : GK G) (hph : kP G = 1) (p1 : Int32) (p2 : Int32) (s : PS) (Q : PS → Prop) (h : w_X2_emit G p1 p2 s Q) : Met l yX2_emit (ws_ yX2_emit cX2_emit 3 none) rm_X2_emit (va_Pc [.ref (kB G + 182), .int p1, .int p2] (Wr G s)) (va_Qv Q (fun u t => Wr G u t) (kF G)) 0 0 (kF G) := by
  refine Met.ofW (cc := cX2_emit) (maxL := 3) (ret := none) (by decide) rfl ?_
  intro p e s0 m args below meth c s₁ B hml hv
  obtain ⟨rfl, hw⟩ := hv
  exact wb_of [.ref (kB G + 182), .int p1, .int p2] (Nat.le_of_ble_eq_true rfl) hw.1 rfl (e_X2_emit (cx_of g B hml rfl hw) hph p1 p2 s Q h)
theorem tl_X2_settlePile_0 {x : CT} {G : GT} (X : Cx x G cX2_settlePile 2 RX2 none rm_X2_settlePile) (hph : kP G = 1) (Q : PS → Prop) (v1 : Int32) : ∀ (n : Nat) (s : PS) (h : l_X2_settlePile_0 G Q v1 n s), WB x G 2 (QfV x G 0 0 Q) 0 0 s 0 [(0, .ref (kB G + 182)), (1, .int v1)] [] := by
  intro n
  induction n with
  | zero =>
    intro s h
    exact False.elim h
  | succ n ih =>
    intro s h
    unfold l_X2_settlePile_0 at h
    refine r_aload_n X 0 dX2_settlePile_0 rfl rfl ?_
    refine gl_X2_166 X hph 182 ly_182 dX2_settlePile_1 ?_
    refine r_if_le X 75 dX2_settlePile_4 (by decide) (fun c1 => ?_) (fun c1 => ?_)
    · replace h := h.1 c1
      exact r_vret X h (Nat.le_of_ble_eq_true rfl) (Nat.le_of_ble_eq_true rfl) dX2_settlePile_75
    · replace h := h.2 c1
      refine r_aload_n X 0 dX2_settlePile_7 rfl rfl ?_
      refine gr_X2_29 X hph 13 182 187 ly_182 rfl rfl dX2_settlePile_8 ?_
      refine r_aload_n X 0 dX2_settlePile_11 rfl rfl ?_
      refine gl_X2_166 X hph 182 ly_182 dX2_settlePile_12 ?_
      refine r_iconst (v := 1) X dX2_settlePile_15 rfl ?_
      refine r_isub X dX2_settlePile_16 ?_
      obtain ⟨g2, h⟩ := h
      refine r_ialdL X hph 187 160 ly_187 rfl g2 dX2_settlePile_17 ?_
      refine r_ci X (r_okS (As := [.int (gI s (kB G + 187) ((gI s (kB G + 182) 16) - 1).toNatClampNeg)]) (rest := []) X (m_X2_rank (xl x) G X.2.2.2.2.1 (gI s (kB G + 187) ((gI s (kB G + 182) 16) - 1).toNatClampNeg) s _ h) (cl_X2_169 X ⟨(Nat.le_of_ble_eq_true rfl), (Nat.le_of_ble_eq_true rfl)⟩) rfl rfl (Nat.le_of_ble_eq_true rfl) dX2_settlePile_18 ⟨Nat.le_of_ble_eq_true rfl, Nat.le_of_ble_eq_true rfl⟩) (fun r4 s3 h => ?_)
      refine r_iload_n X 1 dX2_settlePile_21 rfl rfl ?_
      refine r_ic_lt X 75 dX2_settlePile_22 (by decide) (fun c5 => ?_) (fun c5 => ?_)
      · replace h := h.1 c5
        exact r_vret X h (Nat.le_of_ble_eq_true rfl) (Nat.le_of_ble_eq_true rfl) dX2_settlePile_75
      · replace h := h.2 c5
        refine r_aload_n X 0 dX2_settlePile_25 rfl rfl ?_
        refine r_dup X dX2_settlePile_26 rfl ?_
        refine gl_X2_166 X hph 182 ly_182 dX2_settlePile_27 ?_
        refine r_iconst (v := 1) X dX2_settlePile_30 rfl ?_
        refine r_isub X dX2_settlePile_31 ?_
        refine pl_X2_166 X hph 182 ly_182 dX2_settlePile_32 (fun s6 e7 => ?_)
        replace h := h s6 e7
        refine r_aload_n X 0 dX2_settlePile_35 rfl rfl ?_
        refine r_aload_n X 0 dX2_settlePile_36 rfl rfl ?_
        refine gr_X2_29 X hph 13 182 187 ly_182 rfl rfl dX2_settlePile_37 ?_
        refine r_aload_n X 0 dX2_settlePile_40 rfl rfl ?_
        refine gl_X2_166 X hph 182 ly_182 dX2_settlePile_41 ?_
        obtain ⟨g8, h⟩ := h
        refine r_ialdL X hph 187 160 ly_187 rfl g8 dX2_settlePile_44 ?_
        refine r_iconst (v := 0) X dX2_settlePile_45 rfl ?_
        refine r_cv X (r_okVL (As := [.int (gI s6 (kB G + 187) (gI s6 (kB G + 182) 16).toNatClampNeg), .int 0]) (rest := []) X (m_X2_emit (xl x) G X.2.2.2.2.1 hph (gI s6 (kB G + 187) (gI s6 (kB G + 182) 16).toNatClampNeg) 0 s6 _ h) (cl_X2_172 X ⟨(Nat.le_of_ble_eq_true rfl), (Nat.le_of_ble_eq_true rfl)⟩) hph 2 ly_182 rfl rfl rfl rfl (Nat.le_of_ble_eq_true rfl) dX2_settlePile_46 ⟨Nat.le_of_ble_eq_true rfl, Nat.le_of_ble_eq_true rfl⟩) (fun s9 h => ?_)
        refine r_aload_n X 0 dX2_settlePile_49 rfl rfl ?_
        refine gr_X2_29 X hph 13 182 187 ly_182 rfl rfl dX2_settlePile_50 ?_
        refine r_aload_n X 0 dX2_settlePile_53 rfl rfl ?_
        refine gl_X2_166 X hph 182 ly_182 dX2_settlePile_54 ?_
        obtain ⟨g10, h⟩ := h
        refine r_ialdL X hph 187 160 ly_187 rfl g10 dX2_settlePile_57 ?_
        refine r_iconst (v := 2) X dX2_settlePile_58 rfl ?_
        refine r_ic_ne X 0 dX2_settlePile_59 (by decide) (fun c11 => ?_) (fun c11 => ?_)
        · replace h := h.2 c11
          exact ih s9 h
        · replace h := h.1 c11
          refine r_aload_n X 0 dX2_settlePile_62 rfl rfl ?_
          refine r_dup X dX2_settlePile_63 rfl ?_
          refine gl_X2_176 X hph 182 ly_182 dX2_settlePile_64 ?_
          refine r_iconst (v := 1) X dX2_settlePile_67 rfl ?_
          refine r_isub X dX2_settlePile_68 ?_
          refine pl_X2_176 X hph 182 ly_182 dX2_settlePile_69 (fun s12 e13 => ?_)
          replace h := h s12 e13
          refine r_goto X 0 dX2_settlePile_72 (by decide) ?_
          exact ih s12 h
theorem e_X2_settlePile {x : CT} {G : GT} (X : Cx x G cX2_settlePile 2 RX2 none rm_X2_settlePile) (hph : kP G = 1) (p1 : Int32) (s : PS) (Q : PS → Prop) (h : w_X2_settlePile G p1 s Q) : WB x G 2 (QfV x G 0 0 Q) 0 0 s 0 [(0, .ref (kB G + 182)), (1, .int p1)] [] := by
  unfold w_X2_settlePile at h
  obtain ⟨n1, h⟩ := h
  exact tl_X2_settlePile_0 X hph Q p1 n1 s h
theorem m_X2_settlePile (l : Launch) (G : GT) (g : GK G) (hph : kP G = 1) (p1 : Int32) (s : PS) (Q : PS → Prop) (h : w_X2_settlePile G p1 s Q) : Met l yX2_settlePile (ws_ yX2_settlePile cX2_settlePile 2 none) rm_X2_settlePile (va_Pc [.ref (kB G + 182), .int p1] (Wr G s)) (va_Qv Q (fun u t => Wr G u t) (kF G)) 0 0 (kF G) := by
  refine Met.ofW (cc := cX2_settlePile) (maxL := 2) (ret := none) (by decide) rfl ?_
  intro p e s0 m args below meth c s₁ B hml hv
  obtain ⟨rfl, hw⟩ := hv
  exact wb_of [.ref (kB G + 182), .int p1] (Nat.le_of_ble_eq_true rfl) hw.1 rfl (e_X2_settlePile (cx_of g B hml rfl hw) hph p1 s Q h)
theorem tb_X2_openAt_28 {x : CT} {G : GT} (X : Cx x G cX2_openAt 2 RX2 (some .int) rm_X2_openAt) (hph : kP G = 1) (Q : Int32 → PS → Prop) (v1 : Int32) (s : PS) (h : b_X2_openAt_28 G Q v1 s) : WB x G 2 (QfI x G 0 0 Q) 0 0 s 28 [(0, .ref (kB G + 182)), (1, .int v1)] [] := by
  unfold b_X2_openAt_28 at h
  refine r_iload_n X 1 dX2_openAt_28 rfl rfl ?_
  refine r_if_ge X 36 dX2_openAt_29 (by decide) (fun c1 => ?_) (fun c1 => ?_)
  · replace h := h.1 c1
    refine r_aload_n X 0 dX2_openAt_36 rfl rfl ?_
    refine gr_X2_29 X hph 13 182 187 ly_182 rfl rfl dX2_openAt_37 ?_
    refine r_iload_n X 1 dX2_openAt_40 rfl rfl ?_
    obtain ⟨g2, h⟩ := h
    refine r_ialdL X hph 187 160 ly_187 rfl g2 dX2_openAt_41 ?_
    exact r_iret X h (Nat.le_of_ble_eq_true rfl) (Nat.le_of_ble_eq_true rfl) dX2_openAt_42
  · replace h := h.2 c1
    refine r_iconst (v := (-1)) X dX2_openAt_32 rfl ?_
    refine r_goto X 42 dX2_openAt_33 (by decide) ?_
    exact r_iret X h (Nat.le_of_ble_eq_true rfl) (Nat.le_of_ble_eq_true rfl) dX2_openAt_42
theorem tl_X2_openAt_7 {x : CT} {G : GT} (X : Cx x G cX2_openAt 2 RX2 (some .int) rm_X2_openAt) (hph : kP G = 1) (Q : Int32 → PS → Prop) : ∀ (n : Nat) (v1 : Int32) (s : PS) (h : l_X2_openAt_7 G Q n v1 s), WB x G 2 (QfI x G 0 0 Q) 0 0 s 7 [(0, .ref (kB G + 182)), (1, .int v1)] [] := by
  intro n
  induction n with
  | zero =>
    intro v1 s h
    exact False.elim h
  | succ n ih =>
    intro v1 s h
    unfold l_X2_openAt_7 at h
    refine r_iload_n X 1 dX2_openAt_7 rfl rfl ?_
    refine r_if_lt X 28 dX2_openAt_8 (by decide) (fun c1 => ?_) (fun c1 => ?_)
    · replace h := h.1 c1
      exact tb_X2_openAt_28 X hph Q v1 s h
    · replace h := h.2 c1
      refine r_aload_n X 0 dX2_openAt_11 rfl rfl ?_
      refine gr_X2_29 X hph 13 182 187 ly_182 rfl rfl dX2_openAt_12 ?_
      refine r_iload_n X 1 dX2_openAt_15 rfl rfl ?_
      obtain ⟨g2, h⟩ := h
      refine r_ialdL X hph 187 160 ly_187 rfl g2 dX2_openAt_16 ?_
      refine r_bipush (v := 40) X dX2_openAt_17 rfl ?_
      refine r_ic_ge X 28 dX2_openAt_19 (by decide) (fun c3 => ?_) (fun c3 => ?_)
      · replace h := h.1 c3
        exact tb_X2_openAt_28 X hph Q v1 s h
      · replace h := h.2 c3
        refine r_iinc (lv' := [(1, .int (v1 + (-1))), (0, .ref (kB G + 182))]) X 1 dX2_openAt_22 rfl rfl (Nat.le_of_ble_eq_true rfl) rfl ?_
        refine r_goto X 7 dX2_openAt_25 (by decide) ?_
        refine r_sub [1, 0] rfl ?_
        exact ih (v1 + (-1)) s h
theorem e_X2_openAt {x : CT} {G : GT} (X : Cx x G cX2_openAt 2 RX2 (some .int) rm_X2_openAt) (hph : kP G = 1) (s : PS) (Q : Int32 → PS → Prop) (h : w_X2_openAt G s Q) : WB x G 2 (QfI x G 0 0 Q) 0 0 s 0 [(0, .ref (kB G + 182))] [] := by
  unfold w_X2_openAt at h
  refine r_aload_n X 0 dX2_openAt_0 rfl rfl ?_
  refine gl_X2_166 X hph 182 ly_182 dX2_openAt_1 ?_
  refine r_iconst (v := 1) X dX2_openAt_4 rfl ?_
  refine r_isub X dX2_openAt_5 ?_
  refine r_nmI (fun y1 e2 => ?_)
  replace h := h y1 e2
  refine r_istore_n (lv' := [(1, .int y1), (0, .ref (kB G + 182))]) X dX2_openAt_6 rfl (Nat.le_of_ble_eq_true rfl) rfl ?_
  refine r_sub [1, 0] rfl ?_
  obtain ⟨n3, h⟩ := h
  exact tl_X2_openAt_7 X hph Q n3 y1 s h
theorem m_X2_openAt (l : Launch) (G : GT) (g : GK G) (hph : kP G = 1) (s : PS) (Q : Int32 → PS → Prop) (h : w_X2_openAt G s Q) : Met l yX2_openAt (ws_ yX2_openAt cX2_openAt 2 (some .int)) rm_X2_openAt (va_Pc [.ref (kB G + 182)] (Wr G s)) (va_Qi Q (fun u t => Wr G u t) (kF G)) 0 0 (kF G) := by
  refine Met.ofW (cc := cX2_openAt) (maxL := 2) (ret := (some .int)) (by decide) rfl ?_
  intro p e s0 m args below meth c s₁ B hml hv
  obtain ⟨rfl, hw⟩ := hv
  exact wb_of [.ref (kB G + 182)] (Nat.le_of_ble_eq_true rfl) hw.1 rfl (e_X2_openAt (cx_of g B hml rfl hw) hph s Q h)
theorem tb_X2_behindOne_173 {x : CT} {G : GT} (X : Cx x G cX2_behindOne 3 RX2 (some .int) rm_X2_behindOne) (hph : kP G = 1) (Q : Int32 → PS → Prop) (s : PS) (h : b_X2_behindOne_173 G Q s) : WB x G 3 (QfI x G 0 0 Q) 0 0 s 173 [(0, .ref (kB G + 182))] [] := by
  unfold b_X2_behindOne_173 at h
  refine r_aload_n X 0 dX2_behindOne_173 rfl rfl ?_
  refine r_cv X (r_okVL (As := []) (rest := []) X (m_X2_nextToken (xl x) G X.2.2.2.2.1 hph s _ h) (cl_X2_179 X ⟨(Nat.le_of_ble_eq_true rfl), (Nat.le_of_ble_eq_true rfl)⟩) hph 2 ly_182 rfl rfl rfl rfl (Nat.le_of_ble_eq_true rfl) dX2_behindOne_174 ⟨Nat.le_of_ble_eq_true rfl, Nat.le_of_ble_eq_true rfl⟩) (fun s1 h => ?_)
  refine r_aload_n X 0 dX2_behindOne_177 rfl rfl ?_
  refine r_iconst (v := 3) X dX2_behindOne_178 rfl ?_
  refine r_cv X (r_okVL (As := [.int 3]) (rest := []) X (m_X2_settlePile (xl x) G X.2.2.2.2.1 hph 3 s1 _ h) (cl_X2_192 X ⟨(Nat.le_of_ble_eq_true rfl), (Nat.le_of_ble_eq_true rfl)⟩) hph 2 ly_182 rfl rfl rfl rfl (Nat.le_of_ble_eq_true rfl) dX2_behindOne_179 ⟨Nat.le_of_ble_eq_true rfl, Nat.le_of_ble_eq_true rfl⟩) (fun s2 h => ?_)
  refine r_iconst (v := 0) X dX2_behindOne_182 rfl ?_
  exact r_iret X h (Nat.le_of_ble_eq_true rfl) (Nat.le_of_ble_eq_true rfl) dX2_behindOne_183
theorem tb_X2_behindOne_136 {x : CT} {G : GT} (X : Cx x G cX2_behindOne 3 RX2 (some .int) rm_X2_behindOne) (hph : kP G = 1) (Q : Int32 → PS → Prop) (v2 : Int32) (s : PS) (h : b_X2_behindOne_136 G Q v2 s) : WB x G 3 (QfI x G 0 0 Q) 0 0 s 136 [(0, .ref (kB G + 182)), (2, .int v2)] [] := by
  unfold b_X2_behindOne_136 at h
  refine r_aload_n X 0 dX2_behindOne_136 rfl rfl ?_
  refine r_iconst (v := 1) X dX2_behindOne_137 rfl ?_
  refine r_cv X (r_okVL (As := [.int 1]) (rest := []) X (m_X2_settlePile (xl x) G X.2.2.2.2.1 hph 1 s _ h) (cl_X2_192 X ⟨(Nat.le_of_ble_eq_true rfl), (Nat.le_of_ble_eq_true rfl)⟩) hph 2 ly_182 rfl rfl rfl rfl (Nat.le_of_ble_eq_true rfl) dX2_behindOne_138 ⟨Nat.le_of_ble_eq_true rfl, Nat.le_of_ble_eq_true rfl⟩) (fun s1 h => ?_)
  refine r_aload_n X 0 dX2_behindOne_141 rfl rfl ?_
  refine r_dup X dX2_behindOne_142 rfl ?_
  refine gl_X2_166 X hph 182 ly_182 dX2_behindOne_143 ?_
  refine r_iconst (v := 1) X dX2_behindOne_146 rfl ?_
  refine r_isub X dX2_behindOne_147 ?_
  refine pl_X2_166 X hph 182 ly_182 dX2_behindOne_148 (fun s2 e3 => ?_)
  replace h := h s2 e3
  refine r_aload_n X 0 dX2_behindOne_151 rfl rfl ?_
  refine r_dup X dX2_behindOne_152 rfl ?_
  refine gl_X2_176 X hph 182 ly_182 dX2_behindOne_153 ?_
  refine r_iconst (v := 1) X dX2_behindOne_156 rfl ?_
  refine r_isub X dX2_behindOne_157 ?_
  refine pl_X2_176 X hph 182 ly_182 dX2_behindOne_158 (fun s4 e5 => ?_)
  replace h := h s4 e5
  refine r_iload_n X 1 dX2_behindOne_161 rfl rfl ?_
  refine r_bipush (v := 41) X dX2_behindOne_162 rfl ?_
  refine r_ic_ne X 173 dX2_behindOne_164 (by decide) (fun c6 => ?_) (fun c6 => ?_)
  · replace h := h.2 c6
    refine r_sub [0] rfl ?_
    exact tb_X2_behindOne_173 X hph Q s4 h
  · replace h := h.1 c6
    refine r_aload_n X 0 dX2_behindOne_167 rfl rfl ?_
    refine r_iconst (v := 3) X dX2_behindOne_168 rfl ?_
    refine r_iconst (v := 0) X dX2_behindOne_169 rfl ?_
    refine r_cv X (r_okVL (As := [.int 3, .int 0]) (rest := []) X (m_X2_emit (xl x) G X.2.2.2.2.1 hph 3 0 s4 _ h) (cl_X2_172 X ⟨(Nat.le_of_ble_eq_true rfl), (Nat.le_of_ble_eq_true rfl)⟩) hph 2 ly_182 rfl rfl rfl rfl (Nat.le_of_ble_eq_true rfl) dX2_behindOne_170 ⟨Nat.le_of_ble_eq_true rfl, Nat.le_of_ble_eq_true rfl⟩) (fun s7 h => ?_)
    refine r_sub [0] rfl ?_
    exact tb_X2_behindOne_173 X hph Q s7 h
theorem tb_X2_behindOne_119 {x : CT} {G : GT} (X : Cx x G cX2_behindOne 3 RX2 (some .int) rm_X2_behindOne) (hph : kP G = 1) (Q : Int32 → PS → Prop) (v2 : Int32) (s : PS) (h : b_X2_behindOne_119 G Q v2 s) : WB x G 3 (QfI x G 0 0 Q) 0 0 s 119 [(0, .ref (kB G + 182)), (2, .int v2)] [] := by
  unfold b_X2_behindOne_119 at h
  refine r_aload_n X 0 dX2_behindOne_119 rfl rfl ?_
  refine gl_X2_115 X hph 182 ly_182 dX2_behindOne_120 ?_
  refine r_bipush (v := 124) X dX2_behindOne_123 rfl ?_
  refine r_ic_ne X 134 dX2_behindOne_125 (by decide) (fun c1 => ?_) (fun c1 => ?_)
  · replace h := h.2 c1
    refine r_iconst (v := 1) X dX2_behindOne_134 rfl ?_
    exact r_iret X h (Nat.le_of_ble_eq_true rfl) (Nat.le_of_ble_eq_true rfl) dX2_behindOne_135
  · replace h := h.1 c1
    refine r_iload_n X 1 dX2_behindOne_128 rfl rfl ?_
    refine r_bipush (v := 41) X dX2_behindOne_129 rfl ?_
    refine r_ic_eq X 136 dX2_behindOne_131 (by decide) (fun c2 => ?_) (fun c2 => ?_)
    · replace h := h.1 c2
      exact tb_X2_behindOne_136 X hph Q v2 s h
    · replace h := h.2 c2
      refine r_iconst (v := 1) X dX2_behindOne_134 rfl ?_
      exact r_iret X h (Nat.le_of_ble_eq_true rfl) (Nat.le_of_ble_eq_true rfl) dX2_behindOne_135
theorem e_X2_behindOne {x : CT} {G : GT} (X : Cx x G cX2_behindOne 3 RX2 (some .int) rm_X2_behindOne) (hph : kP G = 1) (s : PS) (Q : Int32 → PS → Prop) (h : w_X2_behindOne G s Q) : WB x G 3 (QfI x G 0 0 Q) 0 0 s 0 [(0, .ref (kB G + 182))] [] := by
  unfold w_X2_behindOne at h
  refine r_aload_n X 0 dX2_behindOne_0 rfl rfl ?_
  refine gl_X2_115 X hph 182 ly_182 dX2_behindOne_1 ?_
  refine r_bipush (v := 43) X dX2_behindOne_4 rfl ?_
  have hJ : WB x G 3 (QfI x G 0 0 Q) 0 0 s 55 [(0, .ref (kB G + 182))] [.int (if (gI s (kB G + 182) 9) = 43 then 4 else (if (gI s (kB G + 182) 9) = 45 then 5 else (if (gI s (kB G + 182) 9) = 42 then 6 else (if (gI s (kB G + 182) 9) = 47 then 7 else (-1) : Int32) : Int32) : Int32) : Int32)] := by
    refine r_nmI (fun y5 e6 => ?_)
    replace h := h y5 e6
    refine r_istore_n (lv' := [(1, .int y5), (0, .ref (kB G + 182))]) X dX2_behindOne_55 rfl (Nat.le_of_ble_eq_true rfl) rfl ?_
    refine r_iload_n X 0 dX2_behindOne_56 rfl rfl ?_
    refine r_if_lt X 99 dX2_behindOne_57 (by decide) (fun c7 => ?_) (fun c7 => ?_)
    · replace h := h.1 c7
      refine r_aload_n X 1 dX2_behindOne_99 rfl rfl ?_
      refine r_ci X (r_okVL (As := []) (rest := []) X (m_X2_openAt (xl x) G X.2.2.2.2.1 hph s _ h) (cl_X2_198 X ⟨(Nat.le_of_ble_eq_true rfl), (Nat.le_of_ble_eq_true rfl)⟩) hph 2 ly_182 rfl rfl rfl rfl (Nat.le_of_ble_eq_true rfl) dX2_behindOne_100 ⟨Nat.le_of_ble_eq_true rfl, Nat.le_of_ble_eq_true rfl⟩) (fun r9 s8 h => ?_)
      refine r_istore_n (lv' := [(2, .int r9), (1, .int y5), (0, .ref (kB G + 182))]) X dX2_behindOne_103 rfl (Nat.le_of_ble_eq_true rfl) rfl ?_
      refine r_aload_n X 2 dX2_behindOne_104 rfl rfl ?_
      refine gl_X2_115 X hph 182 ly_182 dX2_behindOne_105 ?_
      refine r_bipush (v := 41) X dX2_behindOne_108 rfl ?_
      refine r_ic_ne X 119 dX2_behindOne_110 (by decide) (fun c10 => ?_) (fun c10 => ?_)
      · replace h := h.2 c10
        refine r_sub [2, 0] rfl ?_
        exact tb_X2_behindOne_119 X hph Q r9 s8 h
      · replace h := h.1 c10
        refine r_iload_n X 0 dX2_behindOne_113 rfl rfl ?_
        refine r_bipush (v := 40) X dX2_behindOne_114 rfl ?_
        refine r_ic_eq X 136 dX2_behindOne_116 (by decide) (fun c11 => ?_) (fun c11 => ?_)
        · replace h := h.1 c11
          refine r_sub [2, 0] rfl ?_
          exact tb_X2_behindOne_136 X hph Q r9 s8 h
        · replace h := h.2 c11
          refine r_sub [2, 0] rfl ?_
          exact tb_X2_behindOne_119 X hph Q r9 s8 h
    · replace h := h.2 c7
      refine r_aload_n X 1 dX2_behindOne_60 rfl rfl ?_
      refine r_iload_n X 0 dX2_behindOne_61 rfl rfl ?_
      refine r_ci X (r_okS (As := [.int y5]) (rest := [.ref (kB G + 182)]) X (m_X2_rank (xl x) G X.2.2.2.2.1 y5 s _ h) (cl_X2_169 X ⟨(Nat.le_of_ble_eq_true rfl), (Nat.le_of_ble_eq_true rfl)⟩) rfl rfl (Nat.le_of_ble_eq_true rfl) dX2_behindOne_62 ⟨Nat.le_of_ble_eq_true rfl, Nat.le_of_ble_eq_true rfl⟩) (fun r13 s12 h => ?_)
      refine r_cv X (r_okVL (As := [.int r13]) (rest := []) X (m_X2_settlePile (xl x) G X.2.2.2.2.1 hph r13 s12 _ h) (cl_X2_192 X ⟨(Nat.le_of_ble_eq_true rfl), (Nat.le_of_ble_eq_true rfl)⟩) hph 2 ly_182 rfl rfl rfl rfl (Nat.le_of_ble_eq_true rfl) dX2_behindOne_65 ⟨Nat.le_of_ble_eq_true rfl, Nat.le_of_ble_eq_true rfl⟩) (fun s14 h => ?_)
      refine r_aload_n X 1 dX2_behindOne_68 rfl rfl ?_
      refine gr_X2_29 X hph 13 182 187 ly_182 rfl rfl dX2_behindOne_69 ?_
      refine r_aload_n X 1 dX2_behindOne_72 rfl rfl ?_
      refine gl_X2_166 X hph 182 ly_182 dX2_behindOne_73 ?_
      refine r_iload_n X 0 dX2_behindOne_76 rfl rfl ?_
      obtain ⟨g15, h⟩ := h
      refine r_iastL X hph 187 160 ly_187 rfl g15 dX2_behindOne_77 (fun s16 e17 => ?_)
      replace h := h s16 e17
      refine r_aload_n X 1 dX2_behindOne_78 rfl rfl ?_
      refine r_dup X dX2_behindOne_79 rfl ?_
      refine gl_X2_166 X hph 182 ly_182 dX2_behindOne_80 ?_
      refine r_iconst (v := 1) X dX2_behindOne_83 rfl ?_
      refine r_iadd X dX2_behindOne_84 ?_
      refine pl_X2_166 X hph 182 ly_182 dX2_behindOne_85 (fun s18 e19 => ?_)
      replace h := h s18 e19
      refine r_aload_n X 1 dX2_behindOne_88 rfl rfl ?_
      refine r_iconst (v := 0) X dX2_behindOne_89 rfl ?_
      refine pl_X2_188 X hph 182 ly_182 (Or.inl rfl) dX2_behindOne_90 (fun s20 e21 => ?_)
      replace h := h s20 e21
      refine r_aload_n X 1 dX2_behindOne_93 rfl rfl ?_
      refine r_cv X (r_okVL (As := []) (rest := []) X (m_X2_nextToken (xl x) G X.2.2.2.2.1 hph s20 _ h) (cl_X2_179 X ⟨(Nat.le_of_ble_eq_true rfl), (Nat.le_of_ble_eq_true rfl)⟩) hph 2 ly_182 rfl rfl rfl rfl (Nat.le_of_ble_eq_true rfl) dX2_behindOne_94 ⟨Nat.le_of_ble_eq_true rfl, Nat.le_of_ble_eq_true rfl⟩) (fun s22 h => ?_)
      refine r_iconst (v := 0) X dX2_behindOne_97 rfl ?_
      exact r_iret X h (Nat.le_of_ble_eq_true rfl) (Nat.le_of_ble_eq_true rfl) dX2_behindOne_98
  refine r_ic_ne X 13 dX2_behindOne_6 (by decide) (fun c4 => ?_) (fun c4 => ?_)
  · rw [if_neg c4] at hJ
    refine r_aload_n X 0 dX2_behindOne_13 rfl rfl ?_
    refine gl_X2_115 X hph 182 ly_182 dX2_behindOne_14 ?_
    refine r_bipush (v := 45) X dX2_behindOne_17 rfl ?_
    refine r_ic_ne X 26 dX2_behindOne_19 (by decide) (fun c3 => ?_) (fun c3 => ?_)
    · rw [if_neg c3] at hJ
      refine r_aload_n X 0 dX2_behindOne_26 rfl rfl ?_
      refine gl_X2_115 X hph 182 ly_182 dX2_behindOne_27 ?_
      refine r_bipush (v := 42) X dX2_behindOne_30 rfl ?_
      refine r_ic_ne X 40 dX2_behindOne_32 (by decide) (fun c2 => ?_) (fun c2 => ?_)
      · rw [if_neg c2] at hJ
        refine r_aload_n X 0 dX2_behindOne_40 rfl rfl ?_
        refine gl_X2_115 X hph 182 ly_182 dX2_behindOne_41 ?_
        refine r_bipush (v := 47) X dX2_behindOne_44 rfl ?_
        refine r_ic_ne X 54 dX2_behindOne_46 (by decide) (fun c1 => ?_) (fun c1 => ?_)
        · rw [if_neg c1] at hJ
          refine r_iconst (v := (-1)) X dX2_behindOne_54 rfl ?_
          exact hJ
        · rw [if_pos c1] at hJ
          refine r_bipush (v := 7) X dX2_behindOne_49 rfl ?_
          refine r_goto X 55 dX2_behindOne_51 (by decide) ?_
          exact hJ
      · rw [if_pos c2] at hJ
        refine r_bipush (v := 6) X dX2_behindOne_35 rfl ?_
        refine r_goto X 55 dX2_behindOne_37 (by decide) ?_
        exact hJ
    · rw [if_pos c3] at hJ
      refine r_iconst (v := 5) X dX2_behindOne_22 rfl ?_
      refine r_goto X 55 dX2_behindOne_23 (by decide) ?_
      exact hJ
  · rw [if_pos c4] at hJ
    refine r_iconst (v := 4) X dX2_behindOne_9 rfl ?_
    refine r_goto X 55 dX2_behindOne_10 (by decide) ?_
    exact hJ
theorem m_X2_behindOne (l : Launch) (G : GT) (g : GK G) (hph : kP G = 1) (s : PS) (Q : Int32 → PS → Prop) (h : w_X2_behindOne G s Q) : Met l yX2_behindOne (ws_ yX2_behindOne cX2_behindOne 3 (some .int)) rm_X2_behindOne (va_Pc [.ref (kB G + 182)] (Wr G s)) (va_Qi Q (fun u t => Wr G u t) (kF G)) 0 0 (kF G) := by
  refine Met.ofW (cc := cX2_behindOne) (maxL := 3) (ret := (some .int)) (by decide) rfl ?_
  intro p e s0 m args below meth c s₁ B hml hv
  obtain ⟨rfl, hw⟩ := hv
  exact wb_of [.ref (kB G + 182)] (Nat.le_of_ble_eq_true rfl) hw.1 rfl (e_X2_behindOne (cx_of g B hml rfl hw) hph s Q h)
theorem e_X2_laterName {x : CT} {G : GT} (X : Cx x G cX2_laterName 1 RX2 (some .int) rm_X2_laterName) (hph : kP G = 1) (s : PS) (Q : Int32 → PS → Prop) (h : w_X2_laterName G s Q) : WB x G 1 (QfI x G 0 0 Q) 0 0 s 0 [(0, .ref (kB G + 182))] [] := by
  unfold w_X2_laterName at h
  refine r_aload_n X 0 dX2_laterName_0 rfl rfl ?_
  refine gl_X2_128 X hph 182 ly_182 dX2_laterName_1 ?_
  refine r_bipush (v := 115) X dX2_laterName_4 rfl ?_
  refine r_bipush (v := 104) X dX2_laterName_6 rfl ?_
  refine r_bipush (v := 111) X dX2_laterName_8 rfl ?_
  refine r_bipush (v := 119) X dX2_laterName_10 rfl ?_
  refine r_bipush (v := 110) X dX2_laterName_12 rfl ?_
  refine r_cl X (r_okS (As := [.int 115, .int 104, .int 111, .int 119, .int 110]) (rest := [.long (gL s (kB G + 182) 11)]) X (m_X2_w5 (xl x) G X.2.2.2.2.1 115 104 111 119 110 s _ h) (cl_X2_145 X ⟨(Nat.le_of_ble_eq_true rfl), (Nat.le_of_ble_eq_true rfl)⟩) rfl rfl (Nat.le_of_ble_eq_true rfl) dX2_laterName_14 ⟨Nat.le_of_ble_eq_true rfl, Nat.le_of_ble_eq_true rfl⟩) (fun r2 s1 h => ?_)
  refine r_lcmp X dX2_laterName_17 ?_
  refine r_if_ne X 24 dX2_laterName_18 (by decide) (fun c3 => ?_) (fun c3 => ?_)
  · replace h := h.2 c3
    refine r_aload_n X 0 dX2_laterName_24 rfl rfl ?_
    refine gl_X2_128 X hph 182 ly_182 dX2_laterName_25 ?_
    refine r_bipush (v := 108) X dX2_laterName_28 rfl ?_
    refine r_bipush (v := 97) X dX2_laterName_30 rfl ?_
    refine r_bipush (v := 105) X dX2_laterName_32 rfl ?_
    refine r_bipush (v := 100) X dX2_laterName_34 rfl ?_
    refine r_cl X (r_okS (As := [.int 108, .int 97, .int 105, .int 100]) (rest := [.long (gL s1 (kB G + 182) 11)]) X (m_X2_w4 (xl x) G X.2.2.2.2.1 108 97 105 100 s1 _ h) (cl_X2_141 X ⟨(Nat.le_of_ble_eq_true rfl), (Nat.le_of_ble_eq_true rfl)⟩) rfl rfl (Nat.le_of_ble_eq_true rfl) dX2_laterName_36 ⟨Nat.le_of_ble_eq_true rfl, Nat.le_of_ble_eq_true rfl⟩) (fun r5 s4 h => ?_)
    refine r_lcmp X dX2_laterName_39 ?_
    refine r_if_ne X 46 dX2_laterName_40 (by decide) (fun c6 => ?_) (fun c6 => ?_)
    · replace h := h.2 c6
      refine r_aload_n X 0 dX2_laterName_46 rfl rfl ?_
      refine gl_X2_128 X hph 182 ly_182 dX2_laterName_47 ?_
      refine r_bipush (v := 108) X dX2_laterName_50 rfl ?_
      refine r_bipush (v := 105) X dX2_laterName_52 rfl ?_
      refine r_bipush (v := 101) X dX2_laterName_54 rfl ?_
      refine r_bipush (v := 115) X dX2_laterName_56 rfl ?_
      refine r_cl X (r_okS (As := [.int 108, .int 105, .int 101, .int 115]) (rest := [.long (gL s4 (kB G + 182) 11)]) X (m_X2_w4 (xl x) G X.2.2.2.2.1 108 105 101 115 s4 _ h) (cl_X2_141 X ⟨(Nat.le_of_ble_eq_true rfl), (Nat.le_of_ble_eq_true rfl)⟩) rfl rfl (Nat.le_of_ble_eq_true rfl) dX2_laterName_58 ⟨Nat.le_of_ble_eq_true rfl, Nat.le_of_ble_eq_true rfl⟩) (fun r8 s7 h => ?_)
      refine r_lcmp X dX2_laterName_61 ?_
      refine r_if_ne X 68 dX2_laterName_62 (by decide) (fun c9 => ?_) (fun c9 => ?_)
      · replace h := h.2 c9
        refine r_aload_n X 0 dX2_laterName_68 rfl rfl ?_
        refine gl_X2_128 X hph 182 ly_182 dX2_laterName_69 ?_
        refine r_bipush (v := 106) X dX2_laterName_72 rfl ?_
        refine r_bipush (v := 117) X dX2_laterName_74 rfl ?_
        refine r_bipush (v := 100) X dX2_laterName_76 rfl ?_
        refine r_bipush (v := 103) X dX2_laterName_78 rfl ?_
        refine r_bipush (v := 101) X dX2_laterName_80 rfl ?_
        refine r_cl X (r_okS (As := [.int 106, .int 117, .int 100, .int 103, .int 101]) (rest := [.long (gL s7 (kB G + 182) 11)]) X (m_X2_w5 (xl x) G X.2.2.2.2.1 106 117 100 103 101 s7 _ h) (cl_X2_145 X ⟨(Nat.le_of_ble_eq_true rfl), (Nat.le_of_ble_eq_true rfl)⟩) rfl rfl (Nat.le_of_ble_eq_true rfl) dX2_laterName_82 ⟨Nat.le_of_ble_eq_true rfl, Nat.le_of_ble_eq_true rfl⟩) (fun r11 s10 h => ?_)
        refine r_lcmp X dX2_laterName_85 ?_
        refine r_if_ne X 92 dX2_laterName_86 (by decide) (fun c12 => ?_) (fun c12 => ?_)
        · replace h := h.2 c12
          refine r_aload_n X 0 dX2_laterName_92 rfl rfl ?_
          refine gl_X2_128 X hph 182 ly_182 dX2_laterName_93 ?_
          refine r_bipush (v := 107) X dX2_laterName_96 rfl ?_
          refine r_bipush (v := 105) X dX2_laterName_98 rfl ?_
          refine r_bipush (v := 110) X dX2_laterName_100 rfl ?_
          refine r_bipush (v := 100) X dX2_laterName_102 rfl ?_
          refine r_bipush (v := 115) X dX2_laterName_104 rfl ?_
          refine r_cl X (r_okS (As := [.int 107, .int 105, .int 110, .int 100, .int 115]) (rest := [.long (gL s10 (kB G + 182) 11)]) X (m_X2_w5 (xl x) G X.2.2.2.2.1 107 105 110 100 115 s10 _ h) (cl_X2_145 X ⟨(Nat.le_of_ble_eq_true rfl), (Nat.le_of_ble_eq_true rfl)⟩) rfl rfl (Nat.le_of_ble_eq_true rfl) dX2_laterName_106 ⟨Nat.le_of_ble_eq_true rfl, Nat.le_of_ble_eq_true rfl⟩) (fun r14 s13 h => ?_)
          refine r_lcmp X dX2_laterName_109 ?_
          refine r_if_ne X 116 dX2_laterName_110 (by decide) (fun c15 => ?_) (fun c15 => ?_)
          · replace h := h.2 c15
            refine r_aload_n X 0 dX2_laterName_116 rfl rfl ?_
            refine gl_X2_128 X hph 182 ly_182 dX2_laterName_117 ?_
            refine r_bipush (v := 104) X dX2_laterName_120 rfl ?_
            refine r_bipush (v := 105) X dX2_laterName_122 rfl ?_
            refine r_bipush (v := 100) X dX2_laterName_124 rfl ?_
            refine r_bipush (v := 100) X dX2_laterName_126 rfl ?_
            refine r_bipush (v := 101) X dX2_laterName_128 rfl ?_
            refine r_bipush (v := 110) X dX2_laterName_130 rfl ?_
            refine r_cl X (r_okS (As := [.int 104, .int 105, .int 100, .int 100, .int 101, .int 110]) (rest := [.long (gL s13 (kB G + 182) 11)]) X (m_X2_w6 (xl x) G X.2.2.2.2.1 104 105 100 100 101 110 s13 _ h) (cl_X2_155 X ⟨(Nat.le_of_ble_eq_true rfl), (Nat.le_of_ble_eq_true rfl)⟩) rfl rfl (Nat.le_of_ble_eq_true rfl) dX2_laterName_132 ⟨Nat.le_of_ble_eq_true rfl, Nat.le_of_ble_eq_true rfl⟩) (fun r17 s16 h => ?_)
            refine r_lcmp X dX2_laterName_135 ?_
            refine r_if_ne X 144 dX2_laterName_136 (by decide) (fun c18 => ?_) (fun c18 => ?_)
            · replace h := h.2 c18
              refine r_aload_n X 0 dX2_laterName_144 rfl rfl ?_
              refine gl_X2_128 X hph 182 ly_182 dX2_laterName_145 ?_
              refine r_bipush (v := 100) X dX2_laterName_148 rfl ?_
              refine r_bipush (v := 101) X dX2_laterName_150 rfl ?_
              refine r_bipush (v := 101) X dX2_laterName_152 rfl ?_
              refine r_bipush (v := 100) X dX2_laterName_154 rfl ?_
              refine r_bipush (v := 115) X dX2_laterName_156 rfl ?_
              refine r_cl X (r_okS (As := [.int 100, .int 101, .int 101, .int 100, .int 115]) (rest := [.long (gL s16 (kB G + 182) 11)]) X (m_X2_w5 (xl x) G X.2.2.2.2.1 100 101 101 100 115 s16 _ h) (cl_X2_145 X ⟨(Nat.le_of_ble_eq_true rfl), (Nat.le_of_ble_eq_true rfl)⟩) rfl rfl (Nat.le_of_ble_eq_true rfl) dX2_laterName_158 ⟨Nat.le_of_ble_eq_true rfl, Nat.le_of_ble_eq_true rfl⟩) (fun r20 s19 h => ?_)
              refine r_lcmp X dX2_laterName_161 ?_
              have hJ : WB x G 1 (QfI x G 0 0 Q) 0 0 s19 171 [(0, .ref (kB G + 182))] [.int (if (lg_cmp (gL s16 (kB G + 182) 11) r20) = 0 then 14 else (-1) : Int32)] := by
                exact r_iret X h (Nat.le_of_ble_eq_true rfl) (Nat.le_of_ble_eq_true rfl) dX2_laterName_171
              refine r_if_ne X 170 dX2_laterName_162 (by decide) (fun c21 => ?_) (fun c21 => ?_)
              · rw [if_neg c21] at hJ
                refine r_iconst (v := (-1)) X dX2_laterName_170 rfl ?_
                exact hJ
              · rw [if_pos c21] at hJ
                refine r_bipush (v := 14) X dX2_laterName_165 rfl ?_
                refine r_goto X 171 dX2_laterName_167 (by decide) ?_
                exact hJ
            · replace h := h.1 c18
              refine r_bipush (v := 13) X dX2_laterName_139 rfl ?_
              refine r_goto X 171 dX2_laterName_141 (by decide) ?_
              exact r_iret X h (Nat.le_of_ble_eq_true rfl) (Nat.le_of_ble_eq_true rfl) dX2_laterName_171
          · replace h := h.1 c15
            refine r_bipush (v := 12) X dX2_laterName_113 rfl ?_
            exact r_iret X h (Nat.le_of_ble_eq_true rfl) (Nat.le_of_ble_eq_true rfl) dX2_laterName_115
        · replace h := h.1 c12
          refine r_bipush (v := 11) X dX2_laterName_89 rfl ?_
          exact r_iret X h (Nat.le_of_ble_eq_true rfl) (Nat.le_of_ble_eq_true rfl) dX2_laterName_91
      · replace h := h.1 c9
        refine r_bipush (v := 10) X dX2_laterName_65 rfl ?_
        exact r_iret X h (Nat.le_of_ble_eq_true rfl) (Nat.le_of_ble_eq_true rfl) dX2_laterName_67
    · replace h := h.1 c6
      refine r_bipush (v := 9) X dX2_laterName_43 rfl ?_
      exact r_iret X h (Nat.le_of_ble_eq_true rfl) (Nat.le_of_ble_eq_true rfl) dX2_laterName_45
  · replace h := h.1 c3
    refine r_bipush (v := 8) X dX2_laterName_21 rfl ?_
    exact r_iret X h (Nat.le_of_ble_eq_true rfl) (Nat.le_of_ble_eq_true rfl) dX2_laterName_23
theorem m_X2_laterName (l : Launch) (G : GT) (g : GK G) (hph : kP G = 1) (s : PS) (Q : Int32 → PS → Prop) (h : w_X2_laterName G s Q) : Met l yX2_laterName (ws_ yX2_laterName cX2_laterName 1 (some .int)) rm_X2_laterName (va_Pc [.ref (kB G + 182)] (Wr G s)) (va_Qi Q (fun u t => Wr G u t) (kF G)) 0 0 (kF G) := by
  refine Met.ofW (cc := cX2_laterName) (maxL := 1) (ret := (some .int)) (by decide) rfl ?_
  intro p e s0 m args below meth c s₁ B hml hv
  obtain ⟨rfl, hw⟩ := hv
  exact wb_of [.ref (kB G + 182)] (Nat.le_of_ble_eq_true rfl) hw.1 rfl (e_X2_laterName (cx_of g B hml rfl hw) hph s Q h)
theorem e_X2_nameOf {x : CT} {G : GT} (X : Cx x G cX2_nameOf 1 RX2 (some .int) rm_X2_nameOf) (hph : kP G = 1) (s : PS) (Q : Int32 → PS → Prop) (h : w_X2_nameOf G s Q) : WB x G 1 (QfI x G 0 0 Q) 0 0 s 0 [(0, .ref (kB G + 182))] [] := by
  unfold w_X2_nameOf at h
  refine r_aload_n X 0 dX2_nameOf_0 rfl rfl ?_
  refine gl_X2_115 X hph 182 ly_182 dX2_nameOf_1 ?_
  refine r_iconst (v := 2) X dX2_nameOf_4 rfl ?_
  refine r_ic_eq X 10 dX2_nameOf_5 (by decide) (fun c1 => ?_) (fun c1 => ?_)
  · replace h := h.1 c1
    refine r_aload_n X 0 dX2_nameOf_10 rfl rfl ?_
    refine gl_X2_128 X hph 182 ly_182 dX2_nameOf_11 ?_
    refine r_bipush (v := 104) X dX2_nameOf_14 rfl ?_
    refine r_bipush (v := 101) X dX2_nameOf_16 rfl ?_
    refine r_bipush (v := 97) X dX2_nameOf_18 rfl ?_
    refine r_bipush (v := 114) X dX2_nameOf_20 rfl ?_
    refine r_bipush (v := 116) X dX2_nameOf_22 rfl ?_
    refine r_cl X (r_okS (As := [.int 104, .int 101, .int 97, .int 114, .int 116]) (rest := [.long (gL s (kB G + 182) 11)]) X (m_X2_w5 (xl x) G X.2.2.2.2.1 104 101 97 114 116 s _ h) (cl_X2_145 X ⟨(Nat.le_of_ble_eq_true rfl), (Nat.le_of_ble_eq_true rfl)⟩) rfl rfl (Nat.le_of_ble_eq_true rfl) dX2_nameOf_24 ⟨Nat.le_of_ble_eq_true rfl, Nat.le_of_ble_eq_true rfl⟩) (fun r3 s2 h => ?_)
    refine r_lcmp X dX2_nameOf_27 ?_
    refine r_if_ne X 33 dX2_nameOf_28 (by decide) (fun c4 => ?_) (fun c4 => ?_)
    · replace h := h.2 c4
      refine r_aload_n X 0 dX2_nameOf_33 rfl rfl ?_
      refine gl_X2_128 X hph 182 ly_182 dX2_nameOf_34 ?_
      refine r_bipush (v := 102) X dX2_nameOf_37 rfl ?_
      refine r_bipush (v := 101) X dX2_nameOf_39 rfl ?_
      refine r_bipush (v := 97) X dX2_nameOf_41 rfl ?_
      refine r_cl X (r_okS (As := [.int 102, .int 101, .int 97]) (rest := [.long (gL s2 (kB G + 182) 11)]) X (m_X2_w3 (xl x) G X.2.2.2.2.1 102 101 97 s2 _ h) (cl_X2_137 X ⟨(Nat.le_of_ble_eq_true rfl), (Nat.le_of_ble_eq_true rfl)⟩) rfl rfl (Nat.le_of_ble_eq_true rfl) dX2_nameOf_43 ⟨Nat.le_of_ble_eq_true rfl, Nat.le_of_ble_eq_true rfl⟩) (fun r6 s5 h => ?_)
      refine r_bipush (v := 32) X dX2_nameOf_46 rfl ?_
      refine r_lshl X dX2_nameOf_48 ?_
      refine r_bipush (v := 116) X dX2_nameOf_49 rfl ?_
      refine r_bipush (v := 104) X dX2_nameOf_51 rfl ?_
      refine r_bipush (v := 101) X dX2_nameOf_53 rfl ?_
      refine r_bipush (v := 114) X dX2_nameOf_55 rfl ?_
      refine r_cl X (r_okS (As := [.int 116, .int 104, .int 101, .int 114]) (rest := [.long (r6 <<< ((32 : Int32).toInt64 &&& 63)), .long (gL s2 (kB G + 182) 11)]) X (m_X2_w4 (xl x) G X.2.2.2.2.1 116 104 101 114 s5 _ h) (cl_X2_141 X ⟨(Nat.le_of_ble_eq_true rfl), (Nat.le_of_ble_eq_true rfl)⟩) rfl rfl (Nat.le_of_ble_eq_true rfl) dX2_nameOf_57 ⟨Nat.le_of_ble_eq_true rfl, Nat.le_of_ble_eq_true rfl⟩) (fun r8 s7 h => ?_)
      refine r_lor X dX2_nameOf_60 ?_
      refine r_lcmp X dX2_nameOf_61 ?_
      refine r_if_ne X 67 dX2_nameOf_62 (by decide) (fun c9 => ?_) (fun c9 => ?_)
      · replace h := h.2 c9
        refine r_aload_n X 0 dX2_nameOf_67 rfl rfl ?_
        refine gl_X2_128 X hph 182 ly_182 dX2_nameOf_68 ?_
        refine r_bipush (v := 107) X dX2_nameOf_71 rfl ?_
        refine r_bipush (v := 105) X dX2_nameOf_73 rfl ?_
        refine r_bipush (v := 110) X dX2_nameOf_75 rfl ?_
        refine r_bipush (v := 100) X dX2_nameOf_77 rfl ?_
        refine r_cl X (r_okS (As := [.int 107, .int 105, .int 110, .int 100]) (rest := [.long (gL s7 (kB G + 182) 11)]) X (m_X2_w4 (xl x) G X.2.2.2.2.1 107 105 110 100 s7 _ h) (cl_X2_141 X ⟨(Nat.le_of_ble_eq_true rfl), (Nat.le_of_ble_eq_true rfl)⟩) rfl rfl (Nat.le_of_ble_eq_true rfl) dX2_nameOf_79 ⟨Nat.le_of_ble_eq_true rfl, Nat.le_of_ble_eq_true rfl⟩) (fun r11 s10 h => ?_)
        refine r_lcmp X dX2_nameOf_82 ?_
        refine r_if_ne X 88 dX2_nameOf_83 (by decide) (fun c12 => ?_) (fun c12 => ?_)
        · replace h := h.2 c12
          refine r_aload_n X 0 dX2_nameOf_88 rfl rfl ?_
          refine gl_X2_128 X hph 182 ly_182 dX2_nameOf_89 ?_
          refine r_bipush (v := 115) X dX2_nameOf_92 rfl ?_
          refine r_bipush (v := 105) X dX2_nameOf_94 rfl ?_
          refine r_bipush (v := 122) X dX2_nameOf_96 rfl ?_
          refine r_bipush (v := 101) X dX2_nameOf_98 rfl ?_
          refine r_cl X (r_okS (As := [.int 115, .int 105, .int 122, .int 101]) (rest := [.long (gL s10 (kB G + 182) 11)]) X (m_X2_w4 (xl x) G X.2.2.2.2.1 115 105 122 101 s10 _ h) (cl_X2_141 X ⟨(Nat.le_of_ble_eq_true rfl), (Nat.le_of_ble_eq_true rfl)⟩) rfl rfl (Nat.le_of_ble_eq_true rfl) dX2_nameOf_100 ⟨Nat.le_of_ble_eq_true rfl, Nat.le_of_ble_eq_true rfl⟩) (fun r14 s13 h => ?_)
          refine r_lcmp X dX2_nameOf_103 ?_
          refine r_if_ne X 109 dX2_nameOf_104 (by decide) (fun c15 => ?_) (fun c15 => ?_)
          · replace h := h.2 c15
            refine r_aload_n X 0 dX2_nameOf_109 rfl rfl ?_
            refine gl_X2_128 X hph 182 ly_182 dX2_nameOf_110 ?_
            refine r_bipush (v := 115) X dX2_nameOf_113 rfl ?_
            refine r_bipush (v := 101) X dX2_nameOf_115 rfl ?_
            refine r_bipush (v := 101) X dX2_nameOf_117 rfl ?_
            refine r_bipush (v := 110) X dX2_nameOf_119 rfl ?_
            refine r_cl X (r_okS (As := [.int 115, .int 101, .int 101, .int 110]) (rest := [.long (gL s13 (kB G + 182) 11)]) X (m_X2_w4 (xl x) G X.2.2.2.2.1 115 101 101 110 s13 _ h) (cl_X2_141 X ⟨(Nat.le_of_ble_eq_true rfl), (Nat.le_of_ble_eq_true rfl)⟩) rfl rfl (Nat.le_of_ble_eq_true rfl) dX2_nameOf_121 ⟨Nat.le_of_ble_eq_true rfl, Nat.le_of_ble_eq_true rfl⟩) (fun r17 s16 h => ?_)
            refine r_lcmp X dX2_nameOf_124 ?_
            refine r_if_ne X 130 dX2_nameOf_125 (by decide) (fun c18 => ?_) (fun c18 => ?_)
            · replace h := h.2 c18
              refine r_aload_n X 0 dX2_nameOf_130 rfl rfl ?_
              refine gl_X2_128 X hph 182 ly_182 dX2_nameOf_131 ?_
              refine r_bipush (v := 114) X dX2_nameOf_134 rfl ?_
              refine r_bipush (v := 101) X dX2_nameOf_136 rfl ?_
              refine r_bipush (v := 112) X dX2_nameOf_138 rfl ?_
              refine r_bipush (v := 97) X dX2_nameOf_140 rfl ?_
              refine r_bipush (v := 105) X dX2_nameOf_142 rfl ?_
              refine r_bipush (v := 100) X dX2_nameOf_144 rfl ?_
              refine r_cl X (r_okS (As := [.int 114, .int 101, .int 112, .int 97, .int 105, .int 100]) (rest := [.long (gL s16 (kB G + 182) 11)]) X (m_X2_w6 (xl x) G X.2.2.2.2.1 114 101 112 97 105 100 s16 _ h) (cl_X2_155 X ⟨(Nat.le_of_ble_eq_true rfl), (Nat.le_of_ble_eq_true rfl)⟩) rfl rfl (Nat.le_of_ble_eq_true rfl) dX2_nameOf_146 ⟨Nat.le_of_ble_eq_true rfl, Nat.le_of_ble_eq_true rfl⟩) (fun r20 s19 h => ?_)
              refine r_lcmp X dX2_nameOf_149 ?_
              refine r_if_ne X 155 dX2_nameOf_150 (by decide) (fun c21 => ?_) (fun c21 => ?_)
              · replace h := h.2 c21
                refine r_aload_n X 0 dX2_nameOf_155 rfl rfl ?_
                refine gl_X2_128 X hph 182 ly_182 dX2_nameOf_156 ?_
                refine r_bipush (v := 102) X dX2_nameOf_159 rfl ?_
                refine r_bipush (v := 101) X dX2_nameOf_161 rfl ?_
                refine r_bipush (v := 97) X dX2_nameOf_163 rfl ?_
                refine r_bipush (v := 114) X dX2_nameOf_165 rfl ?_
                refine r_cl X (r_okS (As := [.int 102, .int 101, .int 97, .int 114]) (rest := [.long (gL s19 (kB G + 182) 11)]) X (m_X2_w4 (xl x) G X.2.2.2.2.1 102 101 97 114 s19 _ h) (cl_X2_141 X ⟨(Nat.le_of_ble_eq_true rfl), (Nat.le_of_ble_eq_true rfl)⟩) rfl rfl (Nat.le_of_ble_eq_true rfl) dX2_nameOf_167 ⟨Nat.le_of_ble_eq_true rfl, Nat.le_of_ble_eq_true rfl⟩) (fun r23 s22 h => ?_)
                refine r_lcmp X dX2_nameOf_170 ?_
                refine r_if_ne X 177 dX2_nameOf_171 (by decide) (fun c24 => ?_) (fun c24 => ?_)
                · replace h := h.2 c24
                  refine r_aload_n X 0 dX2_nameOf_177 rfl rfl ?_
                  refine gl_X2_128 X hph 182 ly_182 dX2_nameOf_178 ?_
                  refine r_bipush (v := 98) X dX2_nameOf_181 rfl ?_
                  refine r_bipush (v := 105) X dX2_nameOf_183 rfl ?_
                  refine r_bipush (v := 100) X dX2_nameOf_185 rfl ?_
                  refine r_cl X (r_okS (As := [.int 98, .int 105, .int 100]) (rest := [.long (gL s22 (kB G + 182) 11)]) X (m_X2_w3 (xl x) G X.2.2.2.2.1 98 105 100 s22 _ h) (cl_X2_137 X ⟨(Nat.le_of_ble_eq_true rfl), (Nat.le_of_ble_eq_true rfl)⟩) rfl rfl (Nat.le_of_ble_eq_true rfl) dX2_nameOf_187 ⟨Nat.le_of_ble_eq_true rfl, Nat.le_of_ble_eq_true rfl⟩) (fun r26 s25 h => ?_)
                  refine r_lcmp X dX2_nameOf_190 ?_
                  refine r_if_ne X 199 dX2_nameOf_191 (by decide) (fun c27 => ?_) (fun c27 => ?_)
                  · replace h := h.2 c27
                    refine r_aload_n X 0 dX2_nameOf_199 rfl rfl ?_
                    refine r_ci X (r_okVL (As := []) (rest := []) X (m_X2_laterName (xl x) G X.2.2.2.2.1 hph s25 _ h) (cl_X2_159 X ⟨(Nat.le_of_ble_eq_true rfl), (Nat.le_of_ble_eq_true rfl)⟩) hph 2 ly_182 rfl rfl rfl rfl (Nat.le_of_ble_eq_true rfl) dX2_nameOf_200 ⟨Nat.le_of_ble_eq_true rfl, Nat.le_of_ble_eq_true rfl⟩) (fun r29 s28 h => ?_)
                    exact r_iret X h (Nat.le_of_ble_eq_true rfl) (Nat.le_of_ble_eq_true rfl) dX2_nameOf_203
                  · replace h := h.1 c27
                    refine r_bipush (v := 7) X dX2_nameOf_194 rfl ?_
                    refine r_goto X 203 dX2_nameOf_196 (by decide) ?_
                    exact r_iret X h (Nat.le_of_ble_eq_true rfl) (Nat.le_of_ble_eq_true rfl) dX2_nameOf_203
                · replace h := h.1 c24
                  refine r_bipush (v := 6) X dX2_nameOf_174 rfl ?_
                  exact r_iret X h (Nat.le_of_ble_eq_true rfl) (Nat.le_of_ble_eq_true rfl) dX2_nameOf_176
              · replace h := h.1 c21
                refine r_iconst (v := 5) X dX2_nameOf_153 rfl ?_
                exact r_iret X h (Nat.le_of_ble_eq_true rfl) (Nat.le_of_ble_eq_true rfl) dX2_nameOf_154
            · replace h := h.1 c18
              refine r_iconst (v := 4) X dX2_nameOf_128 rfl ?_
              exact r_iret X h (Nat.le_of_ble_eq_true rfl) (Nat.le_of_ble_eq_true rfl) dX2_nameOf_129
          · replace h := h.1 c15
            refine r_iconst (v := 3) X dX2_nameOf_107 rfl ?_
            exact r_iret X h (Nat.le_of_ble_eq_true rfl) (Nat.le_of_ble_eq_true rfl) dX2_nameOf_108
        · replace h := h.1 c12
          refine r_iconst (v := 2) X dX2_nameOf_86 rfl ?_
          exact r_iret X h (Nat.le_of_ble_eq_true rfl) (Nat.le_of_ble_eq_true rfl) dX2_nameOf_87
      · replace h := h.1 c9
        refine r_iconst (v := 1) X dX2_nameOf_65 rfl ?_
        exact r_iret X h (Nat.le_of_ble_eq_true rfl) (Nat.le_of_ble_eq_true rfl) dX2_nameOf_66
    · replace h := h.1 c4
      refine r_iconst (v := 0) X dX2_nameOf_31 rfl ?_
      exact r_iret X h (Nat.le_of_ble_eq_true rfl) (Nat.le_of_ble_eq_true rfl) dX2_nameOf_32
  · replace h := h.2 c1
    refine r_iconst (v := (-1)) X dX2_nameOf_8 rfl ?_
    exact r_iret X h (Nat.le_of_ble_eq_true rfl) (Nat.le_of_ble_eq_true rfl) dX2_nameOf_9
theorem m_X2_nameOf (l : Launch) (G : GT) (g : GK G) (hph : kP G = 1) (s : PS) (Q : Int32 → PS → Prop) (h : w_X2_nameOf G s Q) : Met l yX2_nameOf (ws_ yX2_nameOf cX2_nameOf 1 (some .int)) rm_X2_nameOf (va_Pc [.ref (kB G + 182)] (Wr G s)) (va_Qi Q (fun u t => Wr G u t) (kF G)) 0 0 (kF G) := by
  refine Met.ofW (cc := cX2_nameOf) (maxL := 1) (ret := (some .int)) (by decide) rfl ?_
  intro p e s0 m args below meth c s₁ B hml hv
  obtain ⟨rfl, hw⟩ := hv
  exact wb_of [.ref (kB G + 182)] (Nat.le_of_ble_eq_true rfl) hw.1 rfl (e_X2_nameOf (cx_of g B hml rfl hw) hph s Q h)
theorem e_X2_isOf {x : CT} {G : GT} (X : Cx x G cX2_isOf 2 RX2 (some .boolean) rm_X2_isOf) (hph : kP G = 1) (p1 : Int32) (s : PS) (Q : Int32 → PS → Prop) (h : w_X2_isOf G p1 s Q) : WB x G 2 (QfI x G 0 0 (fun r u => (r = 0 ∨ r = 1) ∧ Q r u)) 0 0 s 0 [(0, .ref (kB G + 182)), (1, .int p1)] [] := by
  unfold w_X2_isOf at h
  refine r_iload_n X 1 dX2_isOf_0 rfl rfl ?_
  refine r_iconst (v := 2) X dX2_isOf_1 rfl ?_
  refine r_ic_lt X 63 dX2_isOf_2 (by decide) (fun c6 => ?_) (fun c6 => ?_)
  · replace h := h.1 c6
    refine r_iconst (v := 1) X dX2_isOf_63 rfl ?_
    refine r_goto X 68 dX2_isOf_64 (by decide) ?_
    exact r_zret X (Or.inr rfl) h (Nat.le_of_ble_eq_true rfl) (Nat.le_of_ble_eq_true rfl) dX2_isOf_68
  · replace h := h.2 c6
    refine r_iload_n X 1 dX2_isOf_5 rfl rfl ?_
    refine r_bipush (v := 8) X dX2_isOf_6 rfl ?_
    have hJ : WB x G 2 (QfI x G 0 0 (fun r u => (r = 0 ∨ r = 1) ∧ Q r u)) 0 0 s 68 [(0, .ref (kB G + 182)), (1, .int p1)] [.int (if 8 ≤ p1 then (if 10 ≤ p1 then (if 14 ≤ p1 then (if (gI s (kB G + 182) 14) = 3 then 1 else 0 : Int32) else (if (gI s (kB G + 182) 14) = 2 then 1 else 0 : Int32) : Int32) else (if (gI s (kB G + 182) 14) = 1 then 1 else 0 : Int32) : Int32) else (if (gI s (kB G + 182) 14) = 0 then 1 else 0 : Int32) : Int32)] := by
      exact r_zret X (by (repeat' split) <;> first | exact Or.inl rfl | exact Or.inr rfl) h (Nat.le_of_ble_eq_true rfl) (Nat.le_of_ble_eq_true rfl) dX2_isOf_68
    refine r_ic_ge X 21 dX2_isOf_8 (by decide) (fun c13 => ?_) (fun c13 => ?_)
    · rw [if_pos c13] at hJ
      refine r_iload_n X 1 dX2_isOf_21 rfl rfl ?_
      refine r_bipush (v := 10) X dX2_isOf_22 rfl ?_
      refine r_ic_ge X 38 dX2_isOf_24 (by decide) (fun c11 => ?_) (fun c11 => ?_)
      · rw [if_pos c11] at hJ
        refine r_iload_n X 1 dX2_isOf_38 rfl rfl ?_
        refine r_bipush (v := 14) X dX2_isOf_39 rfl ?_
        refine r_ic_ge X 55 dX2_isOf_41 (by decide) (fun c9 => ?_) (fun c9 => ?_)
        · rw [if_pos c9] at hJ
          refine r_aload_n X 0 dX2_isOf_55 rfl rfl ?_
          refine gl_X2_163 X hph 182 ly_182 dX2_isOf_56 ?_
          refine r_iconst (v := 3) X dX2_isOf_59 rfl ?_
          refine r_ic_ne X 67 dX2_isOf_60 (by decide) (fun c7 => ?_) (fun c7 => ?_)
          · rw [if_neg c7] at hJ
            refine r_iconst (v := 0) X dX2_isOf_67 rfl ?_
            exact hJ
          · rw [if_pos c7] at hJ
            refine r_iconst (v := 1) X dX2_isOf_63 rfl ?_
            refine r_goto X 68 dX2_isOf_64 (by decide) ?_
            exact hJ
        · rw [if_neg c9] at hJ
          refine r_aload_n X 0 dX2_isOf_44 rfl rfl ?_
          refine gl_X2_163 X hph 182 ly_182 dX2_isOf_45 ?_
          refine r_iconst (v := 2) X dX2_isOf_48 rfl ?_
          refine r_ic_ne X 67 dX2_isOf_49 (by decide) (fun c8 => ?_) (fun c8 => ?_)
          · rw [if_neg c8] at hJ
            refine r_iconst (v := 0) X dX2_isOf_67 rfl ?_
            exact hJ
          · rw [if_pos c8] at hJ
            refine r_goto X 63 dX2_isOf_52 (by decide) ?_
            refine r_iconst (v := 1) X dX2_isOf_63 rfl ?_
            refine r_goto X 68 dX2_isOf_64 (by decide) ?_
            exact hJ
      · rw [if_neg c11] at hJ
        refine r_aload_n X 0 dX2_isOf_27 rfl rfl ?_
        refine gl_X2_163 X hph 182 ly_182 dX2_isOf_28 ?_
        refine r_iconst (v := 1) X dX2_isOf_31 rfl ?_
        refine r_ic_ne X 67 dX2_isOf_32 (by decide) (fun c10 => ?_) (fun c10 => ?_)
        · rw [if_neg c10] at hJ
          refine r_iconst (v := 0) X dX2_isOf_67 rfl ?_
          exact hJ
        · rw [if_pos c10] at hJ
          refine r_goto X 63 dX2_isOf_35 (by decide) ?_
          refine r_iconst (v := 1) X dX2_isOf_63 rfl ?_
          refine r_goto X 68 dX2_isOf_64 (by decide) ?_
          exact hJ
    · rw [if_neg c13] at hJ
      refine r_aload_n X 0 dX2_isOf_11 rfl rfl ?_
      refine gl_X2_163 X hph 182 ly_182 dX2_isOf_12 ?_
      refine r_if_ne X 67 dX2_isOf_15 (by decide) (fun c12 => ?_) (fun c12 => ?_)
      · rw [if_neg c12] at hJ
        refine r_iconst (v := 0) X dX2_isOf_67 rfl ?_
        exact hJ
      · rw [if_pos c12] at hJ
        refine r_goto X 63 dX2_isOf_18 (by decide) ?_
        refine r_iconst (v := 1) X dX2_isOf_63 rfl ?_
        refine r_goto X 68 dX2_isOf_64 (by decide) ?_
        exact hJ
theorem m_X2_isOf (l : Launch) (G : GT) (g : GK G) (hph : kP G = 1) (p1 : Int32) (s : PS) (Q : Int32 → PS → Prop) (h : w_X2_isOf G p1 s Q) : Met l yX2_isOf (ws_ yX2_isOf cX2_isOf 2 (some .boolean)) rm_X2_isOf (va_Pc [.ref (kB G + 182), .int p1] (Wr G s)) (va_Qi (fun r u => (r = 0 ∨ r = 1) ∧ Q r u) (fun u t => Wr G u t) (kF G)) 0 0 (kF G) := by
  refine Met.ofW (cc := cX2_isOf) (maxL := 2) (ret := (some .boolean)) (by decide) rfl ?_
  intro p e s0 m args below meth c s₁ B hml hv
  obtain ⟨rfl, hw⟩ := hv
  exact wb_of [.ref (kB G + 182), .int p1] (Nat.le_of_ble_eq_true rfl) hw.1 rfl (e_X2_isOf (cx_of g B hml rfl hw) hph p1 s Q h)
theorem e_X2_opened {x : CT} {G : GT} (X : Cx x G cX2_opened 2 RX2 (some .int) rm_X2_opened) (hph : kP G = 1) (p1 : Int32) (s : PS) (Q : Int32 → PS → Prop) (h : w_X2_opened G p1 s Q) : WB x G 2 (QfI x G 0 0 Q) 0 0 s 0 [(0, .ref (kB G + 182)), (1, .int p1)] [] := by
  unfold w_X2_opened at h
  refine r_aload_n X 0 dX2_opened_0 rfl rfl ?_
  refine gl_X2_176 X hph 182 ly_182 dX2_opened_1 ?_
  refine r_bipush (v := 8) X dX2_opened_4 rfl ?_
  refine r_ic_ne X 11 dX2_opened_6 (by decide) (fun c1 => ?_) (fun c1 => ?_)
  · replace h := h.2 c1
    refine r_aload_n X 0 dX2_opened_11 rfl rfl ?_
    refine r_dup X dX2_opened_12 rfl ?_
    refine gl_X2_176 X hph 182 ly_182 dX2_opened_13 ?_
    refine r_iconst (v := 1) X dX2_opened_16 rfl ?_
    refine r_iadd X dX2_opened_17 ?_
    refine pl_X2_176 X hph 182 ly_182 dX2_opened_18 (fun s2 e3 => ?_)
    replace h := h s2 e3
    refine r_aload_n X 0 dX2_opened_21 rfl rfl ?_
    refine gr_X2_29 X hph 13 182 187 ly_182 rfl rfl dX2_opened_22 ?_
    refine r_aload_n X 0 dX2_opened_25 rfl rfl ?_
    refine gl_X2_166 X hph 182 ly_182 dX2_opened_26 ?_
    refine r_iload_n X 1 dX2_opened_29 rfl rfl ?_
    obtain ⟨g4, h⟩ := h
    refine r_iastL X hph 187 160 ly_187 rfl g4 dX2_opened_30 (fun s5 e6 => ?_)
    replace h := h s5 e6
    refine r_aload_n X 0 dX2_opened_31 rfl rfl ?_
    refine r_dup X dX2_opened_32 rfl ?_
    refine gl_X2_166 X hph 182 ly_182 dX2_opened_33 ?_
    refine r_iconst (v := 1) X dX2_opened_36 rfl ?_
    refine r_iadd X dX2_opened_37 ?_
    refine pl_X2_166 X hph 182 ly_182 dX2_opened_38 (fun s7 e8 => ?_)
    replace h := h s7 e8
    refine r_aload_n X 0 dX2_opened_41 rfl rfl ?_
    refine r_cv X (r_okVL (As := []) (rest := []) X (m_X2_nextToken (xl x) G X.2.2.2.2.1 hph s7 _ h) (cl_X2_179 X ⟨(Nat.le_of_ble_eq_true rfl), (Nat.le_of_ble_eq_true rfl)⟩) hph 2 ly_182 rfl rfl rfl rfl (Nat.le_of_ble_eq_true rfl) dX2_opened_42 ⟨Nat.le_of_ble_eq_true rfl, Nat.le_of_ble_eq_true rfl⟩) (fun s9 h => ?_)
    refine r_iconst (v := 0) X dX2_opened_45 rfl ?_
    exact r_iret X h (Nat.le_of_ble_eq_true rfl) (Nat.le_of_ble_eq_true rfl) dX2_opened_46
  · replace h := h.1 c1
    refine r_iconst (v := 3) X dX2_opened_9 rfl ?_
    exact r_iret X h (Nat.le_of_ble_eq_true rfl) (Nat.le_of_ble_eq_true rfl) dX2_opened_10
theorem m_X2_opened (l : Launch) (G : GT) (g : GK G) (hph : kP G = 1) (p1 : Int32) (s : PS) (Q : Int32 → PS → Prop) (h : w_X2_opened G p1 s Q) : Met l yX2_opened (ws_ yX2_opened cX2_opened 2 (some .int)) rm_X2_opened (va_Pc [.ref (kB G + 182), .int p1] (Wr G s)) (va_Qi Q (fun u t => Wr G u t) (kF G)) 0 0 (kF G) := by
  refine Met.ofW (cc := cX2_opened) (maxL := 2) (ret := (some .int)) (by decide) rfl ?_
  intro p e s0 m args below meth c s₁ B hml hv
  obtain ⟨rfl, hw⟩ := hv
  exact wb_of [.ref (kB G + 182), .int p1] (Nat.le_of_ble_eq_true rfl) hw.1 rfl (e_X2_opened (cx_of g B hml rfl hw) hph p1 s Q h)
theorem tb_X2_beginOne_51 {x : CT} {G : GT} (X : Cx x G cX2_beginOne 2 RX2 (some .int) rm_X2_beginOne) (hph : kP G = 1) (Q : Int32 → PS → Prop) (v1 : Int32) (s : PS) (h : b_X2_beginOne_51 G Q v1 s) : WB x G 2 (QfI x G 0 0 Q) 0 0 s 51 [(0, .ref (kB G + 182)), (1, .int v1)] [] := by
  unfold b_X2_beginOne_51 at h
  refine r_aload_n X 0 dX2_beginOne_51 rfl rfl ?_
  refine r_aload_n X 0 dX2_beginOne_52 rfl rfl ?_
  refine gl_X2_115 X hph 182 ly_182 dX2_beginOne_53 ?_
  refine r_iconst (v := 1) X dX2_beginOne_56 rfl ?_
  have hJ : WB x G 2 (QfI x G 0 0 Q) 0 0 s 65 [(0, .ref (kB G + 182)), (1, .int v1)] [.int (if (gI s (kB G + 182) 9) = 1 then 0 else 1 : Int32), .ref (kB G + 182)] := by
    refine r_aload_n X 0 dX2_beginOne_65 rfl rfl ?_
    refine gl_X2_115 X hph 182 ly_182 dX2_beginOne_66 ?_
    refine r_iconst (v := 1) X dX2_beginOne_69 rfl ?_
    have hJ : WB x G 2 (QfI x G 0 0 Q) 0 0 s 81 [(0, .ref (kB G + 182)), (1, .int v1)] [.int (if (gI s (kB G + 182) 9) = 1 then (gI s (kB G + 182) 10) else v1 : Int32), .int (if (gI s (kB G + 182) 9) = 1 then 0 else 1 : Int32), .ref (kB G + 182)] := by
      refine r_cv X (r_okVL (As := [.int (if (gI s (kB G + 182) 9) = 1 then 0 else 1 : Int32), .int (if (gI s (kB G + 182) 9) = 1 then (gI s (kB G + 182) 10) else v1 : Int32)]) (rest := []) X (m_X2_emit (xl x) G X.2.2.2.2.1 hph (if (gI s (kB G + 182) 9) = 1 then 0 else 1 : Int32) (if (gI s (kB G + 182) 9) = 1 then (gI s (kB G + 182) 10) else v1 : Int32) s _ h) (cl_X2_172 X ⟨(Nat.le_of_ble_eq_true rfl), (Nat.le_of_ble_eq_true rfl)⟩) hph 2 ly_182 rfl rfl rfl rfl (Nat.le_of_ble_eq_true rfl) dX2_beginOne_81 ⟨Nat.le_of_ble_eq_true rfl, Nat.le_of_ble_eq_true rfl⟩) (fun s3 h => ?_)
      refine r_aload_n X 0 dX2_beginOne_84 rfl rfl ?_
      refine r_cv X (r_okVL (As := []) (rest := []) X (m_X2_nextToken (xl x) G X.2.2.2.2.1 hph s3 _ h) (cl_X2_179 X ⟨(Nat.le_of_ble_eq_true rfl), (Nat.le_of_ble_eq_true rfl)⟩) hph 2 ly_182 rfl rfl rfl rfl (Nat.le_of_ble_eq_true rfl) dX2_beginOne_85 ⟨Nat.le_of_ble_eq_true rfl, Nat.le_of_ble_eq_true rfl⟩) (fun s4 h => ?_)
      refine r_aload_n X 0 dX2_beginOne_88 rfl rfl ?_
      refine r_iconst (v := 1) X dX2_beginOne_89 rfl ?_
      refine pl_X2_188 X hph 182 ly_182 (Or.inr rfl) dX2_beginOne_90 (fun s5 e6 => ?_)
      replace h := h s5 e6
      refine r_aload_n X 0 dX2_beginOne_93 rfl rfl ?_
      refine r_iconst (v := 3) X dX2_beginOne_94 rfl ?_
      refine r_cv X (r_okVL (As := [.int 3]) (rest := []) X (m_X2_settlePile (xl x) G X.2.2.2.2.1 hph 3 s5 _ h) (cl_X2_192 X ⟨(Nat.le_of_ble_eq_true rfl), (Nat.le_of_ble_eq_true rfl)⟩) hph 2 ly_182 rfl rfl rfl rfl (Nat.le_of_ble_eq_true rfl) dX2_beginOne_95 ⟨Nat.le_of_ble_eq_true rfl, Nat.le_of_ble_eq_true rfl⟩) (fun s7 h => ?_)
      refine r_iconst (v := 0) X dX2_beginOne_98 rfl ?_
      exact r_iret X h (Nat.le_of_ble_eq_true rfl) (Nat.le_of_ble_eq_true rfl) dX2_beginOne_99
    refine r_ic_ne X 80 dX2_beginOne_70 (by decide) (fun c2 => ?_) (fun c2 => ?_)
    · rw [if_neg c2] at hJ
      refine r_iload_n X 1 dX2_beginOne_80 rfl rfl ?_
      exact hJ
    · rw [if_pos c2] at hJ
      refine r_aload_n X 0 dX2_beginOne_73 rfl rfl ?_
      refine gl_X2_121 X hph 182 ly_182 dX2_beginOne_74 ?_
      refine r_goto X 81 dX2_beginOne_77 (by decide) ?_
      exact hJ
  refine r_ic_ne X 64 dX2_beginOne_57 (by decide) (fun c1 => ?_) (fun c1 => ?_)
  · rw [if_neg c1] at hJ
    refine r_iconst (v := 1) X dX2_beginOne_64 rfl ?_
    exact hJ
  · rw [if_pos c1] at hJ
    refine r_iconst (v := 0) X dX2_beginOne_60 rfl ?_
    refine r_goto X 65 dX2_beginOne_61 (by decide) ?_
    exact hJ
theorem tb_X2_beginOne_39 {x : CT} {G : GT} (X : Cx x G cX2_beginOne 2 RX2 (some .int) rm_X2_beginOne) (hph : kP G = 1) (Q : Int32 → PS → Prop) (v1 : Int32) (s : PS) (h : b_X2_beginOne_39 G Q v1 s) : WB x G 2 (QfI x G 0 0 Q) 0 0 s 39 [(0, .ref (kB G + 182)), (1, .int v1)] [] := by
  unfold b_X2_beginOne_39 at h
  refine r_aload_n X 0 dX2_beginOne_39 rfl rfl ?_
  refine gl_X2_115 X hph 182 ly_182 dX2_beginOne_40 ?_
  refine r_iconst (v := 1) X dX2_beginOne_43 rfl ?_
  refine r_ic_eq X 51 dX2_beginOne_44 (by decide) (fun c1 => ?_) (fun c1 => ?_)
  · replace h := h.1 c1
    exact tb_X2_beginOne_51 X hph Q v1 s h
  · replace h := h.2 c1
    refine r_iload_n X 1 dX2_beginOne_47 rfl rfl ?_
    refine r_if_lt X 100 dX2_beginOne_48 (by decide) (fun c2 => ?_) (fun c2 => ?_)
    · replace h := h.1 c2
      refine r_aload_n X 0 dX2_beginOne_100 rfl rfl ?_
      refine gl_X2_115 X hph 182 ly_182 dX2_beginOne_101 ?_
      refine r_bipush (v := 40) X dX2_beginOne_104 rfl ?_
      refine r_ic_ne X 118 dX2_beginOne_106 (by decide) (fun c3 => ?_) (fun c3 => ?_)
      · replace h := h.2 c3
        refine r_aload_n X 0 dX2_beginOne_118 rfl rfl ?_
        refine gl_X2_115 X hph 182 ly_182 dX2_beginOne_119 ?_
        refine r_bipush (v := 124) X dX2_beginOne_122 rfl ?_
        refine r_ic_ne X 136 dX2_beginOne_124 (by decide) (fun c6 => ?_) (fun c6 => ?_)
        · replace h := h.2 c6
          refine r_aload_n X 0 dX2_beginOne_136 rfl rfl ?_
          refine gl_X2_115 X hph 182 ly_182 dX2_beginOne_137 ?_
          refine r_bipush (v := 45) X dX2_beginOne_140 rfl ?_
          refine r_ic_ne X 153 dX2_beginOne_142 (by decide) (fun c9 => ?_) (fun c9 => ?_)
          · replace h := h.2 c9
            refine r_iconst (v := 1) X dX2_beginOne_153 rfl ?_
            exact r_iret X h (Nat.le_of_ble_eq_true rfl) (Nat.le_of_ble_eq_true rfl) dX2_beginOne_154
          · replace h := h.1 c9
            refine r_aload_n X 0 dX2_beginOne_145 rfl rfl ?_
            refine r_iconst (v := 2) X dX2_beginOne_146 rfl ?_
            refine r_ci X (r_okVL (As := [.int 2]) (rest := []) X (m_X2_opened (xl x) G X.2.2.2.2.1 hph 2 s _ h) (cl_X2_195 X ⟨(Nat.le_of_ble_eq_true rfl), (Nat.le_of_ble_eq_true rfl)⟩) hph 2 ly_182 rfl rfl rfl rfl (Nat.le_of_ble_eq_true rfl) dX2_beginOne_147 ⟨Nat.le_of_ble_eq_true rfl, Nat.le_of_ble_eq_true rfl⟩) (fun r11 s10 h => ?_)
            refine r_goto X 154 dX2_beginOne_150 (by decide) ?_
            exact r_iret X h (Nat.le_of_ble_eq_true rfl) (Nat.le_of_ble_eq_true rfl) dX2_beginOne_154
        · replace h := h.1 c6
          refine r_aload_n X 0 dX2_beginOne_127 rfl rfl ?_
          refine r_bipush (v := 41) X dX2_beginOne_128 rfl ?_
          refine r_ci X (r_okVL (As := [.int 41]) (rest := []) X (m_X2_opened (xl x) G X.2.2.2.2.1 hph 41 s _ h) (cl_X2_195 X ⟨(Nat.le_of_ble_eq_true rfl), (Nat.le_of_ble_eq_true rfl)⟩) hph 2 ly_182 rfl rfl rfl rfl (Nat.le_of_ble_eq_true rfl) dX2_beginOne_130 ⟨Nat.le_of_ble_eq_true rfl, Nat.le_of_ble_eq_true rfl⟩) (fun r8 s7 h => ?_)
          refine r_goto X 154 dX2_beginOne_133 (by decide) ?_
          exact r_iret X h (Nat.le_of_ble_eq_true rfl) (Nat.le_of_ble_eq_true rfl) dX2_beginOne_154
      · replace h := h.1 c3
        refine r_aload_n X 0 dX2_beginOne_109 rfl rfl ?_
        refine r_bipush (v := 40) X dX2_beginOne_110 rfl ?_
        refine r_ci X (r_okVL (As := [.int 40]) (rest := []) X (m_X2_opened (xl x) G X.2.2.2.2.1 hph 40 s _ h) (cl_X2_195 X ⟨(Nat.le_of_ble_eq_true rfl), (Nat.le_of_ble_eq_true rfl)⟩) hph 2 ly_182 rfl rfl rfl rfl (Nat.le_of_ble_eq_true rfl) dX2_beginOne_112 ⟨Nat.le_of_ble_eq_true rfl, Nat.le_of_ble_eq_true rfl⟩) (fun r5 s4 h => ?_)
        refine r_goto X 154 dX2_beginOne_115 (by decide) ?_
        exact r_iret X h (Nat.le_of_ble_eq_true rfl) (Nat.le_of_ble_eq_true rfl) dX2_beginOne_154
    · replace h := h.2 c2
      exact tb_X2_beginOne_51 X hph Q v1 s h
theorem tb_X2_beginOne_20 {x : CT} {G : GT} (X : Cx x G cX2_beginOne 2 RX2 (some .int) rm_X2_beginOne) (hph : kP G = 1) (Q : Int32 → PS → Prop) (s : PS) (h : b_X2_beginOne_20 G Q s) : WB x G 2 (QfI x G 0 0 Q) 0 0 s 20 [(0, .ref (kB G + 182))] [] := by
  unfold b_X2_beginOne_20 at h
  refine r_aload_n X 0 dX2_beginOne_20 rfl rfl ?_
  refine r_ci X (r_okVL (As := []) (rest := []) X (m_X2_nameOf (xl x) G X.2.2.2.2.1 hph s _ h) (cl_X2_182 X ⟨(Nat.le_of_ble_eq_true rfl), (Nat.le_of_ble_eq_true rfl)⟩) hph 2 ly_182 rfl rfl rfl rfl (Nat.le_of_ble_eq_true rfl) dX2_beginOne_21 ⟨Nat.le_of_ble_eq_true rfl, Nat.le_of_ble_eq_true rfl⟩) (fun r2 s1 h => ?_)
  refine r_istore_n (lv' := [(1, .int r2), (0, .ref (kB G + 182))]) X dX2_beginOne_24 rfl (Nat.le_of_ble_eq_true rfl) rfl ?_
  refine r_iload_n X 0 dX2_beginOne_25 rfl rfl ?_
  refine r_if_lt X 39 dX2_beginOne_26 (by decide) (fun c3 => ?_) (fun c3 => ?_)
  · replace h := h.1 c3
    refine r_sub [1, 0] rfl ?_
    exact tb_X2_beginOne_39 X hph Q r2 s1 h
  · replace h := h.2 c3
    refine r_aload_n X 1 dX2_beginOne_29 rfl rfl ?_
    refine r_iload_n X 0 dX2_beginOne_30 rfl rfl ?_
    refine r_ci X (r_okVL (As := [.int r2]) (rest := []) X (m_X2_isOf (xl x) G X.2.2.2.2.1 hph r2 s1 _ h) (cl_X2_185 X ⟨(Nat.le_of_ble_eq_true rfl), (Nat.le_of_ble_eq_true rfl)⟩) hph 2 ly_182 rfl rfl rfl rfl (Nat.le_of_ble_eq_true rfl) dX2_beginOne_31 ⟨Nat.le_of_ble_eq_true rfl, Nat.le_of_ble_eq_true rfl⟩) (fun r5 s4 h => ?_)
    obtain ⟨z6, h⟩ := h
    refine r_if_ne X 39 dX2_beginOne_34 (by decide) (fun c7 => ?_) (fun c7 => ?_)
    · replace h := h.2 c7
      refine r_sub [1, 0] rfl ?_
      exact tb_X2_beginOne_39 X hph Q r2 s4 h
    · replace h := h.1 c7
      refine r_iconst (v := 5) X dX2_beginOne_37 rfl ?_
      exact r_iret X h (Nat.le_of_ble_eq_true rfl) (Nat.le_of_ble_eq_true rfl) dX2_beginOne_38
theorem e_X2_beginOne {x : CT} {G : GT} (X : Cx x G cX2_beginOne 2 RX2 (some .int) rm_X2_beginOne) (hph : kP G = 1) (s : PS) (Q : Int32 → PS → Prop) (h : w_X2_beginOne G s Q) : WB x G 2 (QfI x G 0 0 Q) 0 0 s 0 [(0, .ref (kB G + 182))] [] := by
  unfold w_X2_beginOne at h
  refine r_aload_n X 0 dX2_beginOne_0 rfl rfl ?_
  refine gl_X2_115 X hph 182 ly_182 dX2_beginOne_1 ?_
  refine r_iconst (v := 1) X dX2_beginOne_4 rfl ?_
  refine r_ic_ne X 20 dX2_beginOne_5 (by decide) (fun c1 => ?_) (fun c1 => ?_)
  · replace h := h.2 c1
    exact tb_X2_beginOne_20 X hph Q s h
  · replace h := h.1 c1
    refine r_aload_n X 0 dX2_beginOne_8 rfl rfl ?_
    refine gl_X2_121 X hph 182 ly_182 dX2_beginOne_9 ?_
    refine r_sipush (v := 9999) X dX2_beginOne_12 rfl ?_
    refine r_ic_le X 20 dX2_beginOne_15 (by decide) (fun c2 => ?_) (fun c2 => ?_)
    · replace h := h.1 c2
      exact tb_X2_beginOne_20 X hph Q s h
    · replace h := h.2 c2
      refine r_iconst (v := 2) X dX2_beginOne_18 rfl ?_
      exact r_iret X h (Nat.le_of_ble_eq_true rfl) (Nat.le_of_ble_eq_true rfl) dX2_beginOne_19
theorem m_X2_beginOne (l : Launch) (G : GT) (g : GK G) (hph : kP G = 1) (s : PS) (Q : Int32 → PS → Prop) (h : w_X2_beginOne G s Q) : Met l yX2_beginOne (ws_ yX2_beginOne cX2_beginOne 2 (some .int)) rm_X2_beginOne (va_Pc [.ref (kB G + 182)] (Wr G s)) (va_Qi Q (fun u t => Wr G u t) (kF G)) 0 0 (kF G) := by
  refine Met.ofW (cc := cX2_beginOne) (maxL := 2) (ret := (some .int)) (by decide) rfl ?_
  intro p e s0 m args below meth c s₁ B hml hv
  obtain ⟨rfl, hw⟩ := hv
  exact wb_of [.ref (kB G + 182)] (Nat.le_of_ble_eq_true rfl) hw.1 rfl (e_X2_beginOne (cx_of g B hml rfl hw) hph s Q h)
theorem tb_X2_summed_47 {x : CT} {G : GT} (X : Cx x G cX2_summed 2 RX2 (some .int) rm_X2_summed) (hph : kP G = 1) (Q : Int32 → PS → Prop) (K15 : PS → Prop) (v1 : Int32) (s : PS) (hK15 : ∀ (s' : PS), K15 s' → WB x G 2 (QfI x G 0 0 Q) 0 0 s' 15 [(0, .ref (kB G + 182))] []) (h : b_X2_summed_47 G Q K15 v1 s) : WB x G 2 (QfI x G 0 0 Q) 0 0 s 47 [(0, .ref (kB G + 182)), (1, .int v1)] [] := by
  unfold b_X2_summed_47 at h
  refine r_aload_n X 0 dX2_summed_47 rfl rfl ?_
  refine gl_X2_188 X hph 182 ly_182 dX2_summed_48 ?_
  refine r_if_eq X 61 dX2_summed_51 (by decide) (fun c1 => ?_) (fun c1 => ?_)
  · replace h := h.1 c1
    refine r_goto X 15 dX2_summed_61 (by decide) ?_
    refine r_sub [0] rfl ?_
    exact hK15 s h
  · replace h := h.2 c1
    refine r_iload_n X 1 dX2_summed_54 rfl rfl ?_
    refine r_if_eq X 61 dX2_summed_55 (by decide) (fun c2 => ?_) (fun c2 => ?_)
    · replace h := h.1 c2
      refine r_goto X 15 dX2_summed_61 (by decide) ?_
      refine r_sub [0] rfl ?_
      exact hK15 s h
    · replace h := h.2 c2
      refine r_goto X 64 dX2_summed_58 (by decide) ?_
      refine r_aload_n X 0 dX2_summed_64 rfl rfl ?_
      refine r_ci X (r_okVL (As := []) (rest := []) X (m_X2_openAt (xl x) G X.2.2.2.2.1 hph s _ h) (cl_X2_198 X ⟨(Nat.le_of_ble_eq_true rfl), (Nat.le_of_ble_eq_true rfl)⟩) hph 2 ly_182 rfl rfl rfl rfl (Nat.le_of_ble_eq_true rfl) dX2_summed_65 ⟨Nat.le_of_ble_eq_true rfl, Nat.le_of_ble_eq_true rfl⟩) (fun r4 s3 h => ?_)
      refine r_if_lt X 73 dX2_summed_68 (by decide) (fun c5 => ?_) (fun c5 => ?_)
      · replace h := h.1 c5
        refine r_aload_n X 0 dX2_summed_73 rfl rfl ?_
        refine r_iconst (v := 1) X dX2_summed_74 rfl ?_
        refine r_cv X (r_okVL (As := [.int 1]) (rest := []) X (m_X2_settlePile (xl x) G X.2.2.2.2.1 hph 1 s3 _ h) (cl_X2_192 X ⟨(Nat.le_of_ble_eq_true rfl), (Nat.le_of_ble_eq_true rfl)⟩) hph 2 ly_182 rfl rfl rfl rfl (Nat.le_of_ble_eq_true rfl) dX2_summed_75 ⟨Nat.le_of_ble_eq_true rfl, Nat.le_of_ble_eq_true rfl⟩) (fun s6 h => ?_)
        refine r_iconst (v := 0) X dX2_summed_78 rfl ?_
        exact r_iret X h (Nat.le_of_ble_eq_true rfl) (Nat.le_of_ble_eq_true rfl) dX2_summed_79
      · replace h := h.2 c5
        refine r_iconst (v := 1) X dX2_summed_71 rfl ?_
        exact r_iret X h (Nat.le_of_ble_eq_true rfl) (Nat.le_of_ble_eq_true rfl) dX2_summed_72
theorem tb_X2_summed_33 {x : CT} {G : GT} (X : Cx x G cX2_summed 2 RX2 (some .int) rm_X2_summed) (hph : kP G = 1) (Q : Int32 → PS → Prop) (K15 : PS → Prop) (t0 : Int32) (s : PS) (hK15 : ∀ (s' : PS), K15 s' → WB x G 2 (QfI x G 0 0 Q) 0 0 s' 15 [(0, .ref (kB G + 182))] []) (h : b_X2_summed_33 G Q K15 t0 s) : WB x G 2 (QfI x G 0 0 Q) 0 0 s 33 [(0, .ref (kB G + 182))] [.int t0] := by
  unfold b_X2_summed_33 at h
  refine r_istore_n (lv' := [(1, .int t0), (0, .ref (kB G + 182))]) X dX2_summed_33 rfl (Nat.le_of_ble_eq_true rfl) rfl ?_
  refine r_aload_n X 1 dX2_summed_34 rfl rfl ?_
  refine gl_X2_188 X hph 182 ly_182 dX2_summed_35 ?_
  refine r_if_ne X 47 dX2_summed_38 (by decide) (fun c1 => ?_) (fun c1 => ?_)
  · replace h := h.2 c1
    refine r_sub [1, 0] rfl ?_
    exact tb_X2_summed_47 X hph Q K15 t0 s hK15 h
  · replace h := h.1 c1
    refine r_iload_n X 0 dX2_summed_41 rfl rfl ?_
    refine r_if_eq X 47 dX2_summed_42 (by decide) (fun c2 => ?_) (fun c2 => ?_)
    · replace h := h.1 c2
      refine r_sub [1, 0] rfl ?_
      exact tb_X2_summed_47 X hph Q K15 t0 s hK15 h
    · replace h := h.2 c2
      refine r_iload_n X 0 dX2_summed_45 rfl rfl ?_
      exact r_iret X h (Nat.le_of_ble_eq_true rfl) (Nat.le_of_ble_eq_true rfl) dX2_summed_46
theorem tl_X2_summed_15 {x : CT} {G : GT} (X : Cx x G cX2_summed 2 RX2 (some .int) rm_X2_summed) (hph : kP G = 1) (Q : Int32 → PS → Prop) : ∀ (n : Nat) (s : PS) (h : l_X2_summed_15 G Q n s), WB x G 2 (QfI x G 0 0 Q) 0 0 s 15 [(0, .ref (kB G + 182))] [] := by
  intro n
  induction n with
  | zero =>
    intro s h
    exact False.elim h
  | succ n ih =>
    intro s h
    unfold l_X2_summed_15 at h
    refine r_aload_n X 0 dX2_summed_15 rfl rfl ?_
    refine gl_X2_188 X hph 182 ly_182 dX2_summed_16 ?_
    refine r_if_eq X 29 dX2_summed_19 (by decide) (fun c1 => ?_) (fun c1 => ?_)
    · replace h := h.1 c1
      refine r_aload_n X 0 dX2_summed_29 rfl rfl ?_
      refine r_ci X (r_okVL (As := []) (rest := []) X (m_X2_beginOne (xl x) G X.2.2.2.2.1 hph s _ h) (cl_X2_204 X ⟨(Nat.le_of_ble_eq_true rfl), (Nat.le_of_ble_eq_true rfl)⟩) hph 2 ly_182 rfl rfl rfl rfl (Nat.le_of_ble_eq_true rfl) dX2_summed_30 ⟨Nat.le_of_ble_eq_true rfl, Nat.le_of_ble_eq_true rfl⟩) (fun r3 s2 h => ?_)
      exact tb_X2_summed_33 X hph Q (l_X2_summed_15 G Q n) r3 s2 ih h
    · replace h := h.2 c1
      refine r_aload_n X 0 dX2_summed_22 rfl rfl ?_
      refine r_ci X (r_okVL (As := []) (rest := []) X (m_X2_behindOne (xl x) G X.2.2.2.2.1 hph s _ h) (cl_X2_201 X ⟨(Nat.le_of_ble_eq_true rfl), (Nat.le_of_ble_eq_true rfl)⟩) hph 2 ly_182 rfl rfl rfl rfl (Nat.le_of_ble_eq_true rfl) dX2_summed_23 ⟨Nat.le_of_ble_eq_true rfl, Nat.le_of_ble_eq_true rfl⟩) (fun r5 s4 h => ?_)
      refine r_goto X 33 dX2_summed_26 (by decide) ?_
      exact tb_X2_summed_33 X hph Q (l_X2_summed_15 G Q n) r5 s4 ih h
theorem e_X2_summed {x : CT} {G : GT} (X : Cx x G cX2_summed 2 RX2 (some .int) rm_X2_summed) (hph : kP G = 1) (s : PS) (Q : Int32 → PS → Prop) (h : w_X2_summed G s Q) : WB x G 2 (QfI x G 0 0 Q) 0 0 s 0 [(0, .ref (kB G + 182))] [] := by
  unfold w_X2_summed at h
  refine r_aload_n X 0 dX2_summed_0 rfl rfl ?_
  refine r_iconst (v := 0) X dX2_summed_1 rfl ?_
  refine pl_X2_166 X hph 182 ly_182 dX2_summed_2 (fun s1 e2 => ?_)
  replace h := h s1 e2
  refine r_aload_n X 0 dX2_summed_5 rfl rfl ?_
  refine r_iconst (v := 0) X dX2_summed_6 rfl ?_
  refine pl_X2_176 X hph 182 ly_182 dX2_summed_7 (fun s3 e4 => ?_)
  replace h := h s3 e4
  refine r_aload_n X 0 dX2_summed_10 rfl rfl ?_
  refine r_iconst (v := 0) X dX2_summed_11 rfl ?_
  refine pl_X2_188 X hph 182 ly_182 (Or.inl rfl) dX2_summed_12 (fun s5 e6 => ?_)
  replace h := h s5 e6
  obtain ⟨n7, h⟩ := h
  exact tl_X2_summed_15 X hph Q n7 s5 h
theorem m_X2_summed (l : Launch) (G : GT) (g : GK G) (hph : kP G = 1) (s : PS) (Q : Int32 → PS → Prop) (h : w_X2_summed G s Q) : Met l yX2_summed (ws_ yX2_summed cX2_summed 2 (some .int)) rm_X2_summed (va_Pc [.ref (kB G + 182)] (Wr G s)) (va_Qi Q (fun u t => Wr G u t) (kF G)) 0 0 (kF G) := by
  refine Met.ofW (cc := cX2_summed) (maxL := 2) (ret := (some .int)) (by decide) rfl ?_
  intro p e s0 m args below meth c s₁ B hml hv
  obtain ⟨rfl, hw⟩ := hv
  exact wb_of [.ref (kB G + 182)] (Nat.le_of_ble_eq_true rfl) hw.1 rfl (e_X2_summed (cx_of g B hml rfl hw) hph s Q h)
theorem e_X2_lawClause {x : CT} {G : GT} (X : Cx x G cX2_lawClause 3 RX2 (some .int) rm_X2_lawClause) (hph : kP G = 1) (p1 : Int32) (s : PS) (Q : Int32 → PS → Prop) (h : w_X2_lawClause G p1 s Q) : WB x G 3 (QfI x G 0 0 Q) 0 0 s 0 [(0, .ref (kB G + 182)), (1, .int p1)] [] := by
  unfold w_X2_lawClause at h
  refine r_aload_n X 0 dX2_lawClause_0 rfl rfl ?_
  refine gr_X2_16 X hph 13 182 185 ly_182 rfl rfl dX2_lawClause_1 ?_
  refine r_iload_n X 1 dX2_lawClause_4 rfl rfl ?_
  refine r_iconst (v := 1) X dX2_lawClause_5 rfl ?_
  refine r_iadd X dX2_lawClause_6 ?_
  refine r_aload_n X 0 dX2_lawClause_7 rfl rfl ?_
  refine gl_X2_152 X hph 182 ly_182 dX2_lawClause_8 ?_
  obtain ⟨g1, h⟩ := h
  refine r_iastL X hph 185 3012 ly_185 rfl g1 dX2_lawClause_11 (fun s2 e3 => ?_)
  replace h := h s2 e3
  refine r_aload_n X 0 dX2_lawClause_12 rfl rfl ?_
  refine r_ci X (r_okVL (As := []) (rest := []) X (m_X2_summed (xl x) G X.2.2.2.2.1 hph s2 _ h) (cl_X2_232 X ⟨(Nat.le_of_ble_eq_true rfl), (Nat.le_of_ble_eq_true rfl)⟩) hph 2 ly_182 rfl rfl rfl rfl (Nat.le_of_ble_eq_true rfl) dX2_lawClause_13 ⟨Nat.le_of_ble_eq_true rfl, Nat.le_of_ble_eq_true rfl⟩) (fun r5 s4 h => ?_)
  refine r_istore_n (lv' := [(2, .int r5), (0, .ref (kB G + 182)), (1, .int p1)]) X dX2_lawClause_16 rfl (Nat.le_of_ble_eq_true rfl) rfl ?_
  refine r_aload_n X 1 dX2_lawClause_17 rfl rfl ?_
  refine gr_X2_16 X hph 13 182 185 ly_182 rfl rfl dX2_lawClause_18 ?_
  refine r_iload_n X 2 dX2_lawClause_21 rfl rfl ?_
  refine r_iconst (v := 2) X dX2_lawClause_22 rfl ?_
  refine r_iadd X dX2_lawClause_23 ?_
  refine r_aload_n X 1 dX2_lawClause_24 rfl rfl ?_
  refine gl_X2_152 X hph 182 ly_182 dX2_lawClause_25 ?_
  obtain ⟨g6, h⟩ := h
  refine r_iastL X hph 185 3012 ly_185 rfl g6 dX2_lawClause_28 (fun s7 e8 => ?_)
  replace h := h s7 e8
  refine r_iload_n X 0 dX2_lawClause_29 rfl rfl ?_
  exact r_iret X h (Nat.le_of_ble_eq_true rfl) (Nat.le_of_ble_eq_true rfl) dX2_lawClause_30
theorem m_X2_lawClause (l : Launch) (G : GT) (g : GK G) (hph : kP G = 1) (p1 : Int32) (s : PS) (Q : Int32 → PS → Prop) (h : w_X2_lawClause G p1 s Q) : Met l yX2_lawClause (ws_ yX2_lawClause cX2_lawClause 3 (some .int)) rm_X2_lawClause (va_Pc [.ref (kB G + 182), .int p1] (Wr G s)) (va_Qi Q (fun u t => Wr G u t) (kF G)) 0 0 (kF G) := by
  refine Met.ofW (cc := cX2_lawClause) (maxL := 3) (ret := (some .int)) (by decide) rfl ?_
  intro p e s0 m args below meth c s₁ B hml hv
  obtain ⟨rfl, hw⟩ := hv
  exact wb_of [.ref (kB G + 182), .int p1] (Nat.le_of_ble_eq_true rfl) hw.1 rfl (e_X2_lawClause (cx_of g B hml rfl hw) hph p1 s Q h)
theorem e_X2_body {x : CT} {G : GT} (X : Cx x G cX2_body 3 RX2 (some .int) rm_X2_body) (hph : kP G = 1) (p1 : Int32) (p2 : Int32) (s : PS) (Q : Int32 → PS → Prop) (h : w_X2_body G p1 p2 s Q) : WB x G 3 (QfI x G 0 0 Q) 0 0 s 0 [(0, .ref (kB G + 182)), (1, .int p1), (2, .int p2)] [] := by
  unfold w_X2_body at h
  refine r_iload_n X 1 dX2_body_0 rfl rfl ?_
  by_cases c1 : p1 = 4
  · replace h := h.1 c1
    refine r_tin X 52 dX2_body_1 4 c1 (by decide) (by decide) rfl (by decide) ?_
    refine r_aload_n X 0 dX2_body_52 rfl rfl ?_
    refine r_iload_n X 2 dX2_body_53 rfl rfl ?_
    refine r_iconst (v := 1) X dX2_body_54 rfl ?_
    refine r_iadd X dX2_body_55 ?_
    refine r_iconst (v := 0) X dX2_body_56 rfl ?_
    refine r_sipush (v := 999) X dX2_body_57 rfl ?_
    refine r_ci X (r_okVL (As := [.int (p2 + 1), .int 0, .int 999]) (rest := []) X (m_X2_figure (xl x) G X.2.2.2.2.1 hph (p2 + 1) 0 999 s _ h) (cl_X2_211 X ⟨(Nat.le_of_ble_eq_true rfl), (Nat.le_of_ble_eq_true rfl)⟩) hph 2 ly_182 rfl rfl rfl rfl (Nat.le_of_ble_eq_true rfl) dX2_body_60 ⟨Nat.le_of_ble_eq_true rfl, Nat.le_of_ble_eq_true rfl⟩) (fun r3 s2 h => ?_)
    exact r_iret X h (Nat.le_of_ble_eq_true rfl) (Nat.le_of_ble_eq_true rfl) dX2_body_63
  · replace h := h.2 c1
    by_cases c4 : p1 = 5
    · replace h := h.1 c4
      refine r_tin X 64 dX2_body_1 5 c4 (by decide) (by decide) rfl (by decide) ?_
      refine r_aload_n X 0 dX2_body_64 rfl rfl ?_
      refine r_iload_n X 2 dX2_body_65 rfl rfl ?_
      refine r_ci X (r_okVL (As := [.int p2]) (rest := []) X (m_X2_deedClause (xl x) G X.2.2.2.2.1 hph p2 s _ h) (cl_X2_235 X ⟨(Nat.le_of_ble_eq_true rfl), (Nat.le_of_ble_eq_true rfl)⟩) hph 2 ly_182 rfl rfl rfl rfl (Nat.le_of_ble_eq_true rfl) dX2_body_66 ⟨Nat.le_of_ble_eq_true rfl, Nat.le_of_ble_eq_true rfl⟩) (fun r6 s5 h => ?_)
      exact r_iret X h (Nat.le_of_ble_eq_true rfl) (Nat.le_of_ble_eq_true rfl) dX2_body_69
    · replace h := h.2 c4
      by_cases c7 : p1 = 6
      · replace h := h.1 c7
        refine r_tin X 70 dX2_body_1 6 c7 (by decide) (by decide) rfl (by decide) ?_
        refine r_aload_n X 0 dX2_body_70 rfl rfl ?_
        refine r_iload_n X 2 dX2_body_71 rfl rfl ?_
        refine r_ci X (r_okVL (As := [.int p2]) (rest := []) X (m_X2_judgeClause (xl x) G X.2.2.2.2.1 hph p2 s _ h) (cl_X2_238 X ⟨(Nat.le_of_ble_eq_true rfl), (Nat.le_of_ble_eq_true rfl)⟩) hph 2 ly_182 rfl rfl rfl rfl (Nat.le_of_ble_eq_true rfl) dX2_body_72 ⟨Nat.le_of_ble_eq_true rfl, Nat.le_of_ble_eq_true rfl⟩) (fun r9 s8 h => ?_)
        exact r_iret X h (Nat.le_of_ble_eq_true rfl) (Nat.le_of_ble_eq_true rfl) dX2_body_75
      · replace h := h.2 c7
        by_cases c10 : p1 = 7
        · replace h := h.1 c10
          refine r_tin X 76 dX2_body_1 7 c10 (by decide) (by decide) rfl (by decide) ?_
          refine r_aload_n X 0 dX2_body_76 rfl rfl ?_
          refine r_iload_n X 2 dX2_body_77 rfl rfl ?_
          refine r_ci X (r_okVL (As := [.int p2]) (rest := []) X (m_X2_lendClause (xl x) G X.2.2.2.2.1 hph p2 s _ h) (cl_X2_241 X ⟨(Nat.le_of_ble_eq_true rfl), (Nat.le_of_ble_eq_true rfl)⟩) hph 2 ly_182 rfl rfl rfl rfl (Nat.le_of_ble_eq_true rfl) dX2_body_78 ⟨Nat.le_of_ble_eq_true rfl, Nat.le_of_ble_eq_true rfl⟩) (fun r12 s11 h => ?_)
          exact r_iret X h (Nat.le_of_ble_eq_true rfl) (Nat.le_of_ble_eq_true rfl) dX2_body_81
        · replace h := h.2 c10
          by_cases c13 : p1 = 8
          · replace h := h.1 c13
            refine r_tin X 82 dX2_body_1 8 c13 (by decide) (by decide) rfl (by decide) ?_
            refine r_aload_n X 0 dX2_body_82 rfl rfl ?_
            refine r_iload_n X 2 dX2_body_83 rfl rfl ?_
            refine r_iconst (v := 1) X dX2_body_84 rfl ?_
            refine r_iadd X dX2_body_85 ?_
            refine r_iconst (v := 0) X dX2_body_86 rfl ?_
            refine r_iconst (v := 5) X dX2_body_87 rfl ?_
            refine r_ci X (r_okVL (As := [.int (p2 + 1), .int 0, .int 5]) (rest := []) X (m_X2_figure (xl x) G X.2.2.2.2.1 hph (p2 + 1) 0 5 s _ h) (cl_X2_211 X ⟨(Nat.le_of_ble_eq_true rfl), (Nat.le_of_ble_eq_true rfl)⟩) hph 2 ly_182 rfl rfl rfl rfl (Nat.le_of_ble_eq_true rfl) dX2_body_88 ⟨Nat.le_of_ble_eq_true rfl, Nat.le_of_ble_eq_true rfl⟩) (fun r15 s14 h => ?_)
            exact r_iret X h (Nat.le_of_ble_eq_true rfl) (Nat.le_of_ble_eq_true rfl) dX2_body_91
          · replace h := h.2 c13
            by_cases c16 : p1 = 9
            · replace h := h.1 c16
              refine r_tin X 92 dX2_body_1 9 c16 (by decide) (by decide) rfl (by decide) ?_
              refine r_aload_n X 0 dX2_body_92 rfl rfl ?_
              refine r_iload_n X 2 dX2_body_93 rfl rfl ?_
              refine r_iconst (v := 1) X dX2_body_94 rfl ?_
              refine r_iadd X dX2_body_95 ?_
              refine r_iconst (v := 0) X dX2_body_96 rfl ?_
              refine r_bipush (v := 23) X dX2_body_97 rfl ?_
              refine r_ci X (r_okVL (As := [.int (p2 + 1), .int 0, .int 23]) (rest := []) X (m_X2_figure (xl x) G X.2.2.2.2.1 hph (p2 + 1) 0 23 s _ h) (cl_X2_211 X ⟨(Nat.le_of_ble_eq_true rfl), (Nat.le_of_ble_eq_true rfl)⟩) hph 2 ly_182 rfl rfl rfl rfl (Nat.le_of_ble_eq_true rfl) dX2_body_99 ⟨Nat.le_of_ble_eq_true rfl, Nat.le_of_ble_eq_true rfl⟩) (fun r18 s17 h => ?_)
              exact r_iret X h (Nat.le_of_ble_eq_true rfl) (Nat.le_of_ble_eq_true rfl) dX2_body_102
            · replace h := h.2 c16
              by_cases c19 : p1 = 10
              · replace h := h.1 c19
                refine r_tin X 103 dX2_body_1 10 c19 (by decide) (by decide) rfl (by decide) ?_
                refine r_aload_n X 0 dX2_body_103 rfl rfl ?_
                refine r_iload_n X 2 dX2_body_104 rfl rfl ?_
                refine r_iconst (v := 1) X dX2_body_105 rfl ?_
                refine r_iadd X dX2_body_106 ?_
                refine r_iconst (v := 0) X dX2_body_107 rfl ?_
                refine r_bipush (v := 7) X dX2_body_108 rfl ?_
                refine r_ci X (r_okVL (As := [.int (p2 + 1), .int 0, .int 7]) (rest := []) X (m_X2_figure (xl x) G X.2.2.2.2.1 hph (p2 + 1) 0 7 s _ h) (cl_X2_211 X ⟨(Nat.le_of_ble_eq_true rfl), (Nat.le_of_ble_eq_true rfl)⟩) hph 2 ly_182 rfl rfl rfl rfl (Nat.le_of_ble_eq_true rfl) dX2_body_110 ⟨Nat.le_of_ble_eq_true rfl, Nat.le_of_ble_eq_true rfl⟩) (fun r21 s20 h => ?_)
                exact r_iret X h (Nat.le_of_ble_eq_true rfl) (Nat.le_of_ble_eq_true rfl) dX2_body_113
              · replace h := h.2 c19
                by_cases c22 : p1 = 11
                · replace h := h.1 c22
                  refine r_tin X 114 dX2_body_1 11 c22 (by decide) (by decide) rfl (by decide) ?_
                  refine r_aload_n X 0 dX2_body_114 rfl rfl ?_
                  refine r_iload_n X 2 dX2_body_115 rfl rfl ?_
                  refine r_iconst (v := 1) X dX2_body_116 rfl ?_
                  refine r_iadd X dX2_body_117 ?_
                  refine r_iconst (v := 0) X dX2_body_118 rfl ?_
                  refine r_bipush (v := 7) X dX2_body_119 rfl ?_
                  refine r_ci X (r_okVL (As := [.int (p2 + 1), .int 0, .int 7]) (rest := []) X (m_X2_figure (xl x) G X.2.2.2.2.1 hph (p2 + 1) 0 7 s _ h) (cl_X2_211 X ⟨(Nat.le_of_ble_eq_true rfl), (Nat.le_of_ble_eq_true rfl)⟩) hph 2 ly_182 rfl rfl rfl rfl (Nat.le_of_ble_eq_true rfl) dX2_body_121 ⟨Nat.le_of_ble_eq_true rfl, Nat.le_of_ble_eq_true rfl⟩) (fun r24 s23 h => ?_)
                  exact r_iret X h (Nat.le_of_ble_eq_true rfl) (Nat.le_of_ble_eq_true rfl) dX2_body_124
                · replace h := h.2 c22
                  by_cases c25 : p1 = 12
                  · replace h := h.1 c25
                    refine r_tin X 125 dX2_body_1 12 c25 (by decide) (by decide) rfl (by decide) ?_
                    refine r_iconst (v := 0) X dX2_body_125 rfl ?_
                    exact r_iret X h (Nat.le_of_ble_eq_true rfl) (Nat.le_of_ble_eq_true rfl) dX2_body_126
                  · replace h := h.2 c25
                    have o0 := lv_neT c1 (show Int32.toInt 4 = 4 from rfl)
                    have o1 := lv_neT c4 (show Int32.toInt 5 = 5 from rfl)
                    have o2 := lv_neT c7 (show Int32.toInt 6 = 6 from rfl)
                    have o3 := lv_neT c10 (show Int32.toInt 7 = 7 from rfl)
                    have o4 := lv_neT c13 (show Int32.toInt 8 = 8 from rfl)
                    have o5 := lv_neT c16 (show Int32.toInt 9 = 9 from rfl)
                    have o6 := lv_neT c19 (show Int32.toInt 10 = 10 from rfl)
                    have o7 := lv_neT c22 (show Int32.toInt 11 = 11 from rfl)
                    have o8 := lv_neT c25 (show Int32.toInt 12 = 12 from rfl)
                    refine r_tout X 127 dX2_body_1 (by omega) (by decide) ?_
                    refine r_aload_n X 0 dX2_body_127 rfl rfl ?_
                    refine r_iload_n X 2 dX2_body_128 rfl rfl ?_
                    refine r_ci X (r_okVL (As := [.int p2]) (rest := []) X (m_X2_lawClause (xl x) G X.2.2.2.2.1 hph p2 s _ h) (cl_X2_244 X ⟨(Nat.le_of_ble_eq_true rfl), (Nat.le_of_ble_eq_true rfl)⟩) hph 2 ly_182 rfl rfl rfl rfl (Nat.le_of_ble_eq_true rfl) dX2_body_129 ⟨Nat.le_of_ble_eq_true rfl, Nat.le_of_ble_eq_true rfl⟩) (fun r27 s26 h => ?_)
                    exact r_iret X h (Nat.le_of_ble_eq_true rfl) (Nat.le_of_ble_eq_true rfl) dX2_body_132
theorem m_X2_body (l : Launch) (G : GT) (g : GK G) (hph : kP G = 1) (p1 : Int32) (p2 : Int32) (s : PS) (Q : Int32 → PS → Prop) (h : w_X2_body G p1 p2 s Q) : Met l yX2_body (ws_ yX2_body cX2_body 3 (some .int)) rm_X2_body (va_Pc [.ref (kB G + 182), .int p1, .int p2] (Wr G s)) (va_Qi Q (fun u t => Wr G u t) (kF G)) 0 0 (kF G) := by
  refine Met.ofW (cc := cX2_body) (maxL := 3) (ret := (some .int)) (by decide) rfl ?_
  intro p e s0 m args below meth c s₁ B hml hv
  obtain ⟨rfl, hw⟩ := hv
  exact wb_of [.ref (kB G + 182), .int p1, .int p2] (Nat.le_of_ble_eq_true rfl) hw.1 rfl (e_X2_body (cx_of g B hml rfl hw) hph p1 p2 s Q h)
theorem tb_X2_clause_65 {x : CT} {G : GT} (X : Cx x G cX2_clause 5 RX2 (some .int) rm_X2_clause) (hph : kP G = 1) (Q : Int32 → PS → Prop) (v1 : Int32) (v2 : Int32) (s : PS) (h : b_X2_clause_65 G Q v1 v2 s) : WB x G 5 (QfI x G 0 0 Q) 0 0 s 65 [(0, .ref (kB G + 182)), (1, .int v1), (2, .int v2)] [] := by
  unfold b_X2_clause_65 at h
  refine r_aload_n X 0 dX2_clause_65 rfl rfl ?_
  refine r_iload_n X 1 dX2_clause_66 rfl rfl ?_
  refine pl_X2_163 X hph 182 ly_182 dX2_clause_67 (fun s1 e2 => ?_)
  replace h := h s1 e2
  refine r_aload_n X 0 dX2_clause_70 rfl rfl ?_
  refine r_cv X (r_okVL (As := []) (rest := []) X (m_X2_nextToken (xl x) G X.2.2.2.2.1 hph s1 _ h) (cl_X2_179 X ⟨(Nat.le_of_ble_eq_true rfl), (Nat.le_of_ble_eq_true rfl)⟩) hph 2 ly_182 rfl rfl rfl rfl (Nat.le_of_ble_eq_true rfl) dX2_clause_71 ⟨Nat.le_of_ble_eq_true rfl, Nat.le_of_ble_eq_true rfl⟩) (fun s3 h => ?_)
  refine r_aload_n X 0 dX2_clause_74 rfl rfl ?_
  refine gl_X2_149 X hph 182 ly_182 dX2_clause_75 ?_
  refine r_iconst (v := 1) X dX2_clause_78 rfl ?_
  refine r_iadd X dX2_clause_79 ?_
  refine r_bipush (v := 6) X dX2_clause_80 rfl ?_
  refine r_iload_n X 2 dX2_clause_82 rfl rfl ?_
  refine r_imul X dX2_clause_83 ?_
  refine r_iadd X dX2_clause_84 ?_
  refine r_nmI (fun y4 e5 => ?_)
  replace h := h y4 e5
  refine r_istore_n (lv' := [(3, .int y4), (0, .ref (kB G + 182)), (1, .int v1), (2, .int v2)]) X dX2_clause_85 rfl (Nat.le_of_ble_eq_true rfl) rfl ?_
  refine r_aload_n X 1 dX2_clause_86 rfl rfl ?_
  refine gr_X2_16 X hph 13 182 185 ly_182 rfl rfl dX2_clause_87 ?_
  refine r_iload_n X 0 dX2_clause_90 rfl rfl ?_
  refine r_iload_n X 2 dX2_clause_91 rfl rfl ?_
  obtain ⟨g6, h⟩ := h
  refine r_iastL X hph 185 3012 ly_185 rfl g6 dX2_clause_92 (fun s7 e8 => ?_)
  replace h := h s7 e8
  refine r_aload_n X 1 dX2_clause_93 rfl rfl ?_
  refine r_iload_n X 2 dX2_clause_94 rfl rfl ?_
  refine r_iload_n X 0 dX2_clause_95 rfl rfl ?_
  refine r_ci X (r_okVL (As := [.int v1, .int y4]) (rest := []) X (m_X2_body (xl x) G X.2.2.2.2.1 hph v1 y4 s7 _ h) (cl_X2_257 X ⟨(Nat.le_of_ble_eq_true rfl), (Nat.le_of_ble_eq_true rfl)⟩) hph 2 ly_182 rfl rfl rfl rfl (Nat.le_of_ble_eq_true rfl) dX2_clause_96 ⟨Nat.le_of_ble_eq_true rfl, Nat.le_of_ble_eq_true rfl⟩) (fun r10 s9 h => ?_)
  refine r_istore (lv' := [(4, .int r10), (3, .int y4), (0, .ref (kB G + 182)), (1, .int v1), (2, .int v2)]) X dX2_clause_99 (Nat.le_of_ble_eq_true rfl) rfl ?_
  refine r_iload X 0 dX2_clause_101 rfl ?_
  refine r_if_eq X 109 dX2_clause_103 (by decide) (fun c11 => ?_) (fun c11 => ?_)
  · replace h := h.1 c11
    refine r_aload_n X 2 dX2_clause_109 rfl rfl ?_
    refine gr_X2_16 X hph 13 182 185 ly_182 rfl rfl dX2_clause_110 ?_
    refine r_aload_n X 2 dX2_clause_113 rfl rfl ?_
    refine gl_X2_149 X hph 182 ly_182 dX2_clause_114 ?_
    refine r_dup2 X dX2_clause_117 rfl rfl ?_
    obtain ⟨g12, h⟩ := h
    refine r_ialdL X hph 185 3012 ly_185 rfl g12 dX2_clause_118 ?_
    refine r_iconst (v := 1) X dX2_clause_119 rfl ?_
    refine r_iadd X dX2_clause_120 ?_
    refine r_iastL X hph 185 3012 ly_185 rfl g12 dX2_clause_121 (fun s13 e14 => ?_)
    replace h := h s13 e14
    refine r_aload_n X 2 dX2_clause_122 rfl rfl ?_
    refine gl_X2_115 X hph 182 ly_182 dX2_clause_123 ?_
    refine r_bipush (v := 59) X dX2_clause_126 rfl ?_
    refine r_ic_eq X 133 dX2_clause_128 (by decide) (fun c15 => ?_) (fun c15 => ?_)
    · replace h := h.1 c15
      refine r_aload_n X 2 dX2_clause_133 rfl rfl ?_
      refine r_cv X (r_okVL (As := []) (rest := []) X (m_X2_nextToken (xl x) G X.2.2.2.2.1 hph s13 _ h) (cl_X2_179 X ⟨(Nat.le_of_ble_eq_true rfl), (Nat.le_of_ble_eq_true rfl)⟩) hph 2 ly_182 rfl rfl rfl rfl (Nat.le_of_ble_eq_true rfl) dX2_clause_134 ⟨Nat.le_of_ble_eq_true rfl, Nat.le_of_ble_eq_true rfl⟩) (fun s16 h => ?_)
      refine r_iconst (v := 0) X dX2_clause_137 rfl ?_
      exact r_iret X h (Nat.le_of_ble_eq_true rfl) (Nat.le_of_ble_eq_true rfl) dX2_clause_138
    · replace h := h.2 c15
      refine r_iconst (v := 1) X dX2_clause_131 rfl ?_
      exact r_iret X h (Nat.le_of_ble_eq_true rfl) (Nat.le_of_ble_eq_true rfl) dX2_clause_132
  · replace h := h.2 c11
    refine r_iload X 0 dX2_clause_106 rfl ?_
    exact r_iret X h (Nat.le_of_ble_eq_true rfl) (Nat.le_of_ble_eq_true rfl) dX2_clause_108
theorem tb_X2_clause_29 {x : CT} {G : GT} (X : Cx x G cX2_clause 5 RX2 (some .int) rm_X2_clause) (hph : kP G = 1) (Q : Int32 → PS → Prop) (v1 : Int32) (s : PS) (h : b_X2_clause_29 G Q v1 s) : WB x G 5 (QfI x G 0 0 Q) 0 0 s 29 [(0, .ref (kB G + 182)), (1, .int v1)] [] := by
  unfold b_X2_clause_29 at h
  refine r_aload_n X 0 dX2_clause_29 rfl rfl ?_
  refine gr_X2_16 X hph 13 182 185 ly_182 rfl rfl dX2_clause_30 ?_
  refine r_aload_n X 0 dX2_clause_33 rfl rfl ?_
  refine gl_X2_149 X hph 182 ly_182 dX2_clause_34 ?_
  obtain ⟨g1, h⟩ := h
  refine r_ialdL X hph 185 3012 ly_185 rfl g1 dX2_clause_37 ?_
  refine r_nmI (fun y2 e3 => ?_)
  replace h := h y2 e3
  refine r_istore_n (lv' := [(2, .int y2), (0, .ref (kB G + 182)), (1, .int v1)]) X dX2_clause_38 rfl (Nat.le_of_ble_eq_true rfl) rfl ?_
  refine r_iload_n X 0 dX2_clause_39 rfl rfl ?_
  refine r_bipush (v := 24) X dX2_clause_40 rfl ?_
  refine r_ic_ne X 48 dX2_clause_42 (by decide) (fun c4 => ?_) (fun c4 => ?_)
  · replace h := h.2 c4
    refine r_iload_n X 2 dX2_clause_48 rfl rfl ?_
    refine r_iconst (v := 3) X dX2_clause_49 rfl ?_
    refine r_ic_gt X 65 dX2_clause_50 (by decide) (fun c5 => ?_) (fun c5 => ?_)
    · replace h := h.1 c5
      refine r_sub [1, 2, 0] rfl ?_
      exact tb_X2_clause_65 X hph Q v1 y2 s h
    · replace h := h.2 c5
      refine r_aload_n X 1 dX2_clause_53 rfl rfl ?_
      refine r_dup X dX2_clause_54 rfl ?_
      refine gl_X2_254 X hph 182 ly_182 dX2_clause_55 ?_
      refine r_iconst (v := 1) X dX2_clause_58 rfl ?_
      refine r_iload_n X 2 dX2_clause_59 rfl rfl ?_
      refine r_ishl X dX2_clause_60 ?_
      refine r_ior X dX2_clause_61 ?_
      refine pl_X2_254 X hph 182 ly_182 dX2_clause_62 (fun s6 e7 => ?_)
      replace h := h s6 e7
      refine r_sub [1, 2, 0] rfl ?_
      exact tb_X2_clause_65 X hph Q v1 y2 s6 h
  · replace h := h.1 c4
    refine r_bipush (v := 6) X dX2_clause_45 rfl ?_
    exact r_iret X h (Nat.le_of_ble_eq_true rfl) (Nat.le_of_ble_eq_true rfl) dX2_clause_47
theorem e_X2_clause {x : CT} {G : GT} (X : Cx x G cX2_clause 5 RX2 (some .int) rm_X2_clause) (hph : kP G = 1) (s : PS) (Q : Int32 → PS → Prop) (h : w_X2_clause G s Q) : WB x G 5 (QfI x G 0 0 Q) 0 0 s 0 [(0, .ref (kB G + 182))] [] := by
  unfold w_X2_clause at h
  refine r_aload_n X 0 dX2_clause_0 rfl rfl ?_
  refine r_ci X (r_okVL (As := []) (rest := []) X (m_X2_sortOf (xl x) G X.2.2.2.2.1 hph s _ h) (cl_X2_251 X ⟨(Nat.le_of_ble_eq_true rfl), (Nat.le_of_ble_eq_true rfl)⟩) hph 2 ly_182 rfl rfl rfl rfl (Nat.le_of_ble_eq_true rfl) dX2_clause_1 ⟨Nat.le_of_ble_eq_true rfl, Nat.le_of_ble_eq_true rfl⟩) (fun r2 s1 h => ?_)
  refine r_istore_n (lv' := [(1, .int r2), (0, .ref (kB G + 182))]) X dX2_clause_4 rfl (Nat.le_of_ble_eq_true rfl) rfl ?_
  refine r_iload_n X 0 dX2_clause_5 rfl rfl ?_
  refine r_if_ge X 11 dX2_clause_6 (by decide) (fun c3 => ?_) (fun c3 => ?_)
  · replace h := h.1 c3
    refine r_iload_n X 0 dX2_clause_11 rfl rfl ?_
    refine r_iconst (v := 3) X dX2_clause_12 rfl ?_
    refine r_ic_gt X 29 dX2_clause_13 (by decide) (fun c4 => ?_) (fun c4 => ?_)
    · replace h := h.1 c4
      refine r_sub [1, 0] rfl ?_
      exact tb_X2_clause_29 X hph Q r2 s1 h
    · replace h := h.2 c4
      refine r_aload_n X 1 dX2_clause_16 rfl rfl ?_
      refine gl_X2_254 X hph 182 ly_182 dX2_clause_17 ?_
      refine r_iload_n X 0 dX2_clause_20 rfl rfl ?_
      refine r_ci X (r_okS (As := [.int (gI s1 (kB G + 182) 19), .int r2]) (rest := []) X (m_X2_has (xl x) G X.2.2.2.2.1 (gI s1 (kB G + 182) 19) r2 s1 _ h) (cl_X2_224 X ⟨(Nat.le_of_ble_eq_true rfl), (Nat.le_of_ble_eq_true rfl)⟩) rfl rfl (Nat.le_of_ble_eq_true rfl) dX2_clause_21 ⟨Nat.le_of_ble_eq_true rfl, Nat.le_of_ble_eq_true rfl⟩) (fun r6 s5 h => ?_)
      obtain ⟨z7, h⟩ := h
      refine r_if_eq X 29 dX2_clause_24 (by decide) (fun c8 => ?_) (fun c8 => ?_)
      · replace h := h.1 c8
        refine r_sub [1, 0] rfl ?_
        exact tb_X2_clause_29 X hph Q r2 s5 h
      · replace h := h.2 c8
        refine r_iconst (v := 4) X dX2_clause_27 rfl ?_
        exact r_iret X h (Nat.le_of_ble_eq_true rfl) (Nat.le_of_ble_eq_true rfl) dX2_clause_28
  · replace h := h.2 c3
    refine r_iconst (v := 1) X dX2_clause_9 rfl ?_
    exact r_iret X h (Nat.le_of_ble_eq_true rfl) (Nat.le_of_ble_eq_true rfl) dX2_clause_10
theorem m_X2_clause (l : Launch) (G : GT) (g : GK G) (hph : kP G = 1) (s : PS) (Q : Int32 → PS → Prop) (h : w_X2_clause G s Q) : Met l yX2_clause (ws_ yX2_clause cX2_clause 5 (some .int)) rm_X2_clause (va_Pc [.ref (kB G + 182)] (Wr G s)) (va_Qi Q (fun u t => Wr G u t) (kF G)) 0 0 (kF G) := by
  refine Met.ofW (cc := cX2_clause) (maxL := 5) (ret := (some .int)) (by decide) rfl ?_
  intro p e s0 m args below meth c s₁ B hml hv
  obtain ⟨rfl, hw⟩ := hv
  exact wb_of [.ref (kB G + 182)] (Nat.le_of_ble_eq_true rfl) hw.1 rfl (e_X2_clause (cx_of g B hml rfl hw) hph s Q h)
theorem tl_X2_readText_44 {x : CT} {G : GT} (X : Cx x G cX2_readText 2 RX2 (some .int) rm_X2_readText) (hph : kP G = 1) (Q : Int32 → PS → Prop) : ∀ (n : Nat) (s : PS) (h : l_X2_readText_44 G Q n s), WB x G 2 (QfI x G 0 0 Q) 0 0 s 44 [(0, .ref (kB G + 182))] [] := by
  intro n
  induction n with
  | zero =>
    intro s h
    exact False.elim h
  | succ n ih =>
    intro s h
    unfold l_X2_readText_44 at h
    refine r_aload_n X 0 dX2_readText_44 rfl rfl ?_
    refine gl_X2_115 X hph 182 ly_182 dX2_readText_45 ?_
    refine r_if_eq X 65 dX2_readText_48 (by decide) (fun c1 => ?_) (fun c1 => ?_)
    · replace h := h.1 c1
      refine r_iconst (v := 0) X dX2_readText_65 rfl ?_
      exact r_iret X h (Nat.le_of_ble_eq_true rfl) (Nat.le_of_ble_eq_true rfl) dX2_readText_66
    · replace h := h.2 c1
      refine r_aload_n X 0 dX2_readText_51 rfl rfl ?_
      refine r_ci X (r_okVL (As := []) (rest := []) X (m_X2_clause (xl x) G X.2.2.2.2.1 hph s _ h) (cl_X2_260 X ⟨(Nat.le_of_ble_eq_true rfl), (Nat.le_of_ble_eq_true rfl)⟩) hph 2 ly_182 rfl rfl rfl rfl (Nat.le_of_ble_eq_true rfl) dX2_readText_52 ⟨Nat.le_of_ble_eq_true rfl, Nat.le_of_ble_eq_true rfl⟩) (fun r3 s2 h => ?_)
      refine r_istore_n (lv' := [(1, .int r3), (0, .ref (kB G + 182))]) X dX2_readText_55 rfl (Nat.le_of_ble_eq_true rfl) rfl ?_
      refine r_iload_n X 0 dX2_readText_56 rfl rfl ?_
      refine r_if_eq X 62 dX2_readText_57 (by decide) (fun c4 => ?_) (fun c4 => ?_)
      · replace h := h.1 c4
        refine r_goto X 44 dX2_readText_62 (by decide) ?_
        refine r_sub [1] rfl ?_
        exact ih s2 h
      · replace h := h.2 c4
        refine r_iload_n X 0 dX2_readText_60 rfl rfl ?_
        exact r_iret X h (Nat.le_of_ble_eq_true rfl) (Nat.le_of_ble_eq_true rfl) dX2_readText_61
theorem e_X2_readText {x : CT} {G : GT} (X : Cx x G cX2_readText 2 RX2 (some .int) rm_X2_readText) (hph : kP G = 1) (s : PS) (Q : Int32 → PS → Prop) (h : w_X2_readText G s Q) : WB x G 2 (QfI x G 0 0 Q) 0 0 s 0 [(0, .ref (kB G + 182))] [] := by
  unfold w_X2_readText at h
  refine r_aload_n X 0 dX2_readText_0 rfl rfl ?_
  refine r_sipush (v := 753) X dX2_readText_1 rfl ?_
  refine r_aload_n X 0 dX2_readText_4 rfl rfl ?_
  refine gr_X2_7 X hph 13 182 183 ly_182 rfl rfl dX2_readText_5 ?_
  refine r_bipush (v := 6) X dX2_readText_8 rfl ?_
  refine r_ialdL X hph 183 5544 ly_183 tn_6 il_6_5544 dX2_readText_10 ?_
  refine r_imul X dX2_readText_11 ?_
  refine pl_X2_149 X hph 182 ly_182 dX2_readText_12 (fun s1 e2 => ?_)
  replace h := h s1 e2
  refine r_aload_n X 0 dX2_readText_15 rfl rfl ?_
  refine gr_X2_16 X hph 13 182 185 ly_182 rfl rfl dX2_readText_16 ?_
  refine r_aload_n X 0 dX2_readText_19 rfl rfl ?_
  refine gl_X2_149 X hph 182 ly_182 dX2_readText_20 ?_
  refine r_iconst (v := 0) X dX2_readText_23 rfl ?_
  obtain ⟨g3, h⟩ := h
  refine r_iastL X hph 185 3012 ly_185 rfl g3 dX2_readText_24 (fun s4 e5 => ?_)
  replace h := h s4 e5
  refine r_aload_n X 0 dX2_readText_25 rfl rfl ?_
  refine r_iconst (v := 0) X dX2_readText_26 rfl ?_
  refine pl_X2_152 X hph 182 ly_182 dX2_readText_27 (fun s6 e7 => ?_)
  replace h := h s6 e7
  refine r_aload_n X 0 dX2_readText_30 rfl rfl ?_
  refine r_iconst (v := 0) X dX2_readText_31 rfl ?_
  refine pl_X2_254 X hph 182 ly_182 dX2_readText_32 (fun s8 e9 => ?_)
  replace h := h s8 e9
  refine r_aload_n X 0 dX2_readText_35 rfl rfl ?_
  refine r_iconst (v := 0) X dX2_readText_36 rfl ?_
  refine pl_X2_105 X hph 182 ly_182 dX2_readText_37 (fun s10 e11 => ?_)
  replace h := h s10 e11
  refine r_aload_n X 0 dX2_readText_40 rfl rfl ?_
  refine r_cv X (r_okVL (As := []) (rest := []) X (m_X2_nextToken (xl x) G X.2.2.2.2.1 hph s10 _ h) (cl_X2_179 X ⟨(Nat.le_of_ble_eq_true rfl), (Nat.le_of_ble_eq_true rfl)⟩) hph 2 ly_182 rfl rfl rfl rfl (Nat.le_of_ble_eq_true rfl) dX2_readText_41 ⟨Nat.le_of_ble_eq_true rfl, Nat.le_of_ble_eq_true rfl⟩) (fun s12 h => ?_)
  obtain ⟨n13, h⟩ := h
  exact tl_X2_readText_44 X hph Q n13 s12 h
theorem m_X2_readText (l : Launch) (G : GT) (g : GK G) (hph : kP G = 1) (s : PS) (Q : Int32 → PS → Prop) (h : w_X2_readText G s Q) : Met l yX2_readText (ws_ yX2_readText cX2_readText 2 (some .int)) rm_X2_readText (va_Pc [.ref (kB G + 182)] (Wr G s)) (va_Qi Q (fun u t => Wr G u t) (kF G)) 0 0 (kF G) := by
  refine Met.ofW (cc := cX2_readText) (maxL := 2) (ret := (some .int)) (by decide) rfl ?_
  intro p e s0 m args below meth c s₁ B hml hv
  obtain ⟨rfl, hw⟩ := hv
  exact wb_of [.ref (kB G + 182)] (Nat.le_of_ble_eq_true rfl) hw.1 rfl (e_X2_readText (cx_of g B hml rfl hw) hph s Q h)
theorem e_X2_text {x : CT} {G : GT} (X : Cx x G cX2_text 1 RX2 (some .int) rm_X2_text) (hph : kP G = 1) (s : PS) (Q : Int32 → PS → Prop) (h : w_X2_text G s Q) : WB x G 1 (QfI x G 0 0 Q) 0 0 s 0 [(0, .ref (kB G + 182))] [] := by
  unfold w_X2_text at h
  refine r_aload_n X 0 dX2_text_0 rfl rfl ?_
  refine gr_X2_7 X hph 13 182 183 ly_182 rfl rfl dX2_text_1 ?_
  refine r_bipush (v := 6) X dX2_text_4 rfl ?_
  refine r_ialdL X hph 183 5544 ly_183 tn_6 il_6_5544 dX2_text_6 ?_
  refine r_iconst (v := 4) X dX2_text_7 rfl ?_
  refine r_ic_ne X 13 dX2_text_8 (by decide) (fun c1 => ?_) (fun c1 => ?_)
  · replace h := h.2 c1
    refine r_aload_n X 0 dX2_text_13 rfl rfl ?_
    refine r_aload_n X 0 dX2_text_14 rfl rfl ?_
    refine r_ci X (r_okVL (As := []) (rest := [.ref (kB G + 182)]) X (m_X2_readText (xl x) G X.2.2.2.2.1 hph s _ h) (cl_X2_263 X ⟨(Nat.le_of_ble_eq_true rfl), (Nat.le_of_ble_eq_true rfl)⟩) hph 2 ly_182 rfl rfl rfl rfl (Nat.le_of_ble_eq_true rfl) dX2_text_15 ⟨Nat.le_of_ble_eq_true rfl, Nat.le_of_ble_eq_true rfl⟩) (fun r3 s2 h => ?_)
    refine pl_X2_22 X hph 182 ly_182 dX2_text_18 (fun s4 e5 => ?_)
    replace h := h s4 e5
    refine r_aload_n X 0 dX2_text_21 rfl rfl ?_
    refine r_aload_n X 0 dX2_text_22 rfl rfl ?_
    refine gl_X2_22 X hph 182 ly_182 dX2_text_23 ?_
    have hJ : WB x G 1 (QfI x G 0 0 Q) 0 0 s4 37 [(0, .ref (kB G + 182))] [.int (if (gI s4 (kB G + 182) 5) = 0 then (-1) else (gI s4 (kB G + 182) 8) : Int32), .ref (kB G + 182)] := by
      refine pl_X2_26 X hph 182 ly_182 dX2_text_37 (fun s7 e8 => ?_)
      replace h := h s7 e8
      refine r_aload_n X 0 dX2_text_40 rfl rfl ?_
      refine r_iconst (v := 0) X dX2_text_41 rfl ?_
      refine pl_X2_98 X hph 182 ly_182 dX2_text_42 (fun s9 e10 => ?_)
      replace h := h s9 e10
      refine r_aload_n X 0 dX2_text_45 rfl rfl ?_
      refine gl_X2_22 X hph 182 ly_182 dX2_text_46 ?_
      refine r_if_eq X 54 dX2_text_49 (by decide) (fun c11 => ?_) (fun c11 => ?_)
      · replace h := h.1 c11
        refine r_aload_n X 0 dX2_text_54 rfl rfl ?_
        refine gr_X2_7 X hph 13 182 183 ly_182 rfl rfl dX2_text_55 ?_
        refine r_bipush (v := 6) X dX2_text_58 rfl ?_
        refine r_dup2 X dX2_text_60 rfl rfl ?_
        refine r_ialdL X hph 183 5544 ly_183 tn_6 il_6_5544 dX2_text_61 ?_
        refine r_iconst (v := 1) X dX2_text_62 rfl ?_
        refine r_iadd X dX2_text_63 ?_
        refine r_iastL X hph 183 5544 ly_183 tn_6 il_6_5544 dX2_text_64 (fun s12 e13 => ?_)
        replace h := h s12 e13
        refine r_aload_n X 0 dX2_text_65 rfl rfl ?_
        refine gr_X2_7 X hph 13 182 183 ly_182 rfl rfl dX2_text_66 ?_
        refine r_bipush (v := 6) X dX2_text_69 rfl ?_
        refine r_ialdL X hph 183 5544 ly_183 tn_6 il_6_5544 dX2_text_71 ?_
        refine r_iconst (v := 1) X dX2_text_72 rfl ?_
        refine r_isub X dX2_text_73 ?_
        exact r_iret X h (Nat.le_of_ble_eq_true rfl) (Nat.le_of_ble_eq_true rfl) dX2_text_74
      · replace h := h.2 c11
        refine r_iconst (v := (-1)) X dX2_text_52 rfl ?_
        exact r_iret X h (Nat.le_of_ble_eq_true rfl) (Nat.le_of_ble_eq_true rfl) dX2_text_53
    refine r_if_ne X 33 dX2_text_26 (by decide) (fun c6 => ?_) (fun c6 => ?_)
    · rw [if_neg c6] at hJ
      refine r_aload_n X 0 dX2_text_33 rfl rfl ?_
      refine gl_X2_112 X hph 182 ly_182 dX2_text_34 ?_
      exact hJ
    · rw [if_pos c6] at hJ
      refine r_iconst (v := (-1)) X dX2_text_29 rfl ?_
      refine r_goto X 37 dX2_text_30 (by decide) ?_
      exact hJ
  · replace h := h.1 c1
    refine r_iconst (v := (-1)) X dX2_text_11 rfl ?_
    exact r_iret X h (Nat.le_of_ble_eq_true rfl) (Nat.le_of_ble_eq_true rfl) dX2_text_12
theorem m_X2_text (l : Launch) (G : GT) (g : GK G) (hph : kP G = 1) (s : PS) (Q : Int32 → PS → Prop) (h : w_X2_text G s Q) : Met l yX2_text (ws_ yX2_text cX2_text 1 (some .int)) rm_X2_text (va_Pc [.ref (kB G + 182)] (Wr G s)) (va_Qi Q (fun u t => Wr G u t) (kF G)) 0 0 (kF G) := by
  refine Met.ofW (cc := cX2_text) (maxL := 1) (ret := (some .int)) (by decide) rfl ?_
  intro p e s0 m args below meth c s₁ B hml hv
  obtain ⟨rfl, hw⟩ := hv
  exact wb_of [.ref (kB G + 182)] (Nat.le_of_ble_eq_true rfl) hw.1 rfl (e_X2_text (cx_of g B hml rfl hw) hph s Q h)
theorem e_X2_fault {x : CT} {G : GT} (X : Cx x G cX2_fault 2 RX2 (some .int) rm_X2_fault) (hph : kP G = 1) (p1 : Int32) (s : PS) (Q : Int32 → PS → Prop) (h : w_X2_fault G p1 s Q) : WB x G 2 (QfI x G 0 0 Q) 0 0 s 0 [(0, .ref (kB G + 182)), (1, .int p1)] [] := by
  unfold w_X2_fault at h
  refine r_iload_n X 1 dX2_fault_0 rfl rfl ?_
  have hJ : WB x G 2 (QfI x G 0 0 Q) 0 0 s 24 [(0, .ref (kB G + 182)), (1, .int p1)] [.int (if p1 = 0 then (gI s (kB G + 182) 5) else (if p1 = 1 then (gI s (kB G + 182) 6) else (-1) : Int32) : Int32)] := by
    exact r_iret X h (Nat.le_of_ble_eq_true rfl) (Nat.le_of_ble_eq_true rfl) dX2_fault_24
  refine r_if_ne X 11 dX2_fault_1 (by decide) (fun c2 => ?_) (fun c2 => ?_)
  · rw [if_neg c2] at hJ
    refine r_iload_n X 1 dX2_fault_11 rfl rfl ?_
    refine r_iconst (v := 1) X dX2_fault_12 rfl ?_
    refine r_ic_ne X 23 dX2_fault_13 (by decide) (fun c1 => ?_) (fun c1 => ?_)
    · rw [if_neg c1] at hJ
      refine r_iconst (v := (-1)) X dX2_fault_23 rfl ?_
      exact hJ
    · rw [if_pos c1] at hJ
      refine r_aload_n X 0 dX2_fault_16 rfl rfl ?_
      refine gl_X2_26 X hph 182 ly_182 dX2_fault_17 ?_
      refine r_goto X 24 dX2_fault_20 (by decide) ?_
      exact hJ
  · rw [if_pos c2] at hJ
    refine r_aload_n X 0 dX2_fault_4 rfl rfl ?_
    refine gl_X2_22 X hph 182 ly_182 dX2_fault_5 ?_
    refine r_goto X 24 dX2_fault_8 (by decide) ?_
    exact hJ
theorem m_X2_fault (l : Launch) (G : GT) (g : GK G) (hph : kP G = 1) (p1 : Int32) (s : PS) (Q : Int32 → PS → Prop) (h : w_X2_fault G p1 s Q) : Met l yX2_fault (ws_ yX2_fault cX2_fault 2 (some .int)) rm_X2_fault (va_Pc [.ref (kB G + 182), .int p1] (Wr G s)) (va_Qi Q (fun u t => Wr G u t) (kF G)) 0 0 (kF G) := by
  refine Met.ofW (cc := cX2_fault) (maxL := 2) (ret := (some .int)) (by decide) rfl ?_
  intro p e s0 m args below meth c s₁ B hml hv
  obtain ⟨rfl, hw⟩ := hv
  exact wb_of [.ref (kB G + 182), .int p1] (Nat.le_of_ble_eq_true rfl) hw.1 rfl (e_X2_fault (cx_of g B hml rfl hw) hph p1 s Q h)
theorem e_X2_by {x : CT} {G : GT} (X : Cx x G cX2_by 2 RX2 (some .boolean) rm_X2_by) (hph : kP G = 1) (p1 : Int32) (s : PS) (Q : Int32 → PS → Prop) (h : w_X2_by G p1 s Q) : WB x G 2 (QfI x G 0 0 (fun r u => (r = 0 ∨ r = 1) ∧ Q r u)) 0 0 s 0 [(0, .ref (kB G + 182)), (1, .int p1)] [] := by
  unfold w_X2_by at h
  refine r_iload_n X 1 dX2_by_0 rfl rfl ?_
  refine r_iconst (v := (-1)) X dX2_by_1 rfl ?_
  refine r_aload_n X 0 dX2_by_2 rfl rfl ?_
  refine gr_X2_7 X hph 13 182 183 ly_182 rfl rfl dX2_by_3 ?_
  refine r_bipush (v := 6) X dX2_by_6 rfl ?_
  refine r_ialdL X hph 183 5544 ly_183 tn_6 il_6_5544 dX2_by_8 ?_
  refine r_iconst (v := 1) X dX2_by_9 rfl ?_
  refine r_isub X dX2_by_10 ?_
  refine r_ci X (r_okS (As := [.int p1, .int (-1), .int ((gI s (kB G + 183) 6) - 1)]) (rest := []) X (m_X2_isIn (xl x) G X.2.2.2.2.1 p1 (-1) ((gI s (kB G + 183) 6) - 1) s _ h) (cl_X2_80 X ⟨(Nat.le_of_ble_eq_true rfl), (Nat.le_of_ble_eq_true rfl)⟩) rfl rfl (Nat.le_of_ble_eq_true rfl) dX2_by_11 ⟨Nat.le_of_ble_eq_true rfl, Nat.le_of_ble_eq_true rfl⟩) (fun r2 s1 h => ?_)
  obtain ⟨z3, h⟩ := h
  refine r_if_ne X 19 dX2_by_14 (by decide) (fun c4 => ?_) (fun c4 => ?_)
  · replace h := h.2 c4
    refine r_aload_n X 0 dX2_by_19 rfl rfl ?_
    refine gr_X2_7 X hph 13 182 183 ly_182 rfl rfl dX2_by_20 ?_
    refine r_bipush (v := 7) X dX2_by_23 rfl ?_
    refine r_iload_n X 1 dX2_by_25 rfl rfl ?_
    refine r_iastL X hph 183 5544 ly_183 tn_7 il_7_5544 dX2_by_26 (fun s5 e6 => ?_)
    replace h := h s5 e6
    refine r_iconst (v := 1) X dX2_by_27 rfl ?_
    exact r_zret X (Or.inr rfl) h (Nat.le_of_ble_eq_true rfl) (Nat.le_of_ble_eq_true rfl) dX2_by_28
  · replace h := h.1 c4
    refine r_iconst (v := 0) X dX2_by_17 rfl ?_
    exact r_zret X (Or.inl rfl) h (Nat.le_of_ble_eq_true rfl) (Nat.le_of_ble_eq_true rfl) dX2_by_18
theorem m_X2_by (l : Launch) (G : GT) (g : GK G) (hph : kP G = 1) (p1 : Int32) (s : PS) (Q : Int32 → PS → Prop) (h : w_X2_by G p1 s Q) : Met l yX2_by (ws_ yX2_by cX2_by 2 (some .boolean)) rm_X2_by (va_Pc [.ref (kB G + 182), .int p1] (Wr G s)) (va_Qi (fun r u => (r = 0 ∨ r = 1) ∧ Q r u) (fun u t => Wr G u t) (kF G)) 0 0 (kF G) := by
  refine Met.ofW (cc := cX2_by) (maxL := 2) (ret := (some .boolean)) (by decide) rfl ?_
  intro p e s0 m args below meth c s₁ B hml hv
  obtain ⟨rfl, hw⟩ := hv
  exact wb_of [.ref (kB G + 182), .int p1] (Nat.le_of_ble_eq_true rfl) hw.1 rfl (e_X2_by (cx_of g B hml rfl hw) hph p1 s Q h)
theorem tb_X2_undo_129 {x : CT} {G : GT} (X : Cx x G cX2_undo 3 RX2 (some .int) rm_X2_undo) (hph : kP G = 1) (Q : Int32 → PS → Prop) (K74 : Int32 → PS → Prop) (v1 : Int32) (v2 : Int32) (t0 : Nat) (t1 : Int32) (t2 : Int32) (s : PS) (hK74 : ∀ (v2' : Int32) (s' : PS), K74 v2' s' → WB x G 3 (QfI x G 0 0 Q) 0 0 s' 74 [(0, .ref (kB G + 182)), (1, .int v1), (2, .int v2')] []) (h : b_X2_undo_129 G Q K74 v1 v2 t0 t1 t2 s) : WB x G 3 (QfI x G 0 0 Q) 0 0 s 129 [(0, .ref (kB G + 182)), (1, .int v1), (2, .int v2)] [.int t2, .int t1, .ref t0] := by
  unfold b_X2_undo_129 at h
  obtain ⟨g1, h⟩ := h
  obtain ⟨g2, h⟩ := h
  obtain ⟨g3, h⟩ := h
  refine r_iast X g1 g2 g3 dX2_undo_129 (fun s4 e5 => ?_)
  replace h := h s4 e5
  refine r_iinc (lv' := [(2, .int (v2 + 1)), (0, .ref (kB G + 182)), (1, .int v1)]) X 2 dX2_undo_130 rfl rfl (Nat.le_of_ble_eq_true rfl) rfl ?_
  refine r_goto X 74 dX2_undo_133 (by decide) ?_
  refine r_sub [1, 2, 0] rfl ?_
  exact hK74 (v2 + 1) s4 h
theorem tb_X2_undo_128 {x : CT} {G : GT} (X : Cx x G cX2_undo 3 RX2 (some .int) rm_X2_undo) (hph : kP G = 1) (Q : Int32 → PS → Prop) (K74 : Int32 → PS → Prop) (v1 : Int32) (v2 : Int32) (t0 : Nat) (t1 : Int32) (s : PS) (hK74 : ∀ (v2' : Int32) (s' : PS), K74 v2' s' → WB x G 3 (QfI x G 0 0 Q) 0 0 s' 74 [(0, .ref (kB G + 182)), (1, .int v1), (2, .int v2')] []) (h : b_X2_undo_128 G Q K74 v1 v2 t0 t1 s) : WB x G 3 (QfI x G 0 0 Q) 0 0 s 128 [(0, .ref (kB G + 182)), (1, .int v1), (2, .int v2)] [.int t1, .ref t0] := by
  unfold b_X2_undo_128 at h
  refine r_iconst (v := 0) X dX2_undo_128 rfl ?_
  exact tb_X2_undo_129 X hph Q K74 v1 v2 t0 t1 0 s hK74 h
theorem tl_X2_undo_74 {x : CT} {G : GT} (X : Cx x G cX2_undo 3 RX2 (some .int) rm_X2_undo) (hph : kP G = 1) (Q : Int32 → PS → Prop) (v1 : Int32) : ∀ (n : Nat) (v2 : Int32) (s : PS) (h : l_X2_undo_74 G Q v1 n v2 s), WB x G 3 (QfI x G 0 0 Q) 0 0 s 74 [(0, .ref (kB G + 182)), (1, .int v1), (2, .int v2)] [] := by
  intro n
  induction n with
  | zero =>
    intro v2 s h
    exact False.elim h
  | succ n ih =>
    intro v2 s h
    unfold l_X2_undo_74 at h
    refine r_iload_n X 2 dX2_undo_74 rfl rfl ?_
    refine r_bipush (v := 36) X dX2_undo_75 rfl ?_
    refine r_ic_ge X 136 dX2_undo_77 (by decide) (fun c1 => ?_) (fun c1 => ?_)
    · replace h := h.1 c1
      refine r_aload_n X 0 dX2_undo_136 rfl rfl ?_
      refine gr_X2_7 X hph 13 182 183 ly_182 rfl rfl dX2_undo_137 ?_
      refine r_iconst (v := 4) X dX2_undo_140 rfl ?_
      refine r_aload_n X 0 dX2_undo_141 rfl rfl ?_
      refine gr_X2_7 X hph 13 182 183 ly_182 rfl rfl dX2_undo_142 ?_
      refine r_iload_n X 1 dX2_undo_145 rfl rfl ?_
      refine r_bipush (v := 43) X dX2_undo_146 rfl ?_
      refine r_iadd X dX2_undo_148 ?_
      obtain ⟨g2, h⟩ := h
      refine r_ialdL X hph 183 5544 ly_183 rfl g2 dX2_undo_149 ?_
      refine r_iastL X hph 183 5544 ly_183 tn_4 il_4_5544 dX2_undo_150 (fun s3 e4 => ?_)
      replace h := h s3 e4
      refine r_aload_n X 0 dX2_undo_151 rfl rfl ?_
      refine gr_X2_7 X hph 13 182 183 ly_182 rfl rfl dX2_undo_152 ?_
      refine r_bipush (v := 11) X dX2_undo_155 rfl ?_
      refine r_aload_n X 0 dX2_undo_157 rfl rfl ?_
      refine gr_X2_7 X hph 13 182 183 ly_182 rfl rfl dX2_undo_158 ?_
      refine r_iload_n X 1 dX2_undo_161 rfl rfl ?_
      refine r_bipush (v := 44) X dX2_undo_162 rfl ?_
      refine r_iadd X dX2_undo_164 ?_
      obtain ⟨g5, h⟩ := h
      refine r_ialdL X hph 183 5544 ly_183 rfl g5 dX2_undo_165 ?_
      refine r_iastL X hph 183 5544 ly_183 tn_11 il_11_5544 dX2_undo_166 (fun s6 e7 => ?_)
      replace h := h s6 e7
      refine r_aload_n X 0 dX2_undo_167 rfl rfl ?_
      refine gr_X2_7 X hph 13 182 183 ly_182 rfl rfl dX2_undo_168 ?_
      refine r_iconst (v := 5) X dX2_undo_171 rfl ?_
      refine r_aload_n X 0 dX2_undo_172 rfl rfl ?_
      refine gr_X2_7 X hph 13 182 183 ly_182 rfl rfl dX2_undo_173 ?_
      refine r_iload_n X 1 dX2_undo_176 rfl rfl ?_
      refine r_bipush (v := 45) X dX2_undo_177 rfl ?_
      refine r_iadd X dX2_undo_179 ?_
      obtain ⟨g8, h⟩ := h
      refine r_ialdL X hph 183 5544 ly_183 rfl g8 dX2_undo_180 ?_
      refine r_iastL X hph 183 5544 ly_183 tn_5 il_5_5544 dX2_undo_181 (fun s9 e10 => ?_)
      replace h := h s9 e10
      refine r_aload_n X 0 dX2_undo_182 rfl rfl ?_
      refine gr_X2_7 X hph 13 182 183 ly_182 rfl rfl dX2_undo_183 ?_
      refine r_bipush (v := 8) X dX2_undo_186 rfl ?_
      refine r_ialdL X hph 183 5544 ly_183 tn_8 il_8_5544 dX2_undo_188 ?_
      exact r_iret X h (Nat.le_of_ble_eq_true rfl) (Nat.le_of_ble_eq_true rfl) dX2_undo_189
    · replace h := h.2 c1
      refine r_aload_n X 0 dX2_undo_80 rfl rfl ?_
      refine gr_X2_7 X hph 13 182 183 ly_182 rfl rfl dX2_undo_81 ?_
      refine r_bipush (v := 18) X dX2_undo_84 rfl ?_
      refine r_iload_n X 2 dX2_undo_86 rfl rfl ?_
      refine r_iadd X dX2_undo_87 ?_
      refine r_iload_n X 2 dX2_undo_88 rfl rfl ?_
      refine r_bipush (v := 6) X dX2_undo_89 rfl ?_
      refine r_idiv X dX2_undo_91 (by decide) ?_
      refine r_aload_n X 0 dX2_undo_92 rfl rfl ?_
      refine gr_X2_7 X hph 13 182 183 ly_182 rfl rfl dX2_undo_93 ?_
      refine r_iload_n X 1 dX2_undo_96 rfl rfl ?_
      obtain ⟨g11, h⟩ := h
      refine r_ialdL X hph 183 5544 ly_183 rfl g11 dX2_undo_97 ?_
      refine r_ic_ge X 128 dX2_undo_98 (by decide) (fun c12 => ?_) (fun c12 => ?_)
      · replace h := h.1 c12
        exact tb_X2_undo_128 X hph Q (l_X2_undo_74 G Q v1 n) v1 v2 (kB G + 183) (18 + v2) s ih h
      · replace h := h.2 c12
        refine r_iload_n X 2 dX2_undo_101 rfl rfl ?_
        refine r_bipush (v := 6) X dX2_undo_102 rfl ?_
        refine r_irem X dX2_undo_104 (by decide) ?_
        refine r_aload_n X 0 dX2_undo_105 rfl rfl ?_
        refine gr_X2_7 X hph 13 182 183 ly_182 rfl rfl dX2_undo_106 ?_
        refine r_iload_n X 1 dX2_undo_109 rfl rfl ?_
        refine r_ialdL X hph 183 5544 ly_183 rfl g11 dX2_undo_110 ?_
        refine r_ic_ge X 128 dX2_undo_111 (by decide) (fun c13 => ?_) (fun c13 => ?_)
        · replace h := h.1 c13
          exact tb_X2_undo_128 X hph Q (l_X2_undo_74 G Q v1 n) v1 v2 (kB G + 183) (18 + v2) s ih h
        · replace h := h.2 c13
          refine r_aload_n X 0 dX2_undo_114 rfl rfl ?_
          refine gr_X2_7 X hph 13 182 183 ly_182 rfl rfl dX2_undo_115 ?_
          refine r_iload_n X 1 dX2_undo_118 rfl rfl ?_
          refine r_bipush (v := 7) X dX2_undo_119 rfl ?_
          refine r_iadd X dX2_undo_121 ?_
          refine r_iload_n X 2 dX2_undo_122 rfl rfl ?_
          refine r_iadd X dX2_undo_123 ?_
          obtain ⟨g14, h⟩ := h
          refine r_ialdL X hph 183 5544 ly_183 rfl g14 dX2_undo_124 ?_
          refine r_goto X 129 dX2_undo_125 (by decide) ?_
          exact tb_X2_undo_129 X hph Q (l_X2_undo_74 G Q v1 n) v1 v2 (kB G + 183) (18 + v2) (gI s (kB G + 183) ((v1 + 7) + v2).toNatClampNeg) s ih h
theorem tl_X2_undo_40 {x : CT} {G : GT} (X : Cx x G cX2_undo 3 RX2 (some .int) rm_X2_undo) (hph : kP G = 1) (Q : Int32 → PS → Prop) (v1 : Int32) : ∀ (n : Nat) (v2 : Int32) (s : PS) (h : l_X2_undo_40 G Q v1 n v2 s), WB x G 3 (QfI x G 0 0 Q) 0 0 s 40 [(0, .ref (kB G + 182)), (1, .int v1), (2, .int v2)] [] := by
  intro n
  induction n with
  | zero =>
    intro v2 s h
    exact False.elim h
  | succ n ih =>
    intro v2 s h
    unfold l_X2_undo_40 at h
    refine r_iload_n X 2 dX2_undo_40 rfl rfl ?_
    refine r_bipush (v := 6) X dX2_undo_41 rfl ?_
    refine r_ic_ge X 72 dX2_undo_43 (by decide) (fun c1 => ?_) (fun c1 => ?_)
    · replace h := h.1 c1
      refine r_iconst (v := 0) X dX2_undo_72 rfl ?_
      refine r_istore_n (lv' := [(2, .int 0), (0, .ref (kB G + 182)), (1, .int v1)]) X dX2_undo_73 rfl (Nat.le_of_ble_eq_true rfl) rfl ?_
      refine r_sub [1, 2, 0] rfl ?_
      obtain ⟨n2, h⟩ := h
      exact tl_X2_undo_74 X hph Q v1 n2 0 s h
    · replace h := h.2 c1
      refine r_aload_n X 0 dX2_undo_46 rfl rfl ?_
      refine gr_X2_7 X hph 13 182 183 ly_182 rfl rfl dX2_undo_47 ?_
      refine r_sipush (v := 242) X dX2_undo_50 rfl ?_
      refine r_iload_n X 2 dX2_undo_53 rfl rfl ?_
      refine r_iadd X dX2_undo_54 ?_
      refine r_aload_n X 0 dX2_undo_55 rfl rfl ?_
      refine gr_X2_7 X hph 13 182 183 ly_182 rfl rfl dX2_undo_56 ?_
      refine r_iload_n X 1 dX2_undo_59 rfl rfl ?_
      refine r_iconst (v := 1) X dX2_undo_60 rfl ?_
      refine r_iadd X dX2_undo_61 ?_
      refine r_iload_n X 2 dX2_undo_62 rfl rfl ?_
      refine r_iadd X dX2_undo_63 ?_
      obtain ⟨g3, h⟩ := h
      refine r_ialdL X hph 183 5544 ly_183 rfl g3 dX2_undo_64 ?_
      obtain ⟨g4, h⟩ := h
      refine r_iastL X hph 183 5544 ly_183 rfl g4 dX2_undo_65 (fun s5 e6 => ?_)
      replace h := h s5 e6
      refine r_iinc (lv' := [(2, .int (v2 + 1)), (0, .ref (kB G + 182)), (1, .int v1)]) X 2 dX2_undo_66 rfl rfl (Nat.le_of_ble_eq_true rfl) rfl ?_
      refine r_goto X 40 dX2_undo_69 (by decide) ?_
      refine r_sub [1, 2, 0] rfl ?_
      exact ih (v2 + 1) s5 h
theorem e_X2_undo {x : CT} {G : GT} (X : Cx x G cX2_undo 3 RX2 (some .int) rm_X2_undo) (hph : kP G = 1) (s : PS) (Q : Int32 → PS → Prop) (h : w_X2_undo G s Q) : WB x G 3 (QfI x G 0 0 Q) 0 0 s 0 [(0, .ref (kB G + 182))] [] := by
  unfold w_X2_undo at h
  refine r_aload_n X 0 dX2_undo_0 rfl rfl ?_
  refine gr_X2_7 X hph 13 182 183 ly_182 rfl rfl dX2_undo_1 ?_
  refine r_bipush (v := 8) X dX2_undo_4 rfl ?_
  refine r_ialdL X hph 183 5544 ly_183 tn_8 il_8_5544 dX2_undo_6 ?_
  refine r_if_ne X 12 dX2_undo_7 (by decide) (fun c1 => ?_) (fun c1 => ?_)
  · replace h := h.2 c1
    refine r_aload_n X 0 dX2_undo_12 rfl rfl ?_
    refine gr_X2_7 X hph 13 182 183 ly_182 rfl rfl dX2_undo_13 ?_
    refine r_bipush (v := 8) X dX2_undo_16 rfl ?_
    refine r_dup2 X dX2_undo_18 rfl rfl ?_
    refine r_ialdL X hph 183 5544 ly_183 tn_8 il_8_5544 dX2_undo_19 ?_
    refine r_iconst (v := 1) X dX2_undo_20 rfl ?_
    refine r_isub X dX2_undo_21 ?_
    refine r_iastL X hph 183 5544 ly_183 tn_8 il_8_5544 dX2_undo_22 (fun s2 e3 => ?_)
    replace h := h s2 e3
    refine r_sipush (v := 264) X dX2_undo_23 rfl ?_
    refine r_bipush (v := 48) X dX2_undo_26 rfl ?_
    refine r_aload_n X 0 dX2_undo_28 rfl rfl ?_
    refine gr_X2_7 X hph 13 182 183 ly_182 rfl rfl dX2_undo_29 ?_
    refine r_bipush (v := 8) X dX2_undo_32 rfl ?_
    refine r_ialdL X hph 183 5544 ly_183 tn_8 il_8_5544 dX2_undo_34 ?_
    refine r_imul X dX2_undo_35 ?_
    refine r_iadd X dX2_undo_36 ?_
    refine r_nmI (fun y4 e5 => ?_)
    replace h := h y4 e5
    refine r_istore_n (lv' := [(1, .int y4), (0, .ref (kB G + 182))]) X dX2_undo_37 rfl (Nat.le_of_ble_eq_true rfl) rfl ?_
    refine r_iconst (v := 0) X dX2_undo_38 rfl ?_
    refine r_istore_n (lv' := [(2, .int 0), (1, .int y4), (0, .ref (kB G + 182))]) X dX2_undo_39 rfl (Nat.le_of_ble_eq_true rfl) rfl ?_
    refine r_sub [2, 1, 0] rfl ?_
    obtain ⟨n6, h⟩ := h
    exact tl_X2_undo_40 X hph Q y4 n6 0 s2 h
  · replace h := h.1 c1
    refine r_iconst (v := (-1)) X dX2_undo_10 rfl ?_
    exact r_iret X h (Nat.le_of_ble_eq_true rfl) (Nat.le_of_ble_eq_true rfl) dX2_undo_11
theorem m_X2_undo (l : Launch) (G : GT) (g : GK G) (hph : kP G = 1) (s : PS) (Q : Int32 → PS → Prop) (h : w_X2_undo G s Q) : Met l yX2_undo (ws_ yX2_undo cX2_undo 3 (some .int)) rm_X2_undo (va_Pc [.ref (kB G + 182)] (Wr G s)) (va_Qi Q (fun u t => Wr G u t) (kF G)) 0 0 (kF G) := by
  refine Met.ofW (cc := cX2_undo) (maxL := 3) (ret := (some .int)) (by decide) rfl ?_
  intro p e s0 m args below meth c s₁ B hml hv
  obtain ⟨rfl, hw⟩ := hv
  exact wb_of [.ref (kB G + 182)] (Nat.le_of_ble_eq_true rfl) hw.1 rfl (e_X2_undo (cx_of g B hml rfl hw) hph s Q h)
theorem tl_X2_keep_121 {x : CT} {G : GT} (X : Cx x G cX2_keep 3 RX2 none rm_X2_keep) (hph : kP G = 1) (Q : PS → Prop) (v1 : Int32) : ∀ (n : Nat) (v2 : Int32) (s : PS) (h : l_X2_keep_121 G Q v1 n v2 s), WB x G 3 (QfV x G 0 0 Q) 0 0 s 121 [(0, .ref (kB G + 182)), (1, .int v1), (2, .int v2)] [] := by
  intro n
  induction n with
  | zero =>
    intro v2 s h
    exact False.elim h
  | succ n ih =>
    intro v2 s h
    unfold l_X2_keep_121 at h
    refine r_iload_n X 2 dX2_keep_121 rfl rfl ?_
    refine r_bipush (v := 36) X dX2_keep_122 rfl ?_
    refine r_ic_ge X 153 dX2_keep_124 (by decide) (fun c1 => ?_) (fun c1 => ?_)
    · replace h := h.1 c1
      refine r_aload_n X 0 dX2_keep_153 rfl rfl ?_
      refine gr_X2_7 X hph 13 182 183 ly_182 rfl rfl dX2_keep_154 ?_
      refine r_iload_n X 1 dX2_keep_157 rfl rfl ?_
      refine r_bipush (v := 43) X dX2_keep_158 rfl ?_
      refine r_iadd X dX2_keep_160 ?_
      refine r_aload_n X 0 dX2_keep_161 rfl rfl ?_
      refine gr_X2_7 X hph 13 182 183 ly_182 rfl rfl dX2_keep_162 ?_
      refine r_iconst (v := 4) X dX2_keep_165 rfl ?_
      refine r_ialdL X hph 183 5544 ly_183 tn_4 il_4_5544 dX2_keep_166 ?_
      obtain ⟨g2, h⟩ := h
      refine r_iastL X hph 183 5544 ly_183 rfl g2 dX2_keep_167 (fun s3 e4 => ?_)
      replace h := h s3 e4
      refine r_aload_n X 0 dX2_keep_168 rfl rfl ?_
      refine gr_X2_7 X hph 13 182 183 ly_182 rfl rfl dX2_keep_169 ?_
      refine r_iload_n X 1 dX2_keep_172 rfl rfl ?_
      refine r_bipush (v := 44) X dX2_keep_173 rfl ?_
      refine r_iadd X dX2_keep_175 ?_
      refine r_aload_n X 0 dX2_keep_176 rfl rfl ?_
      refine gr_X2_7 X hph 13 182 183 ly_182 rfl rfl dX2_keep_177 ?_
      refine r_bipush (v := 11) X dX2_keep_180 rfl ?_
      refine r_ialdL X hph 183 5544 ly_183 tn_11 il_11_5544 dX2_keep_182 ?_
      obtain ⟨g5, h⟩ := h
      refine r_iastL X hph 183 5544 ly_183 rfl g5 dX2_keep_183 (fun s6 e7 => ?_)
      replace h := h s6 e7
      refine r_aload_n X 0 dX2_keep_184 rfl rfl ?_
      refine gr_X2_7 X hph 13 182 183 ly_182 rfl rfl dX2_keep_185 ?_
      refine r_iload_n X 1 dX2_keep_188 rfl rfl ?_
      refine r_bipush (v := 45) X dX2_keep_189 rfl ?_
      refine r_iadd X dX2_keep_191 ?_
      refine r_aload_n X 0 dX2_keep_192 rfl rfl ?_
      refine gr_X2_7 X hph 13 182 183 ly_182 rfl rfl dX2_keep_193 ?_
      refine r_iconst (v := 5) X dX2_keep_196 rfl ?_
      refine r_ialdL X hph 183 5544 ly_183 tn_5 il_5_5544 dX2_keep_197 ?_
      obtain ⟨g8, h⟩ := h
      refine r_iastL X hph 183 5544 ly_183 rfl g8 dX2_keep_198 (fun s9 e10 => ?_)
      replace h := h s9 e10
      refine r_aload_n X 0 dX2_keep_199 rfl rfl ?_
      refine gr_X2_7 X hph 13 182 183 ly_182 rfl rfl dX2_keep_200 ?_
      refine r_bipush (v := 8) X dX2_keep_203 rfl ?_
      refine r_dup2 X dX2_keep_205 rfl rfl ?_
      refine r_ialdL X hph 183 5544 ly_183 tn_8 il_8_5544 dX2_keep_206 ?_
      refine r_iconst (v := 1) X dX2_keep_207 rfl ?_
      refine r_iadd X dX2_keep_208 ?_
      refine r_iastL X hph 183 5544 ly_183 tn_8 il_8_5544 dX2_keep_209 (fun s11 e12 => ?_)
      replace h := h s11 e12
      exact r_vret X h (Nat.le_of_ble_eq_true rfl) (Nat.le_of_ble_eq_true rfl) dX2_keep_210
    · replace h := h.2 c1
      refine r_aload_n X 0 dX2_keep_127 rfl rfl ?_
      refine gr_X2_7 X hph 13 182 183 ly_182 rfl rfl dX2_keep_128 ?_
      refine r_iload_n X 1 dX2_keep_131 rfl rfl ?_
      refine r_bipush (v := 7) X dX2_keep_132 rfl ?_
      refine r_iadd X dX2_keep_134 ?_
      refine r_iload_n X 2 dX2_keep_135 rfl rfl ?_
      refine r_iadd X dX2_keep_136 ?_
      refine r_aload_n X 0 dX2_keep_137 rfl rfl ?_
      refine gr_X2_7 X hph 13 182 183 ly_182 rfl rfl dX2_keep_138 ?_
      refine r_bipush (v := 18) X dX2_keep_141 rfl ?_
      refine r_iload_n X 2 dX2_keep_143 rfl rfl ?_
      refine r_iadd X dX2_keep_144 ?_
      obtain ⟨g13, h⟩ := h
      refine r_ialdL X hph 183 5544 ly_183 rfl g13 dX2_keep_145 ?_
      obtain ⟨g14, h⟩ := h
      refine r_iastL X hph 183 5544 ly_183 rfl g14 dX2_keep_146 (fun s15 e16 => ?_)
      replace h := h s15 e16
      refine r_iinc (lv' := [(2, .int (v2 + 1)), (0, .ref (kB G + 182)), (1, .int v1)]) X 2 dX2_keep_147 rfl rfl (Nat.le_of_ble_eq_true rfl) rfl ?_
      refine r_goto X 121 dX2_keep_150 (by decide) ?_
      refine r_sub [1, 2, 0] rfl ?_
      exact ih (v2 + 1) s15 h
theorem tl_X2_keep_87 {x : CT} {G : GT} (X : Cx x G cX2_keep 3 RX2 none rm_X2_keep) (hph : kP G = 1) (Q : PS → Prop) (v1 : Int32) : ∀ (n : Nat) (v2 : Int32) (s : PS) (h : l_X2_keep_87 G Q v1 n v2 s), WB x G 3 (QfV x G 0 0 Q) 0 0 s 87 [(0, .ref (kB G + 182)), (1, .int v1), (2, .int v2)] [] := by
  intro n
  induction n with
  | zero =>
    intro v2 s h
    exact False.elim h
  | succ n ih =>
    intro v2 s h
    unfold l_X2_keep_87 at h
    refine r_iload_n X 2 dX2_keep_87 rfl rfl ?_
    refine r_bipush (v := 6) X dX2_keep_88 rfl ?_
    refine r_ic_ge X 119 dX2_keep_90 (by decide) (fun c1 => ?_) (fun c1 => ?_)
    · replace h := h.1 c1
      refine r_iconst (v := 0) X dX2_keep_119 rfl ?_
      refine r_istore_n (lv' := [(2, .int 0), (0, .ref (kB G + 182)), (1, .int v1)]) X dX2_keep_120 rfl (Nat.le_of_ble_eq_true rfl) rfl ?_
      refine r_sub [1, 2, 0] rfl ?_
      obtain ⟨n2, h⟩ := h
      exact tl_X2_keep_121 X hph Q v1 n2 0 s h
    · replace h := h.2 c1
      refine r_aload_n X 0 dX2_keep_93 rfl rfl ?_
      refine gr_X2_7 X hph 13 182 183 ly_182 rfl rfl dX2_keep_94 ?_
      refine r_iload_n X 1 dX2_keep_97 rfl rfl ?_
      refine r_iconst (v := 1) X dX2_keep_98 rfl ?_
      refine r_iadd X dX2_keep_99 ?_
      refine r_iload_n X 2 dX2_keep_100 rfl rfl ?_
      refine r_iadd X dX2_keep_101 ?_
      refine r_aload_n X 0 dX2_keep_102 rfl rfl ?_
      refine gr_X2_7 X hph 13 182 183 ly_182 rfl rfl dX2_keep_103 ?_
      refine r_sipush (v := 242) X dX2_keep_106 rfl ?_
      refine r_iload_n X 2 dX2_keep_109 rfl rfl ?_
      refine r_iadd X dX2_keep_110 ?_
      obtain ⟨g3, h⟩ := h
      refine r_ialdL X hph 183 5544 ly_183 rfl g3 dX2_keep_111 ?_
      obtain ⟨g4, h⟩ := h
      refine r_iastL X hph 183 5544 ly_183 rfl g4 dX2_keep_112 (fun s5 e6 => ?_)
      replace h := h s5 e6
      refine r_iinc (lv' := [(2, .int (v2 + 1)), (0, .ref (kB G + 182)), (1, .int v1)]) X 2 dX2_keep_113 rfl rfl (Nat.le_of_ble_eq_true rfl) rfl ?_
      refine r_goto X 87 dX2_keep_116 (by decide) ?_
      refine r_sub [1, 2, 0] rfl ?_
      exact ih (v2 + 1) s5 h
theorem tb_X2_keep_58 {x : CT} {G : GT} (X : Cx x G cX2_keep 3 RX2 none rm_X2_keep) (hph : kP G = 1) (Q : PS → Prop) (s : PS) (h : b_X2_keep_58 G Q s) : WB x G 3 (QfV x G 0 0 Q) 0 0 s 58 [(0, .ref (kB G + 182))] [] := by
  unfold b_X2_keep_58 at h
  refine r_sipush (v := 264) X dX2_keep_58 rfl ?_
  refine r_bipush (v := 48) X dX2_keep_61 rfl ?_
  refine r_aload_n X 0 dX2_keep_63 rfl rfl ?_
  refine gr_X2_7 X hph 13 182 183 ly_182 rfl rfl dX2_keep_64 ?_
  refine r_bipush (v := 8) X dX2_keep_67 rfl ?_
  refine r_ialdL X hph 183 5544 ly_183 tn_8 il_8_5544 dX2_keep_69 ?_
  refine r_imul X dX2_keep_70 ?_
  refine r_iadd X dX2_keep_71 ?_
  refine r_nmI (fun y1 e2 => ?_)
  replace h := h y1 e2
  refine r_istore_n (lv' := [(1, .int y1), (0, .ref (kB G + 182))]) X dX2_keep_72 rfl (Nat.le_of_ble_eq_true rfl) rfl ?_
  refine r_aload_n X 1 dX2_keep_73 rfl rfl ?_
  refine gr_X2_7 X hph 13 182 183 ly_182 rfl rfl dX2_keep_74 ?_
  refine r_iload_n X 0 dX2_keep_77 rfl rfl ?_
  refine r_aload_n X 1 dX2_keep_78 rfl rfl ?_
  refine gr_X2_7 X hph 13 182 183 ly_182 rfl rfl dX2_keep_79 ?_
  refine r_iconst (v := 0) X dX2_keep_82 rfl ?_
  refine r_ialdL X hph 183 5544 ly_183 tn_0 il_0_5544 dX2_keep_83 ?_
  obtain ⟨g3, h⟩ := h
  refine r_iastL X hph 183 5544 ly_183 rfl g3 dX2_keep_84 (fun s4 e5 => ?_)
  replace h := h s4 e5
  refine r_iconst (v := 0) X dX2_keep_85 rfl ?_
  refine r_istore_n (lv' := [(2, .int 0), (1, .int y1), (0, .ref (kB G + 182))]) X dX2_keep_86 rfl (Nat.le_of_ble_eq_true rfl) rfl ?_
  refine r_sub [2, 1, 0] rfl ?_
  obtain ⟨n6, h⟩ := h
  exact tl_X2_keep_87 X hph Q y1 n6 0 s4 h
theorem tl_X2_keep_14 {x : CT} {G : GT} (X : Cx x G cX2_keep 3 RX2 none rm_X2_keep) (hph : kP G = 1) (Q : PS → Prop) : ∀ (n : Nat) (v1 : Int32) (s : PS) (h : l_X2_keep_14 G Q n v1 s), WB x G 3 (QfV x G 0 0 Q) 0 0 s 14 [(0, .ref (kB G + 182)), (1, .int v1)] [] := by
  intro n
  induction n with
  | zero =>
    intro v1 s h
    exact False.elim h
  | succ n ih =>
    intro v1 s h
    unfold l_X2_keep_14 at h
    refine r_iload_n X 1 dX2_keep_14 rfl rfl ?_
    refine r_sipush (v := 1392) X dX2_keep_15 rfl ?_
    refine r_ic_ge X 47 dX2_keep_18 (by decide) (fun c1 => ?_) (fun c1 => ?_)
    · replace h := h.1 c1
      refine r_aload_n X 0 dX2_keep_47 rfl rfl ?_
      refine gr_X2_7 X hph 13 182 183 ly_182 rfl rfl dX2_keep_48 ?_
      refine r_bipush (v := 8) X dX2_keep_51 rfl ?_
      refine r_dup2 X dX2_keep_53 rfl rfl ?_
      refine r_ialdL X hph 183 5544 ly_183 tn_8 il_8_5544 dX2_keep_54 ?_
      refine r_iconst (v := 1) X dX2_keep_55 rfl ?_
      refine r_isub X dX2_keep_56 ?_
      refine r_iastL X hph 183 5544 ly_183 tn_8 il_8_5544 dX2_keep_57 (fun s2 e3 => ?_)
      replace h := h s2 e3
      refine r_sub [0] rfl ?_
      exact tb_X2_keep_58 X hph Q s2 h
    · replace h := h.2 c1
      refine r_aload_n X 0 dX2_keep_21 rfl rfl ?_
      refine gr_X2_7 X hph 13 182 183 ly_182 rfl rfl dX2_keep_22 ?_
      refine r_sipush (v := 264) X dX2_keep_25 rfl ?_
      refine r_iload_n X 1 dX2_keep_28 rfl rfl ?_
      refine r_iadd X dX2_keep_29 ?_
      refine r_aload_n X 0 dX2_keep_30 rfl rfl ?_
      refine gr_X2_7 X hph 13 182 183 ly_182 rfl rfl dX2_keep_31 ?_
      refine r_sipush (v := 312) X dX2_keep_34 rfl ?_
      refine r_iload_n X 1 dX2_keep_37 rfl rfl ?_
      refine r_iadd X dX2_keep_38 ?_
      obtain ⟨g4, h⟩ := h
      refine r_ialdL X hph 183 5544 ly_183 rfl g4 dX2_keep_39 ?_
      obtain ⟨g5, h⟩ := h
      refine r_iastL X hph 183 5544 ly_183 rfl g5 dX2_keep_40 (fun s6 e7 => ?_)
      replace h := h s6 e7
      refine r_iinc (lv' := [(1, .int (v1 + 1)), (0, .ref (kB G + 182))]) X 1 dX2_keep_41 rfl rfl (Nat.le_of_ble_eq_true rfl) rfl ?_
      refine r_goto X 14 dX2_keep_44 (by decide) ?_
      refine r_sub [1, 0] rfl ?_
      exact ih (v1 + 1) s6 h
theorem e_X2_keep {x : CT} {G : GT} (X : Cx x G cX2_keep 3 RX2 none rm_X2_keep) (hph : kP G = 1) (s : PS) (Q : PS → Prop) (h : w_X2_keep G s Q) : WB x G 3 (QfV x G 0 0 Q) 0 0 s 0 [(0, .ref (kB G + 182))] [] := by
  unfold w_X2_keep at h
  refine r_aload_n X 0 dX2_keep_0 rfl rfl ?_
  refine gr_X2_7 X hph 13 182 183 ly_182 rfl rfl dX2_keep_1 ?_
  refine r_bipush (v := 8) X dX2_keep_4 rfl ?_
  refine r_ialdL X hph 183 5544 ly_183 tn_8 il_8_5544 dX2_keep_6 ?_
  refine r_bipush (v := 30) X dX2_keep_7 rfl ?_
  refine r_ic_ne X 58 dX2_keep_9 (by decide) (fun c1 => ?_) (fun c1 => ?_)
  · replace h := h.2 c1
    exact tb_X2_keep_58 X hph Q s h
  · replace h := h.1 c1
    refine r_iconst (v := 0) X dX2_keep_12 rfl ?_
    refine r_istore_n (lv' := [(1, .int 0), (0, .ref (kB G + 182))]) X dX2_keep_13 rfl (Nat.le_of_ble_eq_true rfl) rfl ?_
    refine r_sub [1, 0] rfl ?_
    obtain ⟨n2, h⟩ := h
    exact tl_X2_keep_14 X hph Q n2 0 s h
theorem m_X2_keep (l : Launch) (G : GT) (g : GK G) (hph : kP G = 1) (s : PS) (Q : PS → Prop) (h : w_X2_keep G s Q) : Met l yX2_keep (ws_ yX2_keep cX2_keep 3 none) rm_X2_keep (va_Pc [.ref (kB G + 182)] (Wr G s)) (va_Qv Q (fun u t => Wr G u t) (kF G)) 0 0 (kF G) := by
  refine Met.ofW (cc := cX2_keep) (maxL := 3) (ret := none) (by decide) rfl ?_
  intro p e s0 m args below meth c s₁ B hml hv
  obtain ⟨rfl, hw⟩ := hv
  exact wb_of [.ref (kB G + 182)] (Nat.le_of_ble_eq_true rfl) hw.1 rfl (e_X2_keep (cx_of g B hml rfl hw) hph s Q h)
theorem e_X2_lend {x : CT} {G : GT} (X : Cx x G cX2_lend 4 RX2 (some .boolean) rm_X2_lend) (hph : kP G = 1) (p1 : Int32) (p2 : Int32) (p3 : Int32) (s : PS) (Q : Int32 → PS → Prop) (h : w_X2_lend G p1 p2 p3 s Q) : WB x G 4 (QfI x G 0 0 (fun r u => (r = 0 ∨ r = 1) ∧ Q r u)) 0 0 s 0 [(0, .ref (kB G + 182)), (1, .int p1), (2, .int p2), (3, .int p3)] [] := by
  unfold w_X2_lend at h
  refine r_aload_n X 0 dX2_lend_0 rfl rfl ?_
  refine r_iload_n X 1 dX2_lend_1 rfl rfl ?_
  refine r_ci X (r_okVL (As := [.int p1]) (rest := []) X (m_X2_isHeart (xl x) G X.2.2.2.2.1 hph p1 s _ h) (cl_X2_88 X ⟨(Nat.le_of_ble_eq_true rfl), (Nat.le_of_ble_eq_true rfl)⟩) hph 2 ly_182 rfl rfl rfl rfl (Nat.le_of_ble_eq_true rfl) dX2_lend_2 ⟨Nat.le_of_ble_eq_true rfl, Nat.le_of_ble_eq_true rfl⟩) (fun r2 s1 h => ?_)
  obtain ⟨z3, h⟩ := h
  refine r_if_eq X 49 dX2_lend_5 (by decide) (fun c4 => ?_) (fun c4 => ?_)
  · replace h := h.1 c4
    refine r_iconst (v := 0) X dX2_lend_49 rfl ?_
    exact r_zret X (Or.inl rfl) h (Nat.le_of_ble_eq_true rfl) (Nat.le_of_ble_eq_true rfl) dX2_lend_50
  · replace h := h.2 c4
    refine r_aload_n X 0 dX2_lend_8 rfl rfl ?_
    refine r_iload_n X 2 dX2_lend_9 rfl rfl ?_
    refine r_ci X (r_okVL (As := [.int p2]) (rest := []) X (m_X2_isHeart (xl x) G X.2.2.2.2.1 hph p2 s1 _ h) (cl_X2_88 X ⟨(Nat.le_of_ble_eq_true rfl), (Nat.le_of_ble_eq_true rfl)⟩) hph 2 ly_182 rfl rfl rfl rfl (Nat.le_of_ble_eq_true rfl) dX2_lend_10 ⟨Nat.le_of_ble_eq_true rfl, Nat.le_of_ble_eq_true rfl⟩) (fun r6 s5 h => ?_)
    obtain ⟨z7, h⟩ := h
    refine r_if_eq X 49 dX2_lend_13 (by decide) (fun c8 => ?_) (fun c8 => ?_)
    · replace h := h.1 c8
      refine r_iconst (v := 0) X dX2_lend_49 rfl ?_
      exact r_zret X (Or.inl rfl) h (Nat.le_of_ble_eq_true rfl) (Nat.le_of_ble_eq_true rfl) dX2_lend_50
    · replace h := h.2 c8
      refine r_iload_n X 1 dX2_lend_16 rfl rfl ?_
      refine r_iload_n X 2 dX2_lend_17 rfl rfl ?_
      refine r_ic_eq X 49 dX2_lend_18 (by decide) (fun c9 => ?_) (fun c9 => ?_)
      · replace h := h.1 c9
        refine r_iconst (v := 0) X dX2_lend_49 rfl ?_
        exact r_zret X (Or.inl rfl) h (Nat.le_of_ble_eq_true rfl) (Nat.le_of_ble_eq_true rfl) dX2_lend_50
      · replace h := h.2 c9
        refine r_iload_n X 3 dX2_lend_21 rfl rfl ?_
        refine r_iconst (v := 0) X dX2_lend_22 rfl ?_
        refine r_bipush (v := 99) X dX2_lend_23 rfl ?_
        refine r_ci X (r_okS (As := [.int p3, .int 0, .int 99]) (rest := []) X (m_X2_isIn (xl x) G X.2.2.2.2.1 p3 0 99 s5 _ h) (cl_X2_80 X ⟨(Nat.le_of_ble_eq_true rfl), (Nat.le_of_ble_eq_true rfl)⟩) rfl rfl (Nat.le_of_ble_eq_true rfl) dX2_lend_25 ⟨Nat.le_of_ble_eq_true rfl, Nat.le_of_ble_eq_true rfl⟩) (fun r11 s10 h => ?_)
        obtain ⟨z12, h⟩ := h
        refine r_if_eq X 49 dX2_lend_28 (by decide) (fun c13 => ?_) (fun c13 => ?_)
        · replace h := h.1 c13
          refine r_iconst (v := 0) X dX2_lend_49 rfl ?_
          exact r_zret X (Or.inl rfl) h (Nat.le_of_ble_eq_true rfl) (Nat.le_of_ble_eq_true rfl) dX2_lend_50
        · replace h := h.2 c13
          refine r_aload_n X 0 dX2_lend_31 rfl rfl ?_
          refine gr_X2_7 X hph 13 182 183 ly_182 rfl rfl dX2_lend_32 ?_
          refine r_bipush (v := 18) X dX2_lend_35 rfl ?_
          refine r_bipush (v := 6) X dX2_lend_37 rfl ?_
          refine r_iload_n X 1 dX2_lend_39 rfl rfl ?_
          refine r_imul X dX2_lend_40 ?_
          refine r_iadd X dX2_lend_41 ?_
          refine r_iload_n X 2 dX2_lend_42 rfl rfl ?_
          refine r_iadd X dX2_lend_43 ?_
          obtain ⟨g14, h⟩ := h
          refine r_ialdL X hph 183 5544 ly_183 rfl g14 dX2_lend_44 ?_
          refine r_iload_n X 3 dX2_lend_45 rfl rfl ?_
          refine r_ic_ne X 51 dX2_lend_46 (by decide) (fun c15 => ?_) (fun c15 => ?_)
          · replace h := h.2 c15
            refine r_aload_n X 0 dX2_lend_51 rfl rfl ?_
            refine r_cv X (r_okVL (As := []) (rest := []) X (m_X2_keep (xl x) G X.2.2.2.2.1 hph s10 _ h) (cl_X2_318 X ⟨(Nat.le_of_ble_eq_true rfl), (Nat.le_of_ble_eq_true rfl)⟩) hph 2 ly_182 rfl rfl rfl rfl (Nat.le_of_ble_eq_true rfl) dX2_lend_52 ⟨Nat.le_of_ble_eq_true rfl, Nat.le_of_ble_eq_true rfl⟩) (fun s16 h => ?_)
            refine r_aload_n X 0 dX2_lend_55 rfl rfl ?_
            refine gr_X2_7 X hph 13 182 183 ly_182 rfl rfl dX2_lend_56 ?_
            refine r_bipush (v := 18) X dX2_lend_59 rfl ?_
            refine r_bipush (v := 6) X dX2_lend_61 rfl ?_
            refine r_iload_n X 1 dX2_lend_63 rfl rfl ?_
            refine r_imul X dX2_lend_64 ?_
            refine r_iadd X dX2_lend_65 ?_
            refine r_iload_n X 2 dX2_lend_66 rfl rfl ?_
            refine r_iadd X dX2_lend_67 ?_
            refine r_iload_n X 3 dX2_lend_68 rfl rfl ?_
            refine r_iastL X hph 183 5544 ly_183 rfl g14 dX2_lend_69 (fun s17 e18 => ?_)
            replace h := h s17 e18
            refine r_iconst (v := 1) X dX2_lend_70 rfl ?_
            exact r_zret X (Or.inr rfl) h (Nat.le_of_ble_eq_true rfl) (Nat.le_of_ble_eq_true rfl) dX2_lend_71
          · replace h := h.1 c15
            refine r_iconst (v := 0) X dX2_lend_49 rfl ?_
            exact r_zret X (Or.inl rfl) h (Nat.le_of_ble_eq_true rfl) (Nat.le_of_ble_eq_true rfl) dX2_lend_50
theorem m_X2_lend (l : Launch) (G : GT) (g : GK G) (hph : kP G = 1) (p1 : Int32) (p2 : Int32) (p3 : Int32) (s : PS) (Q : Int32 → PS → Prop) (h : w_X2_lend G p1 p2 p3 s Q) : Met l yX2_lend (ws_ yX2_lend cX2_lend 4 (some .boolean)) rm_X2_lend (va_Pc [.ref (kB G + 182), .int p1, .int p2, .int p3] (Wr G s)) (va_Qi (fun r u => (r = 0 ∨ r = 1) ∧ Q r u) (fun u t => Wr G u t) (kF G)) 0 0 (kF G) := by
  refine Met.ofW (cc := cX2_lend) (maxL := 4) (ret := (some .boolean)) (by decide) rfl ?_
  intro p e s0 m args below meth c s₁ B hml hv
  obtain ⟨rfl, hw⟩ := hv
  exact wb_of [.ref (kB G + 182), .int p1, .int p2, .int p3] (Nat.le_of_ble_eq_true rfl) hw.1 rfl (e_X2_lend (cx_of g B hml rfl hw) hph p1 p2 p3 s Q h)
theorem tl_X2_lentOf_4 {x : CT} {G : GT} (X : Cx x G cX2_lentOf 4 RX2 (some .int) rm_X2_lentOf) (hph : kP G = 1) (Q : Int32 → PS → Prop) (v1 : Int32) : ∀ (n : Nat) (v2 : Int32) (v3 : Int32) (s : PS) (h : l_X2_lentOf_4 G Q v1 n v2 v3 s), WB x G 4 (QfI x G 0 0 Q) 0 0 s 4 [(0, .ref (kB G + 182)), (1, .int v1), (2, .int v2), (3, .int v3)] [] := by
  intro n
  induction n with
  | zero =>
    intro v2 v3 s h
    exact False.elim h
  | succ n ih =>
    intro v2 v3 s h
    unfold l_X2_lentOf_4 at h
    refine r_iload_n X 3 dX2_lentOf_4 rfl rfl ?_
    refine r_bipush (v := 6) X dX2_lentOf_5 rfl ?_
    refine r_ic_ge X 48 dX2_lentOf_7 (by decide) (fun c1 => ?_) (fun c1 => ?_)
    · replace h := h.1 c1
      refine r_iload_n X 2 dX2_lentOf_48 rfl rfl ?_
      exact r_iret X h (Nat.le_of_ble_eq_true rfl) (Nat.le_of_ble_eq_true rfl) dX2_lentOf_49
    · replace h := h.2 c1
      refine r_iload_n X 2 dX2_lentOf_10 rfl rfl ?_
      refine r_aload_n X 0 dX2_lentOf_11 rfl rfl ?_
      refine gr_X2_7 X hph 13 182 183 ly_182 rfl rfl dX2_lentOf_12 ?_
      refine r_bipush (v := 18) X dX2_lentOf_15 rfl ?_
      refine r_bipush (v := 6) X dX2_lentOf_17 rfl ?_
      refine r_iload_n X 3 dX2_lentOf_19 rfl rfl ?_
      refine r_imul X dX2_lentOf_20 ?_
      refine r_iadd X dX2_lentOf_21 ?_
      refine r_iload_n X 1 dX2_lentOf_22 rfl rfl ?_
      refine r_iadd X dX2_lentOf_23 ?_
      obtain ⟨g2, h⟩ := h
      refine r_ialdL X hph 183 5544 ly_183 rfl g2 dX2_lentOf_24 ?_
      refine r_aload_n X 0 dX2_lentOf_25 rfl rfl ?_
      refine gr_X2_7 X hph 13 182 183 ly_182 rfl rfl dX2_lentOf_26 ?_
      refine r_bipush (v := 18) X dX2_lentOf_29 rfl ?_
      refine r_bipush (v := 6) X dX2_lentOf_31 rfl ?_
      refine r_iload_n X 1 dX2_lentOf_33 rfl rfl ?_
      refine r_imul X dX2_lentOf_34 ?_
      refine r_iadd X dX2_lentOf_35 ?_
      refine r_iload_n X 3 dX2_lentOf_36 rfl rfl ?_
      refine r_iadd X dX2_lentOf_37 ?_
      obtain ⟨g3, h⟩ := h
      refine r_ialdL X hph 183 5544 ly_183 rfl g3 dX2_lentOf_38 ?_
      refine r_isub X dX2_lentOf_39 ?_
      refine r_iadd X dX2_lentOf_40 ?_
      refine r_nmI (fun y4 e5 => ?_)
      replace h := h y4 e5
      refine r_istore_n (lv' := [(2, .int y4), (0, .ref (kB G + 182)), (1, .int v1), (3, .int v3)]) X dX2_lentOf_41 rfl (Nat.le_of_ble_eq_true rfl) rfl ?_
      refine r_iinc (lv' := [(3, .int (v3 + 1)), (2, .int y4), (0, .ref (kB G + 182)), (1, .int v1)]) X 3 dX2_lentOf_42 rfl rfl (Nat.le_of_ble_eq_true rfl) rfl ?_
      refine r_goto X 4 dX2_lentOf_45 (by decide) ?_
      refine r_sub [2, 3, 1, 0] rfl ?_
      exact ih y4 (v3 + 1) s h
theorem e_X2_lentOf {x : CT} {G : GT} (X : Cx x G cX2_lentOf 4 RX2 (some .int) rm_X2_lentOf) (hph : kP G = 1) (p1 : Int32) (s : PS) (Q : Int32 → PS → Prop) (h : w_X2_lentOf G p1 s Q) : WB x G 4 (QfI x G 0 0 Q) 0 0 s 0 [(0, .ref (kB G + 182)), (1, .int p1)] [] := by
  unfold w_X2_lentOf at h
  refine r_iconst (v := 0) X dX2_lentOf_0 rfl ?_
  refine r_istore_n (lv' := [(2, .int 0), (0, .ref (kB G + 182)), (1, .int p1)]) X dX2_lentOf_1 rfl (Nat.le_of_ble_eq_true rfl) rfl ?_
  refine r_iconst (v := 0) X dX2_lentOf_2 rfl ?_
  refine r_istore_n (lv' := [(3, .int 0), (2, .int 0), (0, .ref (kB G + 182)), (1, .int p1)]) X dX2_lentOf_3 rfl (Nat.le_of_ble_eq_true rfl) rfl ?_
  refine r_sub [2, 3, 1, 0] rfl ?_
  obtain ⟨n1, h⟩ := h
  exact tl_X2_lentOf_4 X hph Q p1 n1 0 0 s h
theorem m_X2_lentOf (l : Launch) (G : GT) (g : GK G) (hph : kP G = 1) (p1 : Int32) (s : PS) (Q : Int32 → PS → Prop) (h : w_X2_lentOf G p1 s Q) : Met l yX2_lentOf (ws_ yX2_lentOf cX2_lentOf 4 (some .int)) rm_X2_lentOf (va_Pc [.ref (kB G + 182), .int p1] (Wr G s)) (va_Qi Q (fun u t => Wr G u t) (kF G)) 0 0 (kF G) := by
  refine Met.ofW (cc := cX2_lentOf) (maxL := 4) (ret := (some .int)) (by decide) rfl ?_
  intro p e s0 m args below meth c s₁ B hml hv
  obtain ⟨rfl, hw⟩ := hv
  exact wb_of [.ref (kB G + 182), .int p1] (Nat.le_of_ble_eq_true rfl) hw.1 rfl (e_X2_lentOf (cx_of g B hml rfl hw) hph p1 s Q h)
theorem tl_X2_bits_4 {x : CT} {G : GT} (X : Cx x G cX2_bits 3 RX2 (some .int) rm_X2_bits) (Q : Int32 → PS → Prop) (v0 : Int32) : ∀ (n : Nat) (v1 : Int32) (v2 : Int32) (s : PS) (h : l_X2_bits_4 G Q v0 n v1 v2 s), WB x G 3 (QfI x G 0 0 Q) 0 0 s 4 [(0, .int v0), (1, .int v1), (2, .int v2)] [] := by
  intro n
  induction n with
  | zero =>
    intro v1 v2 s h
    exact False.elim h
  | succ n ih =>
    intro v1 v2 s h
    unfold l_X2_bits_4 at h
    refine r_iload_n X 2 dX2_bits_4 rfl rfl ?_
    refine r_bipush (v := 24) X dX2_bits_5 rfl ?_
    refine r_ic_ge X 24 dX2_bits_7 (by decide) (fun c1 => ?_) (fun c1 => ?_)
    · replace h := h.1 c1
      refine r_iload_n X 1 dX2_bits_24 rfl rfl ?_
      exact r_iret X h (Nat.le_of_ble_eq_true rfl) (Nat.le_of_ble_eq_true rfl) dX2_bits_25
    · replace h := h.2 c1
      refine r_iload_n X 1 dX2_bits_10 rfl rfl ?_
      refine r_iload_n X 0 dX2_bits_11 rfl rfl ?_
      refine r_iload_n X 2 dX2_bits_12 rfl rfl ?_
      refine r_ishr X dX2_bits_13 ?_
      refine r_iconst (v := 1) X dX2_bits_14 rfl ?_
      refine r_iand X dX2_bits_15 ?_
      refine r_iadd X dX2_bits_16 ?_
      refine r_nmI (fun y2 e3 => ?_)
      replace h := h y2 e3
      refine r_istore_n (lv' := [(1, .int y2), (0, .int v0), (2, .int v2)]) X dX2_bits_17 rfl (Nat.le_of_ble_eq_true rfl) rfl ?_
      refine r_iinc (lv' := [(2, .int (v2 + 1)), (1, .int y2), (0, .int v0)]) X 2 dX2_bits_18 rfl rfl (Nat.le_of_ble_eq_true rfl) rfl ?_
      refine r_goto X 4 dX2_bits_21 (by decide) ?_
      refine r_sub [2, 1, 0] rfl ?_
      exact ih y2 (v2 + 1) s h
theorem e_X2_bits {x : CT} {G : GT} (X : Cx x G cX2_bits 3 RX2 (some .int) rm_X2_bits) (p1 : Int32) (s : PS) (Q : Int32 → PS → Prop) (h : w_X2_bits G p1 s Q) : WB x G 3 (QfI x G 0 0 Q) 0 0 s 0 [(0, .int p1)] [] := by
  unfold w_X2_bits at h
  refine r_iconst (v := 0) X dX2_bits_0 rfl ?_
  refine r_istore_n (lv' := [(1, .int 0), (0, .int p1)]) X dX2_bits_1 rfl (Nat.le_of_ble_eq_true rfl) rfl ?_
  refine r_iconst (v := 0) X dX2_bits_2 rfl ?_
  refine r_istore_n (lv' := [(2, .int 0), (1, .int 0), (0, .int p1)]) X dX2_bits_3 rfl (Nat.le_of_ble_eq_true rfl) rfl ?_
  refine r_sub [2, 1, 0] rfl ?_
  obtain ⟨n1, h⟩ := h
  exact tl_X2_bits_4 X Q p1 n1 0 0 s h
theorem m_X2_bits (l : Launch) (G : GT) (g : GK G) (p1 : Int32) (s : PS) (Q : Int32 → PS → Prop) (h : w_X2_bits G p1 s Q) : Met l yX2_bits (ws_ yX2_bits cX2_bits 3 (some .int)) rm_X2_bits (va_Pc [.int p1] (Wr G s)) (va_Qi Q (fun u t => Wr G u t) (kF G)) 0 0 (kF G) := by
  refine Met.ofW (cc := cX2_bits) (maxL := 3) (ret := (some .int)) (by decide) rfl ?_
  intro p e s0 m args below meth c s₁ B hml hv
  obtain ⟨rfl, hw⟩ := hv
  exact wb_of [.int p1] (Nat.le_of_ble_eq_true rfl) hw.1 rfl (e_X2_bits (cx_of g B hml rfl hw) p1 s Q h)
theorem tl_X2_clauseOf_2 {x : CT} {G : GT} (X : Cx x G cX2_clauseOf 4 RX2 (some .int) rm_X2_clauseOf) (hph : kP G = 1) (Q : Int32 → PS → Prop) (v1 : Int32) (v2 : Int32) : ∀ (n : Nat) (v3 : Int32) (s : PS) (h : l_X2_clauseOf_2 G Q v1 v2 n v3 s), WB x G 4 (QfI x G 0 0 Q) 0 0 s 2 [(0, .ref (kB G + 182)), (1, .int v1), (2, .int v2), (3, .int v3)] [] := by
  intro n
  induction n with
  | zero =>
    intro v3 s h
    exact False.elim h
  | succ n ih =>
    intro v3 s h
    unfold l_X2_clauseOf_2 at h
    refine r_iload_n X 1 dX2_clauseOf_2 rfl rfl ?_
    refine r_if_lt X 49 dX2_clauseOf_3 (by decide) (fun c1 => ?_) (fun c1 => ?_)
    · replace h := h.1 c1
      refine r_iconst (v := (-1)) X dX2_clauseOf_49 rfl ?_
      exact r_iret X h (Nat.le_of_ble_eq_true rfl) (Nat.le_of_ble_eq_true rfl) dX2_clauseOf_50
    · replace h := h.2 c1
      refine r_iload_n X 3 dX2_clauseOf_6 rfl rfl ?_
      refine r_aload_n X 0 dX2_clauseOf_7 rfl rfl ?_
      refine gr_X2_16 X hph 13 182 185 ly_182 rfl rfl dX2_clauseOf_8 ?_
      refine r_sipush (v := 753) X dX2_clauseOf_11 rfl ?_
      refine r_iload_n X 1 dX2_clauseOf_14 rfl rfl ?_
      refine r_imul X dX2_clauseOf_15 ?_
      obtain ⟨g2, h⟩ := h
      refine r_ialdL X hph 185 3012 ly_185 rfl g2 dX2_clauseOf_16 ?_
      refine r_ic_ge X 49 dX2_clauseOf_17 (by decide) (fun c3 => ?_) (fun c3 => ?_)
      · replace h := h.1 c3
        refine r_iconst (v := (-1)) X dX2_clauseOf_49 rfl ?_
        exact r_iret X h (Nat.le_of_ble_eq_true rfl) (Nat.le_of_ble_eq_true rfl) dX2_clauseOf_50
      · replace h := h.2 c3
        refine r_aload_n X 0 dX2_clauseOf_20 rfl rfl ?_
        refine gr_X2_16 X hph 13 182 185 ly_182 rfl rfl dX2_clauseOf_21 ?_
        refine r_sipush (v := 753) X dX2_clauseOf_24 rfl ?_
        refine r_iload_n X 1 dX2_clauseOf_27 rfl rfl ?_
        refine r_imul X dX2_clauseOf_28 ?_
        refine r_iconst (v := 1) X dX2_clauseOf_29 rfl ?_
        refine r_iadd X dX2_clauseOf_30 ?_
        refine r_bipush (v := 6) X dX2_clauseOf_31 rfl ?_
        refine r_iload_n X 3 dX2_clauseOf_33 rfl rfl ?_
        refine r_imul X dX2_clauseOf_34 ?_
        refine r_iadd X dX2_clauseOf_35 ?_
        obtain ⟨g4, h⟩ := h
        refine r_ialdL X hph 185 3012 ly_185 rfl g4 dX2_clauseOf_36 ?_
        refine r_iload_n X 2 dX2_clauseOf_37 rfl rfl ?_
        refine r_ic_ne X 43 dX2_clauseOf_38 (by decide) (fun c5 => ?_) (fun c5 => ?_)
        · replace h := h.2 c5
          refine r_iinc (lv' := [(3, .int (v3 + 1)), (0, .ref (kB G + 182)), (1, .int v1), (2, .int v2)]) X 3 dX2_clauseOf_43 rfl rfl (Nat.le_of_ble_eq_true rfl) rfl ?_
          refine r_goto X 2 dX2_clauseOf_46 (by decide) ?_
          refine r_sub [1, 2, 3, 0] rfl ?_
          exact ih (v3 + 1) s h
        · replace h := h.1 c5
          refine r_iload_n X 3 dX2_clauseOf_41 rfl rfl ?_
          exact r_iret X h (Nat.le_of_ble_eq_true rfl) (Nat.le_of_ble_eq_true rfl) dX2_clauseOf_42
theorem e_X2_clauseOf {x : CT} {G : GT} (X : Cx x G cX2_clauseOf 4 RX2 (some .int) rm_X2_clauseOf) (hph : kP G = 1) (p1 : Int32) (p2 : Int32) (s : PS) (Q : Int32 → PS → Prop) (h : w_X2_clauseOf G p1 p2 s Q) : WB x G 4 (QfI x G 0 0 Q) 0 0 s 0 [(0, .ref (kB G + 182)), (1, .int p1), (2, .int p2)] [] := by
  unfold w_X2_clauseOf at h
  refine r_iconst (v := 0) X dX2_clauseOf_0 rfl ?_
  refine r_istore_n (lv' := [(3, .int 0), (0, .ref (kB G + 182)), (1, .int p1), (2, .int p2)]) X dX2_clauseOf_1 rfl (Nat.le_of_ble_eq_true rfl) rfl ?_
  refine r_sub [1, 2, 3, 0] rfl ?_
  obtain ⟨n1, h⟩ := h
  exact tl_X2_clauseOf_2 X hph Q p1 p2 n1 0 s h
theorem m_X2_clauseOf (l : Launch) (G : GT) (g : GK G) (hph : kP G = 1) (p1 : Int32) (p2 : Int32) (s : PS) (Q : Int32 → PS → Prop) (h : w_X2_clauseOf G p1 p2 s Q) : Met l yX2_clauseOf (ws_ yX2_clauseOf cX2_clauseOf 4 (some .int)) rm_X2_clauseOf (va_Pc [.ref (kB G + 182), .int p1, .int p2] (Wr G s)) (va_Qi Q (fun u t => Wr G u t) (kF G)) 0 0 (kF G) := by
  refine Met.ofW (cc := cX2_clauseOf) (maxL := 4) (ret := (some .int)) (by decide) rfl ?_
  intro p e s0 m args below meth c s₁ B hml hv
  obtain ⟨rfl, hw⟩ := hv
  exact wb_of [.ref (kB G + 182), .int p1, .int p2] (Nat.le_of_ble_eq_true rfl) hw.1 rfl (e_X2_clauseOf (cx_of g B hml rfl hw) hph p1 p2 s Q h)
theorem e_X2_held {x : CT} {G : GT} (X : Cx x G cX2_held 2 RX2 (some .long) rm_X2_held) (p1 : Int64) (s : PS) (Q : Int64 → PS → Prop) (h : w_X2_held G p1 s Q) : WB x G 2 (QfL x G 0 0 Q) 0 0 s 0 [(0, .long p1)] [] := by
  unfold w_X2_held at h
  refine r_lload_n X 0 dX2_held_0 rfl rfl ?_
  refine r_ldc2 X q1692 dX2_held_1 ?_
  refine r_lcmp X dX2_held_4 ?_
  refine r_if_le X 14 dX2_held_5 (by decide) (fun c1 => ?_) (fun c1 => ?_)
  · replace h := h.1 c1
    refine r_lload_n X 0 dX2_held_14 rfl rfl ?_
    refine r_ldc2 X q1693 dX2_held_15 ?_
    refine r_lcmp X dX2_held_18 ?_
    refine r_if_ge X 28 dX2_held_19 (by decide) (fun c2 => ?_) (fun c2 => ?_)
    · replace h := h.1 c2
      refine r_lload_n X 0 dX2_held_28 rfl rfl ?_
      exact r_lret X h (Nat.le_of_ble_eq_true rfl) (Nat.le_of_ble_eq_true rfl) dX2_held_29
    · replace h := h.2 c2
      refine r_ldc2 X q1693 dX2_held_22 ?_
      refine r_goto X 29 dX2_held_25 (by decide) ?_
      exact r_lret X h (Nat.le_of_ble_eq_true rfl) (Nat.le_of_ble_eq_true rfl) dX2_held_29
  · replace h := h.2 c1
    refine r_ldc2 X q1692 dX2_held_8 ?_
    refine r_goto X 29 dX2_held_11 (by decide) ?_
    exact r_lret X h (Nat.le_of_ble_eq_true rfl) (Nat.le_of_ble_eq_true rfl) dX2_held_29
theorem m_X2_held (l : Launch) (G : GT) (g : GK G) (p1 : Int64) (s : PS) (Q : Int64 → PS → Prop) (h : w_X2_held G p1 s Q) : Met l yX2_held (ws_ yX2_held cX2_held 2 (some .long)) rm_X2_held (va_Pc [.long p1] (Wr G s)) (va_Ql Q (fun u t => Wr G u t) (kF G)) 0 0 (kF G) := by
  refine Met.ofW (cc := cX2_held) (maxL := 2) (ret := (some .long)) (by decide) rfl ?_
  intro p e s0 m args below meth c s₁ B hml hv
  obtain ⟨rfl, hw⟩ := hv
  exact wb_of [.long p1] (Nat.le_of_ble_eq_true rfl) hw.1 rfl (e_X2_held (cx_of g B hml rfl hw) p1 s Q h)
theorem e_X2_two {x : CT} {G : GT} (X : Cx x G cX2_two 5 RX2 (some .long) rm_X2_two) (p1 : Int32) (p2 : Int64) (p3 : Int64) (s : PS) (Q : Int64 → PS → Prop) (h : w_X2_two G p1 p2 p3 s Q) : WB x G 5 (QfL x G 0 0 Q) 0 0 s 0 [(0, .int p1), (1, .long p2), (3, .long p3)] [] := by
  unfold w_X2_two at h
  refine r_iload_n X 0 dX2_two_0 rfl rfl ?_
  by_cases c1 : p1 = 4
  · replace h := h.1 c1
    refine r_tin X 28 dX2_two_1 4 c1 (by decide) (by decide) rfl (by decide) ?_
    refine r_lload_n X 1 dX2_two_28 rfl rfl ?_
    refine r_lload_n X 2 dX2_two_29 rfl rfl ?_
    refine r_ladd X dX2_two_30 ?_
    refine r_cl X (r_okS (As := [.long (p2 + p3)]) (rest := []) X (m_X2_held (xl x) G X.2.2.2.2.1 (p2 + p3) s _ h) (cl_X2_270 X ⟨(Nat.le_of_ble_eq_true rfl), (Nat.le_of_ble_eq_true rfl)⟩) rfl rfl (Nat.le_of_ble_eq_true rfl) dX2_two_31 ⟨Nat.le_of_ble_eq_true rfl, Nat.le_of_ble_eq_true rfl⟩) (fun r3 s2 h => ?_)
    exact r_lret X h (Nat.le_of_ble_eq_true rfl) (Nat.le_of_ble_eq_true rfl) dX2_two_34
  · replace h := h.2 c1
    by_cases c4 : p1 = 5
    · replace h := h.1 c4
      refine r_tin X 35 dX2_two_1 5 c4 (by decide) (by decide) rfl (by decide) ?_
      refine r_lload_n X 1 dX2_two_35 rfl rfl ?_
      refine r_lload_n X 2 dX2_two_36 rfl rfl ?_
      refine r_lsub X dX2_two_37 ?_
      refine r_cl X (r_okS (As := [.long (p2 - p3)]) (rest := []) X (m_X2_held (xl x) G X.2.2.2.2.1 (p2 - p3) s _ h) (cl_X2_270 X ⟨(Nat.le_of_ble_eq_true rfl), (Nat.le_of_ble_eq_true rfl)⟩) rfl rfl (Nat.le_of_ble_eq_true rfl) dX2_two_38 ⟨Nat.le_of_ble_eq_true rfl, Nat.le_of_ble_eq_true rfl⟩) (fun r6 s5 h => ?_)
      exact r_lret X h (Nat.le_of_ble_eq_true rfl) (Nat.le_of_ble_eq_true rfl) dX2_two_41
    · replace h := h.2 c4
      by_cases c7 : p1 = 6
      · replace h := h.1 c7
        refine r_tin X 42 dX2_two_1 6 c7 (by decide) (by decide) rfl (by decide) ?_
        refine r_lload_n X 1 dX2_two_42 rfl rfl ?_
        refine r_lload_n X 2 dX2_two_43 rfl rfl ?_
        refine r_lmul X dX2_two_44 ?_
        refine r_cl X (r_okS (As := [.long (p2 * p3)]) (rest := []) X (m_X2_held (xl x) G X.2.2.2.2.1 (p2 * p3) s _ h) (cl_X2_270 X ⟨(Nat.le_of_ble_eq_true rfl), (Nat.le_of_ble_eq_true rfl)⟩) rfl rfl (Nat.le_of_ble_eq_true rfl) dX2_two_45 ⟨Nat.le_of_ble_eq_true rfl, Nat.le_of_ble_eq_true rfl⟩) (fun r9 s8 h => ?_)
        exact r_lret X h (Nat.le_of_ble_eq_true rfl) (Nat.le_of_ble_eq_true rfl) dX2_two_48
      · replace h := h.2 c7
        have o0 := lv_neT c1 (show Int32.toInt 4 = 4 from rfl)
        have o1 := lv_neT c4 (show Int32.toInt 5 = 5 from rfl)
        have o2 := lv_neT c7 (show Int32.toInt 6 = 6 from rfl)
        refine r_tout X 49 dX2_two_1 (by omega) (by decide) ?_
        refine r_lload_n X 2 dX2_two_49 rfl rfl ?_
        refine r_lconst (v := 0) X dX2_two_50 rfl ?_
        refine r_lcmp X dX2_two_51 ?_
        refine r_if_ne X 59 dX2_two_52 (by decide) (fun c10 => ?_) (fun c10 => ?_)
        · replace h := h.2 c10
          refine r_lload_n X 1 dX2_two_59 rfl rfl ?_
          refine r_lload_n X 2 dX2_two_60 rfl rfl ?_
          obtain ⟨g11, h⟩ := h
          refine r_ldiv X dX2_two_61 g11 ?_
          exact r_lret X h (Nat.le_of_ble_eq_true rfl) (Nat.le_of_ble_eq_true rfl) dX2_two_62
        · replace h := h.1 c10
          refine r_lconst (v := 0) X dX2_two_55 rfl ?_
          refine r_goto X 62 dX2_two_56 (by decide) ?_
          exact r_lret X h (Nat.le_of_ble_eq_true rfl) (Nat.le_of_ble_eq_true rfl) dX2_two_62
theorem m_X2_two (l : Launch) (G : GT) (g : GK G) (p1 : Int32) (p2 : Int64) (p3 : Int64) (s : PS) (Q : Int64 → PS → Prop) (h : w_X2_two G p1 p2 p3 s Q) : Met l yX2_two (ws_ yX2_two cX2_two 5 (some .long)) rm_X2_two (va_Pc [.int p1, .long p2, .long p3] (Wr G s)) (va_Ql Q (fun u t => Wr G u t) (kF G)) 0 0 (kF G) := by
  refine Met.ofW (cc := cX2_two) (maxL := 5) (ret := (some .long)) (by decide) rfl ?_
  intro p e s0 m args below meth c s₁ B hml hv
  obtain ⟨rfl, hw⟩ := hv
  exact wb_of [.int p1, .long p2, .long p3] (Nat.le_of_ble_eq_true rfl) hw.1 rfl (e_X2_two (cx_of g B hml rfl hw) p1 p2 p3 s Q h)
theorem tb_X2_worked_111 {x : CT} {G : GT} (X : Cx x G cX2_worked 9 RX2 (some .int) rm_X2_worked) (hph : kP G = 1) (Q : Int32 → PS → Prop) (K37 : Int32 → Int32 → PS → Prop) (v3 : Int32) (v4 : Int32) (v5 : Int32) (v6 : Int32) (t0 : Nat) (t1 : Int32) (t2 : Int64) (s : PS) (hK37 : ∀ (v5' : Int32) (v6' : Int32) (s' : PS), K37 v5' v6' s' → WB x G 9 (QfI x G 0 0 Q) 0 0 s' 37 [(0, .ref (kB G + 182)), (3, .int v3), (4, .int v4), (5, .int v5'), (6, .int v6')] []) (h : b_X2_worked_111 G Q K37 v3 v4 v5 v6 t0 t1 t2 s) : WB x G 9 (QfI x G 0 0 Q) 0 0 s 111 [(0, .ref (kB G + 182)), (3, .int v3), (4, .int v4), (5, .int v5), (6, .int v6)] [.long t2, .int t1, .ref t0] := by
  unfold b_X2_worked_111 at h
  obtain ⟨g1, h⟩ := h
  obtain ⟨g2, h⟩ := h
  obtain ⟨g3, h⟩ := h
  refine r_last X g1 g2 g3 dX2_worked_111 (fun s4 e5 => ?_)
  replace h := h s4 e5
  refine r_iinc (lv' := [(5, .int (v5 + 1)), (0, .ref (kB G + 182)), (3, .int v3), (4, .int v4), (6, .int v6)]) X 3 dX2_worked_112 rfl rfl (Nat.le_of_ble_eq_true rfl) rfl ?_
  refine r_goto X 233 dX2_worked_115 (by decide) ?_
  refine r_iinc (lv' := [(6, .int (v6 + 1)), (5, .int (v5 + 1)), (0, .ref (kB G + 182)), (3, .int v3), (4, .int v4)]) X 4 dX2_worked_233 rfl rfl (Nat.le_of_ble_eq_true rfl) rfl ?_
  refine r_goto X 37 dX2_worked_236 (by decide) ?_
  refine r_sub [2, 3, 4, 1, 0] rfl ?_
  exact hK37 (v5 + 1) (v6 + 1) s4 h
theorem tb_X2_worked_196 {x : CT} {G : GT} (X : Cx x G cX2_worked 9 RX2 (some .int) rm_X2_worked) (hph : kP G = 1) (Q : Int32 → PS → Prop) (K37 : Int32 → Int32 → PS → Prop) (v3 : Int32) (v4 : Int32) (v5 : Int32) (v6 : Int32) (t0 : Nat) (t1 : Int32) (t2 : Int64) (s : PS) (hK37 : ∀ (v5' : Int32) (v6' : Int32) (s' : PS), K37 v5' v6' s' → WB x G 9 (QfI x G 0 0 Q) 0 0 s' 37 [(0, .ref (kB G + 182)), (3, .int v3), (4, .int v4), (5, .int v5'), (6, .int v6')] []) (h : b_X2_worked_196 G Q K37 v3 v4 v5 v6 t0 t1 t2 s) : WB x G 9 (QfI x G 0 0 Q) 0 0 s 196 [(0, .ref (kB G + 182)), (3, .int v3), (4, .int v4), (5, .int v5), (6, .int v6)] [.long t2, .int t1, .ref t0] := by
  unfold b_X2_worked_196 at h
  obtain ⟨g1, h⟩ := h
  obtain ⟨g2, h⟩ := h
  obtain ⟨g3, h⟩ := h
  refine r_last X g1 g2 g3 dX2_worked_196 (fun s4 e5 => ?_)
  replace h := h s4 e5
  refine r_goto X 233 dX2_worked_197 (by decide) ?_
  refine r_iinc (lv' := [(6, .int (v6 + 1)), (0, .ref (kB G + 182)), (3, .int v3), (4, .int v4), (5, .int v5)]) X 4 dX2_worked_233 rfl rfl (Nat.le_of_ble_eq_true rfl) rfl ?_
  refine r_goto X 37 dX2_worked_236 (by decide) ?_
  refine r_sub [1, 2, 3, 4, 0] rfl ?_
  exact hK37 v5 (v6 + 1) s4 h
theorem tl_X2_worked_37 {x : CT} {G : GT} (X : Cx x G cX2_worked 9 RX2 (some .int) rm_X2_worked) (hph : kP G = 1) (Q : Int32 → PS → Prop) (v3 : Int32) (v4 : Int32) : ∀ (n : Nat) (v5 : Int32) (v6 : Int32) (s : PS) (h : l_X2_worked_37 G Q v3 v4 n v5 v6 s), WB x G 9 (QfI x G 0 0 Q) 0 0 s 37 [(0, .ref (kB G + 182)), (3, .int v3), (4, .int v4), (5, .int v5), (6, .int v6)] [] := by
  intro n
  induction n with
  | zero =>
    intro v5 v6 s h
    exact False.elim h
  | succ n ih =>
    intro v5 v6 s h
    unfold l_X2_worked_37 at h
    refine r_iload X 4 dX2_worked_37 rfl ?_
    refine r_aload_n X 0 dX2_worked_39 rfl rfl ?_
    refine gr_X2_16 X hph 13 182 185 ly_182 rfl rfl dX2_worked_40 ?_
    refine r_iload_n X 1 dX2_worked_43 rfl rfl ?_
    refine r_iconst (v := 2) X dX2_worked_44 rfl ?_
    refine r_iadd X dX2_worked_45 ?_
    obtain ⟨g1, h⟩ := h
    refine r_ialdL X hph 185 3012 ly_185 rfl g1 dX2_worked_46 ?_
    refine r_ic_ge X 239 dX2_worked_47 (by decide) (fun c2 => ?_) (fun c2 => ?_)
    · replace h := h.1 c2
      refine r_aload_n X 0 dX2_worked_239 rfl rfl ?_
      refine gr_X2_35 X hph 13 182 189 ly_182 rfl rfl dX2_worked_240 ?_
      refine r_iconst (v := 0) X dX2_worked_243 rfl ?_
      refine r_laldL X hph 189 330 ly_189 tn_0 il_0_330 dX2_worked_244 ?_
      refine r_l2i X dX2_worked_245 ?_
      exact r_iret X h (Nat.le_of_ble_eq_true rfl) (Nat.le_of_ble_eq_true rfl) dX2_worked_246
    · replace h := h.2 c2
      refine r_aload_n X 0 dX2_worked_50 rfl rfl ?_
      refine gr_X2_16 X hph 13 182 185 ly_182 rfl rfl dX2_worked_51 ?_
      refine r_iload X 2 dX2_worked_54 rfl ?_
      refine r_iconst (v := 2) X dX2_worked_56 rfl ?_
      refine r_iload X 4 dX2_worked_57 rfl ?_
      refine r_imul X dX2_worked_59 ?_
      refine r_iadd X dX2_worked_60 ?_
      obtain ⟨g3, h⟩ := h
      refine r_ialdL X hph 185 3012 ly_185 rfl g3 dX2_worked_61 ?_
      refine r_nmI (fun y4 e5 => ?_)
      replace h := h y4 e5
      refine r_istore (lv' := [(7, .int y4), (0, .ref (kB G + 182)), (3, .int v3), (4, .int v4), (5, .int v5), (6, .int v6)]) X dX2_worked_62 (Nat.le_of_ble_eq_true rfl) rfl ?_
      refine r_aload_n X 1 dX2_worked_64 rfl rfl ?_
      refine gr_X2_16 X hph 13 182 185 ly_182 rfl rfl dX2_worked_65 ?_
      refine r_iload X 3 dX2_worked_68 rfl ?_
      refine r_iconst (v := 2) X dX2_worked_70 rfl ?_
      refine r_iload X 5 dX2_worked_71 rfl ?_
      refine r_imul X dX2_worked_73 ?_
      refine r_iadd X dX2_worked_74 ?_
      refine r_iconst (v := 1) X dX2_worked_75 rfl ?_
      refine r_iadd X dX2_worked_76 ?_
      obtain ⟨g6, h⟩ := h
      refine r_ialdL X hph 185 3012 ly_185 rfl g6 dX2_worked_77 ?_
      refine r_nmI (fun y7 e8 => ?_)
      replace h := h y7 e8
      refine r_istore (lv' := [(8, .int y7), (7, .int y4), (0, .ref (kB G + 182)), (3, .int v3), (4, .int v4), (5, .int v5), (6, .int v6)]) X dX2_worked_78 (Nat.le_of_ble_eq_true rfl) rfl ?_
      refine r_iload X 1 dX2_worked_80 rfl ?_
      refine r_iconst (v := 1) X dX2_worked_82 rfl ?_
      refine r_ic_gt X 118 dX2_worked_83 (by decide) (fun c9 => ?_) (fun c9 => ?_)
      · replace h := h.1 c9
        refine r_iload X 1 dX2_worked_118 rfl ?_
        refine r_iconst (v := 2) X dX2_worked_120 rfl ?_
        refine r_ic_ne X 146 dX2_worked_121 (by decide) (fun c10 => ?_) (fun c10 => ?_)
        · replace h := h.2 c10
          refine r_iload X 1 dX2_worked_146 rfl ?_
          refine r_iconst (v := 3) X dX2_worked_148 rfl ?_
          refine r_ic_ne X 200 dX2_worked_149 (by decide) (fun c14 => ?_) (fun c14 => ?_)
          · replace h := h.2 c14
            refine r_iinc (lv' := [(5, .int (v5 + (-1))), (8, .int y7), (7, .int y4), (0, .ref (kB G + 182)), (3, .int v3), (4, .int v4), (6, .int v6)]) X 5 dX2_worked_200 rfl rfl (Nat.le_of_ble_eq_true rfl) rfl ?_
            refine r_aload_n X 3 dX2_worked_203 rfl rfl ?_
            refine gr_X2_35 X hph 13 182 189 ly_182 rfl rfl dX2_worked_204 ?_
            refine r_iload X 0 dX2_worked_207 rfl ?_
            refine r_iconst (v := 1) X dX2_worked_209 rfl ?_
            refine r_isub X dX2_worked_210 ?_
            refine r_iload X 2 dX2_worked_211 rfl ?_
            refine r_aload_n X 3 dX2_worked_213 rfl rfl ?_
            refine gr_X2_35 X hph 13 182 189 ly_182 rfl rfl dX2_worked_214 ?_
            refine r_iload X 0 dX2_worked_217 rfl ?_
            refine r_iconst (v := 1) X dX2_worked_219 rfl ?_
            refine r_isub X dX2_worked_220 ?_
            obtain ⟨g17, h⟩ := h
            refine r_laldL X hph 189 330 ly_189 rfl g17 dX2_worked_221 ?_
            refine r_aload_n X 3 dX2_worked_222 rfl rfl ?_
            refine gr_X2_35 X hph 13 182 189 ly_182 rfl rfl dX2_worked_223 ?_
            refine r_iload X 0 dX2_worked_226 rfl ?_
            obtain ⟨g18, h⟩ := h
            refine r_laldL X hph 189 330 ly_189 rfl g18 dX2_worked_228 ?_
            refine r_cl X (r_okS (As := [.int y4, .long (gL s (kB G + 189) ((v5 + (-1)) - 1).toNatClampNeg), .long (gL s (kB G + 189) (v5 + (-1)).toNatClampNeg)]) (rest := [.int ((v5 + (-1)) - 1), .ref (kB G + 189)]) X (m_X2_two (xl x) G X.2.2.2.2.1 y4 (gL s (kB G + 189) ((v5 + (-1)) - 1).toNatClampNeg) (gL s (kB G + 189) (v5 + (-1)).toNatClampNeg) s _ h) (cl_X2_274 X ⟨(Nat.le_of_ble_eq_true rfl), (Nat.le_of_ble_eq_true rfl)⟩) rfl rfl (Nat.le_of_ble_eq_true rfl) dX2_worked_229 ⟨Nat.le_of_ble_eq_true rfl, Nat.le_of_ble_eq_true rfl⟩) (fun r20 s19 h => ?_)
            refine r_lastL X hph 189 330 ly_189 rfl g17 dX2_worked_232 (fun s21 e22 => ?_)
            replace h := h s21 e22
            refine r_iinc (lv' := [(6, .int (v6 + 1)), (5, .int (v5 + (-1))), (8, .int y7), (7, .int y4), (0, .ref (kB G + 182)), (3, .int v3), (4, .int v4)]) X 6 dX2_worked_233 rfl rfl (Nat.le_of_ble_eq_true rfl) rfl ?_
            refine r_goto X 37 dX2_worked_236 (by decide) ?_
            refine r_sub [4, 5, 6, 1, 0] rfl ?_
            exact ih (v5 + (-1)) (v6 + 1) s21 h
          · replace h := h.1 c14
            refine r_aload_n X 2 dX2_worked_152 rfl rfl ?_
            refine gr_X2_35 X hph 13 182 189 ly_182 rfl rfl dX2_worked_153 ?_
            refine r_iload X 5 dX2_worked_156 rfl ?_
            refine r_iconst (v := 1) X dX2_worked_158 rfl ?_
            refine r_isub X dX2_worked_159 ?_
            refine r_aload_n X 2 dX2_worked_160 rfl rfl ?_
            refine gr_X2_35 X hph 13 182 189 ly_182 rfl rfl dX2_worked_161 ?_
            refine r_iload X 5 dX2_worked_164 rfl ?_
            refine r_iconst (v := 1) X dX2_worked_166 rfl ?_
            refine r_isub X dX2_worked_167 ?_
            obtain ⟨g15, h⟩ := h
            refine r_laldL X hph 189 330 ly_189 rfl g15 dX2_worked_168 ?_
            refine r_lconst (v := 0) X dX2_worked_169 rfl ?_
            refine r_lcmp X dX2_worked_170 ?_
            refine r_if_ge X 187 dX2_worked_171 (by decide) (fun c16 => ?_) (fun c16 => ?_)
            · replace h := h.1 c16
              refine r_aload_n X 2 dX2_worked_187 rfl rfl ?_
              refine gr_X2_35 X hph 13 182 189 ly_182 rfl rfl dX2_worked_188 ?_
              refine r_iload X 5 dX2_worked_191 rfl ?_
              refine r_iconst (v := 1) X dX2_worked_193 rfl ?_
              refine r_isub X dX2_worked_194 ?_
              refine r_laldL X hph 189 330 ly_189 rfl g15 dX2_worked_195 ?_
              refine r_sub [2, 3, 4, 5, 6] rfl ?_
              exact tb_X2_worked_196 X hph Q (l_X2_worked_37 G Q v3 v4 n) v3 v4 v5 v6 (kB G + 189) (v5 - 1) (gL s (kB G + 189) (v5 - 1).toNatClampNeg) s ih h
            · replace h := h.2 c16
              refine r_aload_n X 2 dX2_worked_174 rfl rfl ?_
              refine gr_X2_35 X hph 13 182 189 ly_182 rfl rfl dX2_worked_175 ?_
              refine r_iload X 5 dX2_worked_178 rfl ?_
              refine r_iconst (v := 1) X dX2_worked_180 rfl ?_
              refine r_isub X dX2_worked_181 ?_
              refine r_laldL X hph 189 330 ly_189 rfl g15 dX2_worked_182 ?_
              refine r_lneg X dX2_worked_183 ?_
              refine r_goto X 196 dX2_worked_184 (by decide) ?_
              refine r_sub [2, 3, 4, 5, 6] rfl ?_
              exact tb_X2_worked_196 X hph Q (l_X2_worked_37 G Q v3 v4 n) v3 v4 v5 v6 (kB G + 189) (v5 - 1) (-(gL s (kB G + 189) (v5 - 1).toNatClampNeg)) s ih h
        · replace h := h.1 c10
          refine r_aload_n X 2 dX2_worked_124 rfl rfl ?_
          refine gr_X2_35 X hph 13 182 189 ly_182 rfl rfl dX2_worked_125 ?_
          refine r_iload X 5 dX2_worked_128 rfl ?_
          refine r_iconst (v := 1) X dX2_worked_130 rfl ?_
          refine r_isub X dX2_worked_131 ?_
          refine r_aload_n X 2 dX2_worked_132 rfl rfl ?_
          refine gr_X2_35 X hph 13 182 189 ly_182 rfl rfl dX2_worked_133 ?_
          refine r_iload X 5 dX2_worked_136 rfl ?_
          refine r_iconst (v := 1) X dX2_worked_138 rfl ?_
          refine r_isub X dX2_worked_139 ?_
          obtain ⟨g11, h⟩ := h
          refine r_laldL X hph 189 330 ly_189 rfl g11 dX2_worked_140 ?_
          refine r_lneg X dX2_worked_141 ?_
          refine r_lastL X hph 189 330 ly_189 rfl g11 dX2_worked_142 (fun s12 e13 => ?_)
          replace h := h s12 e13
          refine r_goto X 233 dX2_worked_143 (by decide) ?_
          refine r_iinc (lv' := [(6, .int (v6 + 1)), (8, .int y7), (7, .int y4), (0, .ref (kB G + 182)), (3, .int v3), (4, .int v4), (5, .int v5)]) X 6 dX2_worked_233 rfl rfl (Nat.le_of_ble_eq_true rfl) rfl ?_
          refine r_goto X 37 dX2_worked_236 (by decide) ?_
          refine r_sub [3, 4, 5, 6, 0] rfl ?_
          exact ih v5 (v6 + 1) s12 h
      · replace h := h.2 c9
        refine r_aload_n X 2 dX2_worked_86 rfl rfl ?_
        refine gr_X2_35 X hph 13 182 189 ly_182 rfl rfl dX2_worked_87 ?_
        refine r_iload X 5 dX2_worked_90 rfl ?_
        refine r_iload X 1 dX2_worked_92 rfl ?_
        refine r_if_ne X 103 dX2_worked_94 (by decide) (fun c23 => ?_) (fun c23 => ?_)
        · replace h := h.2 c23
          refine r_aload_n X 2 dX2_worked_103 rfl rfl ?_
          refine gr_X2_32 X hph 13 182 188 ly_182 rfl rfl dX2_worked_104 ?_
          refine r_iload X 0 dX2_worked_107 rfl ?_
          obtain ⟨g24, h⟩ := h
          refine r_ialdL X hph 188 15 ly_188 rfl g24 dX2_worked_109 ?_
          refine r_i2l X dX2_worked_110 ?_
          refine r_sub [2, 3, 4, 5, 6] rfl ?_
          exact tb_X2_worked_111 X hph Q (l_X2_worked_37 G Q v3 v4 n) v3 v4 v5 v6 (kB G + 189) v5 ((gI s (kB G + 188) y7.toNatClampNeg).toInt64) s ih h
        · replace h := h.1 c23
          refine r_iload X 0 dX2_worked_97 rfl ?_
          refine r_i2l X dX2_worked_99 ?_
          refine r_goto X 111 dX2_worked_100 (by decide) ?_
          refine r_sub [2, 3, 4, 5, 6] rfl ?_
          exact tb_X2_worked_111 X hph Q (l_X2_worked_37 G Q v3 v4 n) v3 v4 v5 v6 (kB G + 189) v5 y7.toInt64 s ih h
theorem e_X2_worked {x : CT} {G : GT} (X : Cx x G cX2_worked 9 RX2 (some .int) rm_X2_worked) (hph : kP G = 1) (p1 : Int32) (p2 : Int32) (s : PS) (Q : Int32 → PS → Prop) (h : w_X2_worked G p1 p2 s Q) : WB x G 9 (QfI x G 0 0 Q) 0 0 s 0 [(0, .ref (kB G + 182)), (1, .int p1), (2, .int p2)] [] := by
  unfold w_X2_worked at h
  refine r_sipush (v := 753) X dX2_worked_0 rfl ?_
  refine r_iload_n X 1 dX2_worked_3 rfl rfl ?_
  refine r_imul X dX2_worked_4 ?_
  refine r_iconst (v := 1) X dX2_worked_5 rfl ?_
  refine r_iadd X dX2_worked_6 ?_
  refine r_bipush (v := 6) X dX2_worked_7 rfl ?_
  refine r_iload_n X 2 dX2_worked_9 rfl rfl ?_
  refine r_imul X dX2_worked_10 ?_
  refine r_iadd X dX2_worked_11 ?_
  refine r_nmI (fun y1 e2 => ?_)
  replace h := h y1 e2
  refine r_istore_n (lv' := [(3, .int y1), (0, .ref (kB G + 182)), (1, .int p1), (2, .int p2)]) X dX2_worked_12 rfl (Nat.le_of_ble_eq_true rfl) rfl ?_
  refine r_sipush (v := 753) X dX2_worked_13 rfl ?_
  refine r_iload_n X 2 dX2_worked_16 rfl rfl ?_
  refine r_imul X dX2_worked_17 ?_
  refine r_sipush (v := 145) X dX2_worked_18 rfl ?_
  refine r_iadd X dX2_worked_21 ?_
  refine r_nmI (fun y3 e4 => ?_)
  replace h := h y3 e4
  refine r_istore (lv' := [(4, .int y3), (3, .int y1), (0, .ref (kB G + 182)), (1, .int p1), (2, .int p2)]) X dX2_worked_22 (Nat.le_of_ble_eq_true rfl) rfl ?_
  refine r_iconst (v := 0) X dX2_worked_24 rfl ?_
  refine r_istore (lv' := [(5, .int 0), (4, .int y3), (3, .int y1), (0, .ref (kB G + 182)), (1, .int p1), (2, .int p2)]) X dX2_worked_25 (Nat.le_of_ble_eq_true rfl) rfl ?_
  refine r_aload_n X 3 dX2_worked_27 rfl rfl ?_
  refine gr_X2_16 X hph 13 182 185 ly_182 rfl rfl dX2_worked_28 ?_
  refine r_iload_n X 2 dX2_worked_31 rfl rfl ?_
  refine r_iconst (v := 1) X dX2_worked_32 rfl ?_
  refine r_iadd X dX2_worked_33 ?_
  obtain ⟨g5, h⟩ := h
  refine r_ialdL X hph 185 3012 ly_185 rfl g5 dX2_worked_34 ?_
  refine r_nmI (fun y6 e7 => ?_)
  replace h := h y6 e7
  refine r_istore (lv' := [(6, .int y6), (5, .int 0), (4, .int y3), (3, .int y1), (0, .ref (kB G + 182)), (1, .int p1), (2, .int p2)]) X dX2_worked_35 (Nat.le_of_ble_eq_true rfl) rfl ?_
  refine r_sub [4, 3, 2, 1, 0] rfl ?_
  obtain ⟨n8, h⟩ := h
  exact tl_X2_worked_37 X hph Q y1 y3 n8 0 y6 s h
theorem m_X2_worked (l : Launch) (G : GT) (g : GK G) (hph : kP G = 1) (p1 : Int32) (p2 : Int32) (s : PS) (Q : Int32 → PS → Prop) (h : w_X2_worked G p1 p2 s Q) : Met l yX2_worked (ws_ yX2_worked cX2_worked 9 (some .int)) rm_X2_worked (va_Pc [.ref (kB G + 182), .int p1, .int p2] (Wr G s)) (va_Qi Q (fun u t => Wr G u t) (kF G)) 0 0 (kF G) := by
  refine Met.ofW (cc := cX2_worked) (maxL := 9) (ret := (some .int)) (by decide) rfl ?_
  intro p e s0 m args below meth c s₁ B hml hv
  obtain ⟨rfl, hw⟩ := hv
  exact wb_of [.ref (kB G + 182), .int p1, .int p2] (Nat.le_of_ble_eq_true rfl) hw.1 rfl (e_X2_worked (cx_of g B hml rfl hw) hph p1 p2 s Q h)
theorem e_X2_says {x : CT} {G : GT} (X : Cx x G cX2_says 9 RX2 (some .int) rm_X2_says) (hph : kP G = 1) (p1 : Int32) (p2 : Int32) (p3 : Int32) (p4 : Int32) (p5 : Int32) (p6 : Int32) (s : PS) (Q : Int32 → PS → Prop) (h : w_X2_says G p1 p2 p3 p4 p5 p6 s Q) : WB x G 9 (QfI x G 0 0 Q) 0 0 s 0 [(0, .ref (kB G + 182)), (1, .int p1), (2, .int p2), (3, .int p3), (4, .int p4), (5, .int p5), (6, .int p6)] [] := by
  unfold w_X2_says at h
  refine r_aload_n X 0 dX2_says_0 rfl rfl ?_
  refine r_iload_n X 1 dX2_says_1 rfl rfl ?_
  refine r_iload_n X 2 dX2_says_2 rfl rfl ?_
  refine r_ci X (r_okVL (As := [.int p1, .int p2]) (rest := []) X (m_X2_clauseOf (xl x) G X.2.2.2.2.1 hph p1 p2 s _ h) (cl_X2_278 X ⟨(Nat.le_of_ble_eq_true rfl), (Nat.le_of_ble_eq_true rfl)⟩) hph 2 ly_182 rfl rfl rfl rfl (Nat.le_of_ble_eq_true rfl) dX2_says_3 ⟨Nat.le_of_ble_eq_true rfl, Nat.le_of_ble_eq_true rfl⟩) (fun r2 s1 h => ?_)
  refine r_istore (lv' := [(7, .int r2), (0, .ref (kB G + 182)), (1, .int p1), (2, .int p2), (3, .int p3), (4, .int p4), (5, .int p5), (6, .int p6)]) X dX2_says_6 (Nat.le_of_ble_eq_true rfl) rfl ?_
  refine r_iload X 0 dX2_says_8 rfl ?_
  refine r_if_ge X 16 dX2_says_10 (by decide) (fun c3 => ?_) (fun c3 => ?_)
  · replace h := h.1 c3
    refine r_aload_n X 1 dX2_says_16 rfl rfl ?_
    refine gr_X2_32 X hph 13 182 188 ly_182 rfl rfl dX2_says_17 ?_
    refine r_iconst (v := 0) X dX2_says_20 rfl ?_
    refine r_iload_n X 4 dX2_says_21 rfl rfl ?_
    refine r_iastL X hph 188 15 ly_188 tn_0 il_0_15 dX2_says_22 (fun s4 e5 => ?_)
    replace h := h s4 e5
    refine r_aload_n X 1 dX2_says_23 rfl rfl ?_
    refine gr_X2_32 X hph 13 182 188 ly_182 rfl rfl dX2_says_24 ?_
    refine r_iconst (v := 1) X dX2_says_27 rfl ?_
    refine r_aload_n X 1 dX2_says_28 rfl rfl ?_
    refine gr_X2_7 X hph 13 182 183 ly_182 rfl rfl dX2_says_29 ?_
    refine r_bipush (v := 12) X dX2_says_32 rfl ?_
    refine r_iload_n X 4 dX2_says_34 rfl rfl ?_
    refine r_iadd X dX2_says_35 ?_
    obtain ⟨g6, h⟩ := h
    refine r_ialdL X hph 183 5544 ly_183 rfl g6 dX2_says_36 ?_
    refine r_iastL X hph 188 15 ly_188 tn_1 il_1_15 dX2_says_37 (fun s7 e8 => ?_)
    replace h := h s7 e8
    refine r_aload_n X 1 dX2_says_38 rfl rfl ?_
    refine r_iload_n X 2 dX2_says_39 rfl rfl ?_
    refine r_iload X 0 dX2_says_40 rfl ?_
    refine r_ci X (r_okVL (As := [.int p1, .int r2]) (rest := []) X (m_X2_worked (xl x) G X.2.2.2.2.1 hph p1 r2 s7 _ h) (cl_X2_281 X ⟨(Nat.le_of_ble_eq_true rfl), (Nat.le_of_ble_eq_true rfl)⟩) hph 2 ly_182 rfl rfl rfl rfl (Nat.le_of_ble_eq_true rfl) dX2_says_42 ⟨Nat.le_of_ble_eq_true rfl, Nat.le_of_ble_eq_true rfl⟩) (fun r10 s9 h => ?_)
    refine r_istore (lv' := [(8, .int r10), (7, .int r2), (0, .ref (kB G + 182)), (1, .int p1), (2, .int p2), (3, .int p3), (4, .int p4), (5, .int p5), (6, .int p6)]) X dX2_says_45 (Nat.le_of_ble_eq_true rfl) rfl ?_
    refine r_iload X 0 dX2_says_47 rfl ?_
    refine r_iload X 7 dX2_says_49 rfl ?_
    have hJ : WB x G 9 (QfI x G 0 0 Q) 0 0 s9 73 [(8, .int r10), (7, .int r2), (0, .ref (kB G + 182)), (1, .int p1), (2, .int p2), (3, .int p3), (4, .int p4), (5, .int p5), (6, .int p6)] [.int (if p5 ≤ r10 then (if r10 ≤ p6 then r10 else p6 : Int32) else p5 : Int32)] := by
      exact r_iret X h (Nat.le_of_ble_eq_true rfl) (Nat.le_of_ble_eq_true rfl) dX2_says_73
    refine r_ic_ge X 59 dX2_says_51 (by decide) (fun c12 => ?_) (fun c12 => ?_)
    · rw [if_pos c12] at hJ
      refine r_iload X 0 dX2_says_59 rfl ?_
      refine r_iload X 8 dX2_says_61 rfl ?_
      refine r_ic_le X 71 dX2_says_63 (by decide) (fun c11 => ?_) (fun c11 => ?_)
      · rw [if_pos c11] at hJ
        refine r_iload X 0 dX2_says_71 rfl ?_
        exact hJ
      · rw [if_neg c11] at hJ
        refine r_iload X 8 dX2_says_66 rfl ?_
        refine r_goto X 73 dX2_says_68 (by decide) ?_
        exact hJ
    · rw [if_neg c12] at hJ
      refine r_iload X 7 dX2_says_54 rfl ?_
      refine r_goto X 73 dX2_says_56 (by decide) ?_
      exact hJ
  · replace h := h.2 c3
    refine r_iload X 5 dX2_says_13 rfl ?_
    exact r_iret X h (Nat.le_of_ble_eq_true rfl) (Nat.le_of_ble_eq_true rfl) dX2_says_15
theorem m_X2_says (l : Launch) (G : GT) (g : GK G) (hph : kP G = 1) (p1 : Int32) (p2 : Int32) (p3 : Int32) (p4 : Int32) (p5 : Int32) (p6 : Int32) (s : PS) (Q : Int32 → PS → Prop) (h : w_X2_says G p1 p2 p3 p4 p5 p6 s Q) : Met l yX2_says (ws_ yX2_says cX2_says 9 (some .int)) rm_X2_says (va_Pc [.ref (kB G + 182), .int p1, .int p2, .int p3, .int p4, .int p5, .int p6] (Wr G s)) (va_Qi Q (fun u t => Wr G u t) (kF G)) 0 0 (kF G) := by
  refine Met.ofW (cc := cX2_says) (maxL := 9) (ret := (some .int)) (by decide) rfl ?_
  intro p e s0 m args below meth c s₁ B hml hv
  obtain ⟨rfl, hw⟩ := hv
  exact wb_of [.ref (kB G + 182), .int p1, .int p2, .int p3, .int p4, .int p5, .int p6] (Nat.le_of_ble_eq_true rfl) hw.1 rfl (e_X2_says (cx_of g B hml rfl hw) hph p1 p2 p3 p4 p5 p6 s Q h)
theorem tb_X2_settle_94 {x : CT} {G : GT} (X : Cx x G cX2_settle 5 RX2 none rm_X2_settle) (hph : kP G = 1) (Q : PS → Prop) (v2 : Int32) (s : PS) (h : b_X2_settle_94 G Q v2 s) : WB x G 5 (QfV x G 0 0 Q) 0 0 s 94 [(0, .ref (kB G + 182)), (2, .int v2)] [] := by
  unfold b_X2_settle_94 at h
  refine r_aload_n X 0 dX2_settle_94 rfl rfl ?_
  refine gr_X2_7 X hph 13 182 183 ly_182 rfl rfl dX2_settle_95 ?_
  refine r_iload_n X 1 dX2_settle_98 rfl rfl ?_
  refine r_iconst (v := 2) X dX2_settle_99 rfl ?_
  refine r_iadd X dX2_settle_100 ?_
  refine r_aload_n X 0 dX2_settle_101 rfl rfl ?_
  refine gr_X2_7 X hph 13 182 183 ly_182 rfl rfl dX2_settle_102 ?_
  refine r_iload_n X 1 dX2_settle_105 rfl rfl ?_
  refine r_iconst (v := 1) X dX2_settle_106 rfl ?_
  refine r_iadd X dX2_settle_107 ?_
  obtain ⟨g1, h⟩ := h
  refine r_ialdL X hph 183 5544 ly_183 rfl g1 dX2_settle_108 ?_
  obtain ⟨g2, h⟩ := h
  refine r_iastL X hph 183 5544 ly_183 rfl g2 dX2_settle_109 (fun s3 e4 => ?_)
  replace h := h s3 e4
  exact r_vret X h (Nat.le_of_ble_eq_true rfl) (Nat.le_of_ble_eq_true rfl) dX2_settle_110
theorem e_X2_settle {x : CT} {G : GT} (X : Cx x G cX2_settle 5 RX2 none rm_X2_settle) (hph : kP G = 1) (p1 : Int32) (s : PS) (Q : PS → Prop) (h : w_X2_settle G p1 s Q) : WB x G 5 (QfV x G 0 0 Q) 0 0 s 0 [(0, .ref (kB G + 182)), (1, .int p1)] [] := by
  unfold w_X2_settle at h
  refine r_sipush (v := 242) X dX2_settle_0 rfl ?_
  refine r_istore_n (lv' := [(2, .int 242), (0, .ref (kB G + 182)), (1, .int p1)]) X dX2_settle_3 rfl (Nat.le_of_ble_eq_true rfl) rfl ?_
  refine r_aload_n X 1 dX2_settle_4 rfl rfl ?_
  refine gr_X2_32 X hph 13 182 188 ly_182 rfl rfl dX2_settle_5 ?_
  refine r_bipush (v := 8) X dX2_settle_8 rfl ?_
  refine r_aload_n X 1 dX2_settle_10 rfl rfl ?_
  refine gr_X2_7 X hph 13 182 183 ly_182 rfl rfl dX2_settle_11 ?_
  refine r_iload_n X 0 dX2_settle_14 rfl rfl ?_
  refine r_iconst (v := 2) X dX2_settle_15 rfl ?_
  refine r_iadd X dX2_settle_16 ?_
  obtain ⟨g1, h⟩ := h
  refine r_ialdL X hph 183 5544 ly_183 rfl g1 dX2_settle_17 ?_
  refine r_iastL X hph 188 15 ly_188 tn_8 il_8_15 dX2_settle_18 (fun s2 e3 => ?_)
  replace h := h s2 e3
  refine r_aload_n X 1 dX2_settle_19 rfl rfl ?_
  refine gr_X2_32 X hph 13 182 188 ly_182 rfl rfl dX2_settle_20 ?_
  refine r_bipush (v := 9) X dX2_settle_23 rfl ?_
  refine r_aload_n X 1 dX2_settle_25 rfl rfl ?_
  refine gr_X2_7 X hph 13 182 183 ly_182 rfl rfl dX2_settle_26 ?_
  refine r_iload_n X 0 dX2_settle_29 rfl rfl ?_
  refine r_iconst (v := 4) X dX2_settle_30 rfl ?_
  refine r_iadd X dX2_settle_31 ?_
  obtain ⟨g4, h⟩ := h
  refine r_ialdL X hph 183 5544 ly_183 rfl g4 dX2_settle_32 ?_
  refine r_ci X (r_okS (As := [.int (gI s2 (kB G + 183) ((242 : Int32) + 4).toNatClampNeg)]) (rest := [.int 9, .ref (kB G + 188)]) X (m_X2_bits (xl x) G X.2.2.2.2.1 (gI s2 (kB G + 183) ((242 : Int32) + 4).toNatClampNeg) s2 _ h) (cl_X2_294 X ⟨(Nat.le_of_ble_eq_true rfl), (Nat.le_of_ble_eq_true rfl)⟩) rfl rfl (Nat.le_of_ble_eq_true rfl) dX2_settle_33 ⟨Nat.le_of_ble_eq_true rfl, Nat.le_of_ble_eq_true rfl⟩) (fun r6 s5 h => ?_)
  refine r_iastL X hph 188 15 ly_188 tn_9 il_9_15 dX2_settle_36 (fun s7 e8 => ?_)
  replace h := h s7 e8
  refine r_aload_n X 1 dX2_settle_37 rfl rfl ?_
  refine r_aload_n X 1 dX2_settle_38 rfl rfl ?_
  refine gr_X2_7 X hph 13 182 183 ly_182 rfl rfl dX2_settle_39 ?_
  refine r_bipush (v := 7) X dX2_settle_42 rfl ?_
  refine r_ialdL X hph 183 5544 ly_183 tn_7 il_7_5544 dX2_settle_44 ?_
  refine r_iconst (v := 1) X dX2_settle_45 rfl ?_
  refine r_aload_n X 1 dX2_settle_46 rfl rfl ?_
  refine gr_X2_7 X hph 13 182 183 ly_182 rfl rfl dX2_settle_47 ?_
  refine r_iload_n X 0 dX2_settle_50 rfl rfl ?_
  refine r_iconst (v := 0) X dX2_settle_51 rfl ?_
  refine r_iadd X dX2_settle_52 ?_
  obtain ⟨g9, h⟩ := h
  refine r_ialdL X hph 183 5544 ly_183 rfl g9 dX2_settle_53 ?_
  refine r_iload_n X 2 dX2_settle_54 rfl rfl ?_
  refine r_iconst (v := 0) X dX2_settle_55 rfl ?_
  refine r_bipush (v := 99) X dX2_settle_56 rfl ?_
  refine r_ci X (r_okVL (As := [.int (gI s7 (kB G + 183) 7), .int 1, .int (gI s7 (kB G + 183) ((242 : Int32) + 0).toNatClampNeg), .int p1, .int 0, .int 99]) (rest := []) X (m_X2_says (xl x) G X.2.2.2.2.1 hph (gI s7 (kB G + 183) 7) 1 (gI s7 (kB G + 183) ((242 : Int32) + 0).toNatClampNeg) p1 0 99 s7 _ h) (cl_X2_284 X ⟨(Nat.le_of_ble_eq_true rfl), (Nat.le_of_ble_eq_true rfl)⟩) hph 2 ly_182 rfl rfl rfl rfl (Nat.le_of_ble_eq_true rfl) dX2_settle_58 ⟨Nat.le_of_ble_eq_true rfl, Nat.le_of_ble_eq_true rfl⟩) (fun r11 s10 h => ?_)
  refine r_istore_n (lv' := [(3, .int r11), (2, .int 242), (0, .ref (kB G + 182)), (1, .int p1)]) X dX2_settle_61 rfl (Nat.le_of_ble_eq_true rfl) rfl ?_
  refine r_aload_n X 2 dX2_settle_62 rfl rfl ?_
  refine gr_X2_7 X hph 13 182 183 ly_182 rfl rfl dX2_settle_63 ?_
  refine r_iload_n X 1 dX2_settle_66 rfl rfl ?_
  refine r_iconst (v := 2) X dX2_settle_67 rfl ?_
  refine r_iadd X dX2_settle_68 ?_
  refine r_ialdL X hph 183 5544 ly_183 rfl g1 dX2_settle_69 ?_
  refine r_aload_n X 2 dX2_settle_70 rfl rfl ?_
  refine gr_X2_7 X hph 13 182 183 ly_182 rfl rfl dX2_settle_71 ?_
  refine r_iload_n X 1 dX2_settle_74 rfl rfl ?_
  refine r_iconst (v := 1) X dX2_settle_75 rfl ?_
  refine r_iadd X dX2_settle_76 ?_
  obtain ⟨g12, h⟩ := h
  refine r_ialdL X hph 183 5544 ly_183 rfl g12 dX2_settle_77 ?_
  refine r_isub X dX2_settle_78 ?_
  refine r_nmI (fun y13 e14 => ?_)
  replace h := h y13 e14
  refine r_istore (lv' := [(4, .int y13), (3, .int r11), (2, .int 242), (0, .ref (kB G + 182)), (1, .int p1)]) X dX2_settle_79 (Nat.le_of_ble_eq_true rfl) rfl ?_
  refine r_iload X 0 dX2_settle_81 rfl ?_
  refine r_iload_n X 1 dX2_settle_83 rfl rfl ?_
  refine r_ic_gt X 94 dX2_settle_84 (by decide) (fun c15 => ?_) (fun c15 => ?_)
  · replace h := h.1 c15
    refine r_sub [3, 2] rfl ?_
    exact tb_X2_settle_94 X hph Q 242 s10 h
  · replace h := h.2 c15
    refine r_iload X 0 dX2_settle_87 rfl ?_
    refine r_ineg X dX2_settle_89 ?_
    refine r_iload_n X 1 dX2_settle_90 rfl rfl ?_
    refine r_ic_le X 110 dX2_settle_91 (by decide) (fun c16 => ?_) (fun c16 => ?_)
    · replace h := h.1 c16
      exact r_vret X h (Nat.le_of_ble_eq_true rfl) (Nat.le_of_ble_eq_true rfl) dX2_settle_110
    · replace h := h.2 c16
      refine r_sub [3, 2] rfl ?_
      exact tb_X2_settle_94 X hph Q 242 s10 h
theorem m_X2_settle (l : Launch) (G : GT) (g : GK G) (hph : kP G = 1) (p1 : Int32) (s : PS) (Q : PS → Prop) (h : w_X2_settle G p1 s Q) : Met l yX2_settle (ws_ yX2_settle cX2_settle 5 none) rm_X2_settle (va_Pc [.ref (kB G + 182), .int p1] (Wr G s)) (va_Qv Q (fun u t => Wr G u t) (kF G)) 0 0 (kF G) := by
  refine Met.ofW (cc := cX2_settle) (maxL := 5) (ret := none) (by decide) rfl ?_
  intro p e s0 m args below meth c s₁ B hml hv
  obtain ⟨rfl, hw⟩ := hv
  exact wb_of [.ref (kB G + 182), .int p1] (Nat.le_of_ble_eq_true rfl) hw.1 rfl (e_X2_settle (cx_of g B hml rfl hw) hph p1 s Q h)
theorem tl_X2_weighNow_2 {x : CT} {G : GT} (X : Cx x G cX2_weighNow 4 RX2 none rm_X2_weighNow) (hph : kP G = 1) (Q : PS → Prop) (v1 : Int32) (v2 : Int32) : ∀ (n : Nat) (v3 : Int32) (s : PS) (h : l_X2_weighNow_2 G Q v1 v2 n v3 s), WB x G 4 (QfV x G 0 0 Q) 0 0 s 2 [(0, .ref (kB G + 182)), (1, .int v1), (2, .int v2), (3, .int v3)] [] := by
  intro n
  induction n with
  | zero =>
    intro v3 s h
    exact False.elim h
  | succ n ih =>
    intro v3 s h
    unfold l_X2_weighNow_2 at h
    refine r_iload_n X 3 dX2_weighNow_2 rfl rfl ?_
    refine r_bipush (v := 6) X dX2_weighNow_3 rfl ?_
    refine r_ic_ge X 25 dX2_weighNow_5 (by decide) (fun c1 => ?_) (fun c1 => ?_)
    · replace h := h.1 c1
      refine r_aload_n X 0 dX2_weighNow_25 rfl rfl ?_
      refine gr_X2_7 X hph 13 182 183 ly_182 rfl rfl dX2_weighNow_26 ?_
      refine r_sipush (v := 242) X dX2_weighNow_29 rfl ?_
      refine r_iload_n X 1 dX2_weighNow_32 rfl rfl ?_
      refine r_iastL X hph 183 5544 ly_183 tn_242 il_242_5544 dX2_weighNow_33 (fun s2 e3 => ?_)
      replace h := h s2 e3
      refine r_aload_n X 0 dX2_weighNow_34 rfl rfl ?_
      refine gr_X2_7 X hph 13 182 183 ly_182 rfl rfl dX2_weighNow_35 ?_
      refine r_sipush (v := 243) X dX2_weighNow_38 rfl ?_
      refine r_aload_n X 0 dX2_weighNow_41 rfl rfl ?_
      refine r_iload_n X 1 dX2_weighNow_42 rfl rfl ?_
      refine r_ci X (r_okVL (As := [.int v1]) (rest := [.int 243, .ref (kB G + 183)]) X (m_X2_lentOf (xl x) G X.2.2.2.2.1 hph v1 s2 _ h) (cl_X2_297 X ⟨(Nat.le_of_ble_eq_true rfl), (Nat.le_of_ble_eq_true rfl)⟩) hph 2 ly_182 rfl rfl rfl rfl (Nat.le_of_ble_eq_true rfl) dX2_weighNow_43 ⟨Nat.le_of_ble_eq_true rfl, Nat.le_of_ble_eq_true rfl⟩) (fun r5 s4 h => ?_)
      refine r_iastL X hph 183 5544 ly_183 tn_243 il_243_5544 dX2_weighNow_46 (fun s6 e7 => ?_)
      replace h := h s6 e7
      refine r_aload_n X 0 dX2_weighNow_47 rfl rfl ?_
      refine r_iload_n X 2 dX2_weighNow_48 rfl rfl ?_
      refine r_cv X (r_okVL (As := [.int v2]) (rest := []) X (m_X2_settle (xl x) G X.2.2.2.2.1 hph v2 s6 _ h) (cl_X2_300 X ⟨(Nat.le_of_ble_eq_true rfl), (Nat.le_of_ble_eq_true rfl)⟩) hph 2 ly_182 rfl rfl rfl rfl (Nat.le_of_ble_eq_true rfl) dX2_weighNow_49 ⟨Nat.le_of_ble_eq_true rfl, Nat.le_of_ble_eq_true rfl⟩) (fun s8 h => ?_)
      exact r_vret X h (Nat.le_of_ble_eq_true rfl) (Nat.le_of_ble_eq_true rfl) dX2_weighNow_52
    · replace h := h.2 c1
      refine r_aload_n X 0 dX2_weighNow_8 rfl rfl ?_
      refine gr_X2_7 X hph 13 182 183 ly_182 rfl rfl dX2_weighNow_9 ?_
      refine r_sipush (v := 242) X dX2_weighNow_12 rfl ?_
      refine r_iload_n X 3 dX2_weighNow_15 rfl rfl ?_
      refine r_iadd X dX2_weighNow_16 ?_
      refine r_iconst (v := 0) X dX2_weighNow_17 rfl ?_
      obtain ⟨g9, h⟩ := h
      refine r_iastL X hph 183 5544 ly_183 rfl g9 dX2_weighNow_18 (fun s10 e11 => ?_)
      replace h := h s10 e11
      refine r_iinc (lv' := [(3, .int (v3 + 1)), (0, .ref (kB G + 182)), (1, .int v1), (2, .int v2)]) X 3 dX2_weighNow_19 rfl rfl (Nat.le_of_ble_eq_true rfl) rfl ?_
      refine r_goto X 2 dX2_weighNow_22 (by decide) ?_
      refine r_sub [1, 2, 3, 0] rfl ?_
      exact ih (v3 + 1) s10 h
theorem e_X2_weighNow {x : CT} {G : GT} (X : Cx x G cX2_weighNow 4 RX2 none rm_X2_weighNow) (hph : kP G = 1) (p1 : Int32) (p2 : Int32) (s : PS) (Q : PS → Prop) (h : w_X2_weighNow G p1 p2 s Q) : WB x G 4 (QfV x G 0 0 Q) 0 0 s 0 [(0, .ref (kB G + 182)), (1, .int p1), (2, .int p2)] [] := by
  unfold w_X2_weighNow at h
  refine r_iconst (v := 0) X dX2_weighNow_0 rfl ?_
  refine r_istore_n (lv' := [(3, .int 0), (0, .ref (kB G + 182)), (1, .int p1), (2, .int p2)]) X dX2_weighNow_1 rfl (Nat.le_of_ble_eq_true rfl) rfl ?_
  refine r_sub [1, 2, 3, 0] rfl ?_
  obtain ⟨n1, h⟩ := h
  exact tl_X2_weighNow_2 X hph Q p1 p2 n1 0 s h
theorem m_X2_weighNow (l : Launch) (G : GT) (g : GK G) (hph : kP G = 1) (p1 : Int32) (p2 : Int32) (s : PS) (Q : PS → Prop) (h : w_X2_weighNow G p1 p2 s Q) : Met l yX2_weighNow (ws_ yX2_weighNow cX2_weighNow 4 none) rm_X2_weighNow (va_Pc [.ref (kB G + 182), .int p1, .int p2] (Wr G s)) (va_Qv Q (fun u t => Wr G u t) (kF G)) 0 0 (kF G) := by
  refine Met.ofW (cc := cX2_weighNow) (maxL := 4) (ret := none) (by decide) rfl ?_
  intro p e s0 m args below meth c s₁ B hml hv
  obtain ⟨rfl, hw⟩ := hv
  exact wb_of [.ref (kB G + 182), .int p1, .int p2] (Nat.le_of_ble_eq_true rfl) hw.1 rfl (e_X2_weighNow (cx_of g B hml rfl hw) hph p1 p2 s Q h)
theorem e_X2_weigh {x : CT} {G : GT} (X : Cx x G cX2_weigh 2 RX2 (some .int) rm_X2_weigh) (hph : kP G = 1) (p1 : Int32) (s : PS) (Q : Int32 → PS → Prop) (h : w_X2_weigh G p1 s Q) : WB x G 2 (QfI x G 0 0 Q) 0 0 s 0 [(0, .ref (kB G + 182)), (1, .int p1)] [] := by
  unfold w_X2_weigh at h
  refine r_aload_n X 0 dX2_weigh_0 rfl rfl ?_
  refine r_iload_n X 1 dX2_weigh_1 rfl rfl ?_
  refine r_ci X (r_okVL (As := [.int p1]) (rest := []) X (m_X2_isHeart (xl x) G X.2.2.2.2.1 hph p1 s _ h) (cl_X2_88 X ⟨(Nat.le_of_ble_eq_true rfl), (Nat.le_of_ble_eq_true rfl)⟩) hph 2 ly_182 rfl rfl rfl rfl (Nat.le_of_ble_eq_true rfl) dX2_weigh_2 ⟨Nat.le_of_ble_eq_true rfl, Nat.le_of_ble_eq_true rfl⟩) (fun r2 s1 h => ?_)
  obtain ⟨z3, h⟩ := h
  refine r_if_ne X 12 dX2_weigh_5 (by decide) (fun c4 => ?_) (fun c4 => ?_)
  · replace h := h.2 c4
    refine r_aload_n X 0 dX2_weigh_12 rfl rfl ?_
    refine r_cv X (r_okVL (As := []) (rest := []) X (m_X2_keep (xl x) G X.2.2.2.2.1 hph s1 _ h) (cl_X2_318 X ⟨(Nat.le_of_ble_eq_true rfl), (Nat.le_of_ble_eq_true rfl)⟩) hph 2 ly_182 rfl rfl rfl rfl (Nat.le_of_ble_eq_true rfl) dX2_weigh_13 ⟨Nat.le_of_ble_eq_true rfl, Nat.le_of_ble_eq_true rfl⟩) (fun s5 h => ?_)
    refine r_aload_n X 0 dX2_weigh_16 rfl rfl ?_
    refine r_iload_n X 1 dX2_weigh_17 rfl rfl ?_
    refine r_aload_n X 0 dX2_weigh_18 rfl rfl ?_
    refine gr_X2_7 X hph 13 182 183 ly_182 rfl rfl dX2_weigh_19 ?_
    refine r_iconst (v := 3) X dX2_weigh_22 rfl ?_
    refine r_ialdL X hph 183 5544 ly_183 tn_3 il_3_5544 dX2_weigh_23 ?_
    refine r_cv X (r_okVL (As := [.int p1, .int (gI s5 (kB G + 183) 3)]) (rest := []) X (m_X2_weighNow (xl x) G X.2.2.2.2.1 hph p1 (gI s5 (kB G + 183) 3) s5 _ h) (cl_X2_322 X ⟨(Nat.le_of_ble_eq_true rfl), (Nat.le_of_ble_eq_true rfl)⟩) hph 2 ly_182 rfl rfl rfl rfl (Nat.le_of_ble_eq_true rfl) dX2_weigh_24 ⟨Nat.le_of_ble_eq_true rfl, Nat.le_of_ble_eq_true rfl⟩) (fun s6 h => ?_)
    refine r_aload_n X 0 dX2_weigh_27 rfl rfl ?_
    refine gr_X2_7 X hph 13 182 183 ly_182 rfl rfl dX2_weigh_28 ?_
    refine r_sipush (v := 244) X dX2_weigh_31 rfl ?_
    refine r_ialdL X hph 183 5544 ly_183 tn_244 il_244_5544 dX2_weigh_34 ?_
    exact r_iret X h (Nat.le_of_ble_eq_true rfl) (Nat.le_of_ble_eq_true rfl) dX2_weigh_35
  · replace h := h.1 c4
    refine r_ldc_w X q1658 dX2_weigh_8 ?_
    exact r_iret X h (Nat.le_of_ble_eq_true rfl) (Nat.le_of_ble_eq_true rfl) dX2_weigh_11
theorem m_X2_weigh (l : Launch) (G : GT) (g : GK G) (hph : kP G = 1) (p1 : Int32) (s : PS) (Q : Int32 → PS → Prop) (h : w_X2_weigh G p1 s Q) : Met l yX2_weigh (ws_ yX2_weigh cX2_weigh 2 (some .int)) rm_X2_weigh (va_Pc [.ref (kB G + 182), .int p1] (Wr G s)) (va_Qi Q (fun u t => Wr G u t) (kF G)) 0 0 (kF G) := by
  refine Met.ofW (cc := cX2_weigh) (maxL := 2) (ret := (some .int)) (by decide) rfl ?_
  intro p e s0 m args below meth c s₁ B hml hv
  obtain ⟨rfl, hw⟩ := hv
  exact wb_of [.ref (kB G + 182), .int p1] (Nat.le_of_ble_eq_true rfl) hw.1 rfl (e_X2_weigh (cx_of g B hml rfl hw) hph p1 s Q h)
theorem e_X2_deedOf {x : CT} {G : GT} (X : Cx x G cX2_deedOf 3 RX2 (some .int) rm_X2_deedOf) (hph : kP G = 1) (p1 : Int32) (p2 : Int32) (s : PS) (Q : Int32 → PS → Prop) (h : w_X2_deedOf G p1 p2 s Q) : WB x G 3 (QfI x G 0 0 Q) 0 0 s 0 [(0, .ref (kB G + 182)), (1, .int p1), (2, .int p2)] [] := by
  unfold w_X2_deedOf at h
  refine r_aload_n X 0 dX2_deedOf_0 rfl rfl ?_
  refine gr_X2_7 X hph 13 182 183 ly_182 rfl rfl dX2_deedOf_1 ?_
  refine r_bipush (v := 90) X dX2_deedOf_4 rfl ?_
  refine r_bipush (v := 6) X dX2_deedOf_6 rfl ?_
  refine r_iload_n X 1 dX2_deedOf_8 rfl rfl ?_
  refine r_imul X dX2_deedOf_9 ?_
  refine r_iadd X dX2_deedOf_10 ?_
  refine r_iload_n X 2 dX2_deedOf_11 rfl rfl ?_
  refine r_iadd X dX2_deedOf_12 ?_
  obtain ⟨g1, h⟩ := h
  refine r_ialdL X hph 183 5544 ly_183 rfl g1 dX2_deedOf_13 ?_
  exact r_iret X h (Nat.le_of_ble_eq_true rfl) (Nat.le_of_ble_eq_true rfl) dX2_deedOf_14
theorem m_X2_deedOf (l : Launch) (G : GT) (g : GK G) (hph : kP G = 1) (p1 : Int32) (p2 : Int32) (s : PS) (Q : Int32 → PS → Prop) (h : w_X2_deedOf G p1 p2 s Q) : Met l yX2_deedOf (ws_ yX2_deedOf cX2_deedOf 3 (some .int)) rm_X2_deedOf (va_Pc [.ref (kB G + 182), .int p1, .int p2] (Wr G s)) (va_Qi Q (fun u t => Wr G u t) (kF G)) 0 0 (kF G) := by
  refine Met.ofW (cc := cX2_deedOf) (maxL := 3) (ret := (some .int)) (by decide) rfl ?_
  intro p e s0 m args below meth c s₁ B hml hv
  obtain ⟨rfl, hw⟩ := hv
  exact wb_of [.ref (kB G + 182), .int p1, .int p2] (Nat.le_of_ble_eq_true rfl) hw.1 rfl (e_X2_deedOf (cx_of g B hml rfl hw) hph p1 p2 s Q h)
theorem e_X2_weightBy {x : CT} {G : GT} (X : Cx x G cX2_weightBy 3 RX2 (some .int) rm_X2_weightBy) (hph : kP G = 1) (p1 : Int32) (p2 : Int32) (s : PS) (Q : Int32 → PS → Prop) (h : w_X2_weightBy G p1 p2 s Q) : WB x G 3 (QfI x G 0 0 Q) 0 0 s 0 [(0, .ref (kB G + 182)), (1, .int p1), (2, .int p2)] [] := by
  unfold w_X2_weightBy at h
  refine r_aload_n X 0 dX2_weightBy_0 rfl rfl ?_
  refine gr_X2_32 X hph 13 182 188 ly_182 rfl rfl dX2_weightBy_1 ?_
  refine r_iconst (v := 2) X dX2_weightBy_4 rfl ?_
  refine r_aload_n X 0 dX2_weightBy_5 rfl rfl ?_
  refine r_iload_n X 2 dX2_weightBy_6 rfl rfl ?_
  refine r_iconst (v := 1) X dX2_weightBy_7 rfl ?_
  refine r_ci X (r_okVL (As := [.int p2, .int 1]) (rest := [.int 2, .ref (kB G + 188)]) X (m_X2_deedOf (xl x) G X.2.2.2.2.1 hph p2 1 s _ h) (cl_X2_84 X ⟨(Nat.le_of_ble_eq_true rfl), (Nat.le_of_ble_eq_true rfl)⟩) hph 2 ly_182 rfl rfl rfl rfl (Nat.le_of_ble_eq_true rfl) dX2_weightBy_8 ⟨Nat.le_of_ble_eq_true rfl, Nat.le_of_ble_eq_true rfl⟩) (fun r2 s1 h => ?_)
  refine r_iastL X hph 188 15 ly_188 tn_2 il_2_15 dX2_weightBy_11 (fun s3 e4 => ?_)
  replace h := h s3 e4
  refine r_aload_n X 0 dX2_weightBy_12 rfl rfl ?_
  refine gr_X2_32 X hph 13 182 188 ly_182 rfl rfl dX2_weightBy_13 ?_
  refine r_iconst (v := 3) X dX2_weightBy_16 rfl ?_
  refine r_aload_n X 0 dX2_weightBy_17 rfl rfl ?_
  refine r_iload_n X 2 dX2_weightBy_18 rfl rfl ?_
  refine r_iconst (v := 2) X dX2_weightBy_19 rfl ?_
  refine r_ci X (r_okVL (As := [.int p2, .int 2]) (rest := [.int 3, .ref (kB G + 188)]) X (m_X2_deedOf (xl x) G X.2.2.2.2.1 hph p2 2 s3 _ h) (cl_X2_84 X ⟨(Nat.le_of_ble_eq_true rfl), (Nat.le_of_ble_eq_true rfl)⟩) hph 2 ly_182 rfl rfl rfl rfl (Nat.le_of_ble_eq_true rfl) dX2_weightBy_20 ⟨Nat.le_of_ble_eq_true rfl, Nat.le_of_ble_eq_true rfl⟩) (fun r6 s5 h => ?_)
  refine r_iastL X hph 188 15 ly_188 tn_3 il_3_15 dX2_weightBy_23 (fun s7 e8 => ?_)
  replace h := h s7 e8
  refine r_aload_n X 0 dX2_weightBy_24 rfl rfl ?_
  refine gr_X2_32 X hph 13 182 188 ly_182 rfl rfl dX2_weightBy_25 ?_
  refine r_iconst (v := 4) X dX2_weightBy_28 rfl ?_
  refine r_aload_n X 0 dX2_weightBy_29 rfl rfl ?_
  refine r_iload_n X 2 dX2_weightBy_30 rfl rfl ?_
  refine r_iconst (v := 3) X dX2_weightBy_31 rfl ?_
  refine r_ci X (r_okVL (As := [.int p2, .int 3]) (rest := [.int 4, .ref (kB G + 188)]) X (m_X2_deedOf (xl x) G X.2.2.2.2.1 hph p2 3 s7 _ h) (cl_X2_84 X ⟨(Nat.le_of_ble_eq_true rfl), (Nat.le_of_ble_eq_true rfl)⟩) hph 2 ly_182 rfl rfl rfl rfl (Nat.le_of_ble_eq_true rfl) dX2_weightBy_32 ⟨Nat.le_of_ble_eq_true rfl, Nat.le_of_ble_eq_true rfl⟩) (fun r10 s9 h => ?_)
  refine r_iconst (v := 1) X dX2_weightBy_35 rfl ?_
  refine r_iand X dX2_weightBy_36 ?_
  refine r_iastL X hph 188 15 ly_188 tn_4 il_4_15 dX2_weightBy_37 (fun s11 e12 => ?_)
  replace h := h s11 e12
  refine r_aload_n X 0 dX2_weightBy_38 rfl rfl ?_
  refine gr_X2_32 X hph 13 182 188 ly_182 rfl rfl dX2_weightBy_39 ?_
  refine r_iconst (v := 5) X dX2_weightBy_42 rfl ?_
  refine r_aload_n X 0 dX2_weightBy_43 rfl rfl ?_
  refine r_iload_n X 2 dX2_weightBy_44 rfl rfl ?_
  refine r_iconst (v := 3) X dX2_weightBy_45 rfl ?_
  refine r_ci X (r_okVL (As := [.int p2, .int 3]) (rest := [.int 5, .ref (kB G + 188)]) X (m_X2_deedOf (xl x) G X.2.2.2.2.1 hph p2 3 s11 _ h) (cl_X2_84 X ⟨(Nat.le_of_ble_eq_true rfl), (Nat.le_of_ble_eq_true rfl)⟩) hph 2 ly_182 rfl rfl rfl rfl (Nat.le_of_ble_eq_true rfl) dX2_weightBy_46 ⟨Nat.le_of_ble_eq_true rfl, Nat.le_of_ble_eq_true rfl⟩) (fun r14 s13 h => ?_)
  refine r_iconst (v := 1) X dX2_weightBy_49 rfl ?_
  refine r_ishr X dX2_weightBy_50 ?_
  refine r_iconst (v := 1) X dX2_weightBy_51 rfl ?_
  refine r_iand X dX2_weightBy_52 ?_
  refine r_iastL X hph 188 15 ly_188 tn_5 il_5_15 dX2_weightBy_53 (fun s15 e16 => ?_)
  replace h := h s15 e16
  refine r_aload_n X 0 dX2_weightBy_54 rfl rfl ?_
  refine gr_X2_32 X hph 13 182 188 ly_182 rfl rfl dX2_weightBy_55 ?_
  refine r_bipush (v := 6) X dX2_weightBy_58 rfl ?_
  refine r_aload_n X 0 dX2_weightBy_60 rfl rfl ?_
  refine r_iload_n X 2 dX2_weightBy_61 rfl rfl ?_
  refine r_iconst (v := 3) X dX2_weightBy_62 rfl ?_
  refine r_ci X (r_okVL (As := [.int p2, .int 3]) (rest := [.int 6, .ref (kB G + 188)]) X (m_X2_deedOf (xl x) G X.2.2.2.2.1 hph p2 3 s15 _ h) (cl_X2_84 X ⟨(Nat.le_of_ble_eq_true rfl), (Nat.le_of_ble_eq_true rfl)⟩) hph 2 ly_182 rfl rfl rfl rfl (Nat.le_of_ble_eq_true rfl) dX2_weightBy_63 ⟨Nat.le_of_ble_eq_true rfl, Nat.le_of_ble_eq_true rfl⟩) (fun r18 s17 h => ?_)
  refine r_iconst (v := 2) X dX2_weightBy_66 rfl ?_
  refine r_ishr X dX2_weightBy_67 ?_
  refine r_iastL X hph 188 15 ly_188 tn_6 il_6_15 dX2_weightBy_68 (fun s19 e20 => ?_)
  replace h := h s19 e20
  refine r_aload_n X 0 dX2_weightBy_69 rfl rfl ?_
  refine gr_X2_32 X hph 13 182 188 ly_182 rfl rfl dX2_weightBy_70 ?_
  refine r_bipush (v := 7) X dX2_weightBy_73 rfl ?_
  refine r_aload_n X 0 dX2_weightBy_75 rfl rfl ?_
  refine r_iload_n X 2 dX2_weightBy_76 rfl rfl ?_
  refine r_iconst (v := 4) X dX2_weightBy_77 rfl ?_
  refine r_ci X (r_okVL (As := [.int p2, .int 4]) (rest := [.int 7, .ref (kB G + 188)]) X (m_X2_deedOf (xl x) G X.2.2.2.2.1 hph p2 4 s19 _ h) (cl_X2_84 X ⟨(Nat.le_of_ble_eq_true rfl), (Nat.le_of_ble_eq_true rfl)⟩) hph 2 ly_182 rfl rfl rfl rfl (Nat.le_of_ble_eq_true rfl) dX2_weightBy_78 ⟨Nat.le_of_ble_eq_true rfl, Nat.le_of_ble_eq_true rfl⟩) (fun r22 s21 h => ?_)
  refine r_iconst (v := (-1)) X dX2_weightBy_81 rfl ?_
  have hJ : WB x G 3 (QfI x G 0 0 Q) 0 0 s21 90 [(0, .ref (kB G + 182)), (1, .int p1), (2, .int p2)] [.int (if r22 = (-1) then 0 else 1 : Int32), .int 7, .ref (kB G + 188)] := by
    refine r_iastL X hph 188 15 ly_188 tn_7 il_7_15 dX2_weightBy_90 (fun s24 e25 => ?_)
    replace h := h s24 e25
    refine r_aload_n X 0 dX2_weightBy_91 rfl rfl ?_
    refine r_iload_n X 1 dX2_weightBy_92 rfl rfl ?_
    refine r_iconst (v := 0) X dX2_weightBy_93 rfl ?_
    refine r_aload_n X 0 dX2_weightBy_94 rfl rfl ?_
    refine r_iload_n X 2 dX2_weightBy_95 rfl rfl ?_
    refine r_iconst (v := 0) X dX2_weightBy_96 rfl ?_
    refine r_ci X (r_okVL (As := [.int p2, .int 0]) (rest := [.int 0, .int p1, .ref (kB G + 182)]) X (m_X2_deedOf (xl x) G X.2.2.2.2.1 hph p2 0 s24 _ h) (cl_X2_84 X ⟨(Nat.le_of_ble_eq_true rfl), (Nat.le_of_ble_eq_true rfl)⟩) hph 2 ly_182 rfl rfl rfl rfl (Nat.le_of_ble_eq_true rfl) dX2_weightBy_97 ⟨Nat.le_of_ble_eq_true rfl, Nat.le_of_ble_eq_true rfl⟩) (fun r27 s26 h => ?_)
    refine r_aload_n X 0 dX2_weightBy_100 rfl rfl ?_
    refine r_iload_n X 2 dX2_weightBy_101 rfl rfl ?_
    refine r_iconst (v := 2) X dX2_weightBy_102 rfl ?_
    refine r_ci X (r_okVL (As := [.int p2, .int 2]) (rest := [.int r27, .int 0, .int p1, .ref (kB G + 182)]) X (m_X2_deedOf (xl x) G X.2.2.2.2.1 hph p2 2 s26 _ h) (cl_X2_84 X ⟨(Nat.le_of_ble_eq_true rfl), (Nat.le_of_ble_eq_true rfl)⟩) hph 2 ly_182 rfl rfl rfl rfl (Nat.le_of_ble_eq_true rfl) dX2_weightBy_103 ⟨Nat.le_of_ble_eq_true rfl, Nat.le_of_ble_eq_true rfl⟩) (fun r29 s28 h => ?_)
    refine r_sipush (v := (-999)) X dX2_weightBy_106 rfl ?_
    refine r_sipush (v := 999) X dX2_weightBy_109 rfl ?_
    refine r_ci X (r_okVL (As := [.int p1, .int 0, .int r27, .int r29, .int (-999), .int 999]) (rest := []) X (m_X2_says (xl x) G X.2.2.2.2.1 hph p1 0 r27 r29 (-999) 999 s28 _ h) (cl_X2_284 X ⟨(Nat.le_of_ble_eq_true rfl), (Nat.le_of_ble_eq_true rfl)⟩) hph 2 ly_182 rfl rfl rfl rfl (Nat.le_of_ble_eq_true rfl) dX2_weightBy_112 ⟨Nat.le_of_ble_eq_true rfl, Nat.le_of_ble_eq_true rfl⟩) (fun r31 s30 h => ?_)
    exact r_iret X h (Nat.le_of_ble_eq_true rfl) (Nat.le_of_ble_eq_true rfl) dX2_weightBy_115
  refine r_ic_ne X 89 dX2_weightBy_82 (by decide) (fun c23 => ?_) (fun c23 => ?_)
  · rw [if_neg c23] at hJ
    refine r_iconst (v := 1) X dX2_weightBy_89 rfl ?_
    exact hJ
  · rw [if_pos c23] at hJ
    refine r_iconst (v := 0) X dX2_weightBy_85 rfl ?_
    refine r_goto X 90 dX2_weightBy_86 (by decide) ?_
    exact hJ
theorem m_X2_weightBy (l : Launch) (G : GT) (g : GK G) (hph : kP G = 1) (p1 : Int32) (p2 : Int32) (s : PS) (Q : Int32 → PS → Prop) (h : w_X2_weightBy G p1 p2 s Q) : Met l yX2_weightBy (ws_ yX2_weightBy cX2_weightBy 3 (some .int)) rm_X2_weightBy (va_Pc [.ref (kB G + 182), .int p1, .int p2] (Wr G s)) (va_Qi Q (fun u t => Wr G u t) (kF G)) 0 0 (kF G) := by
  refine Met.ofW (cc := cX2_weightBy) (maxL := 3) (ret := (some .int)) (by decide) rfl ?_
  intro p e s0 m args below meth c s₁ B hml hv
  obtain ⟨rfl, hw⟩ := hv
  exact wb_of [.ref (kB G + 182), .int p1, .int p2] (Nat.le_of_ble_eq_true rfl) hw.1 rfl (e_X2_weightBy (cx_of g B hml rfl hw) hph p1 p2 s Q h)
theorem e_X2_weightOf {x : CT} {G : GT} (X : Cx x G cX2_weightOf 2 RX2 (some .int) rm_X2_weightOf) (hph : kP G = 1) (p1 : Int32) (s : PS) (Q : Int32 → PS → Prop) (h : w_X2_weightOf G p1 s Q) : WB x G 2 (QfI x G 0 0 Q) 0 0 s 0 [(0, .ref (kB G + 182)), (1, .int p1)] [] := by
  unfold w_X2_weightOf at h
  refine r_aload_n X 0 dX2_weightOf_0 rfl rfl ?_
  refine r_aload_n X 0 dX2_weightOf_1 rfl rfl ?_
  refine gr_X2_7 X hph 13 182 183 ly_182 rfl rfl dX2_weightOf_2 ?_
  refine r_bipush (v := 7) X dX2_weightOf_5 rfl ?_
  refine r_ialdL X hph 183 5544 ly_183 tn_7 il_7_5544 dX2_weightOf_7 ?_
  refine r_iload_n X 1 dX2_weightOf_8 rfl rfl ?_
  refine r_ci X (r_okVL (As := [.int (gI s (kB G + 183) 7), .int p1]) (rest := []) X (m_X2_weightBy (xl x) G X.2.2.2.2.1 hph (gI s (kB G + 183) 7) p1 s _ h) (cl_X2_288 X ⟨(Nat.le_of_ble_eq_true rfl), (Nat.le_of_ble_eq_true rfl)⟩) hph 2 ly_182 rfl rfl rfl rfl (Nat.le_of_ble_eq_true rfl) dX2_weightOf_9 ⟨Nat.le_of_ble_eq_true rfl, Nat.le_of_ble_eq_true rfl⟩) (fun r2 s1 h => ?_)
  exact r_iret X h (Nat.le_of_ble_eq_true rfl) (Nat.le_of_ble_eq_true rfl) dX2_weightOf_12
theorem m_X2_weightOf (l : Launch) (G : GT) (g : GK G) (hph : kP G = 1) (p1 : Int32) (s : PS) (Q : Int32 → PS → Prop) (h : w_X2_weightOf G p1 s Q) : Met l yX2_weightOf (ws_ yX2_weightOf cX2_weightOf 2 (some .int)) rm_X2_weightOf (va_Pc [.ref (kB G + 182), .int p1] (Wr G s)) (va_Qi Q (fun u t => Wr G u t) (kF G)) 0 0 (kF G) := by
  refine Met.ofW (cc := cX2_weightOf) (maxL := 2) (ret := (some .int)) (by decide) rfl ?_
  intro p e s0 m args below meth c s₁ B hml hv
  obtain ⟨rfl, hw⟩ := hv
  exact wb_of [.ref (kB G + 182), .int p1] (Nat.le_of_ble_eq_true rfl) hw.1 rfl (e_X2_weightOf (cx_of g B hml rfl hw) hph p1 s Q h)
theorem e_X2_layNow {x : CT} {G : GT} (X : Cx x G cX2_layNow 3 RX2 none rm_X2_layNow) (hph : kP G = 1) (p1 : Int32) (p2 : Int32) (s : PS) (Q : PS → Prop) (h : w_X2_layNow G p1 p2 s Q) : WB x G 3 (QfV x G 0 0 Q) 0 0 s 0 [(0, .ref (kB G + 182)), (1, .int p1), (2, .int p2)] [] := by
  unfold w_X2_layNow at h
  refine r_aload_n X 0 dX2_layNow_0 rfl rfl ?_
  refine gr_X2_7 X hph 13 182 183 ly_182 rfl rfl dX2_layNow_1 ?_
  refine r_sipush (v := 246) X dX2_layNow_4 rfl ?_
  refine r_dup2 X dX2_layNow_7 rfl rfl ?_
  refine r_ialdL X hph 183 5544 ly_183 tn_246 il_246_5544 dX2_layNow_8 ?_
  refine r_iconst (v := 1) X dX2_layNow_9 rfl ?_
  refine r_iload_n X 1 dX2_layNow_10 rfl rfl ?_
  refine r_ishl X dX2_layNow_11 ?_
  refine r_ior X dX2_layNow_12 ?_
  refine r_iastL X hph 183 5544 ly_183 tn_246 il_246_5544 dX2_layNow_13 (fun s1 e2 => ?_)
  replace h := h s1 e2
  refine r_aload_n X 0 dX2_layNow_14 rfl rfl ?_
  refine gr_X2_7 X hph 13 182 183 ly_182 rfl rfl dX2_layNow_15 ?_
  refine r_sipush (v := 243) X dX2_layNow_18 rfl ?_
  refine r_dup2 X dX2_layNow_21 rfl rfl ?_
  refine r_ialdL X hph 183 5544 ly_183 tn_243 il_243_5544 dX2_layNow_22 ?_
  refine r_aload_n X 0 dX2_layNow_23 rfl rfl ?_
  refine r_iload_n X 1 dX2_layNow_24 rfl rfl ?_
  refine r_ci X (r_okVL (As := [.int p1]) (rest := [.int (gI s1 (kB G + 183) 243), .int 243, .ref (kB G + 183)]) X (m_X2_weightOf (xl x) G X.2.2.2.2.1 hph p1 s1 _ h) (cl_X2_303 X ⟨(Nat.le_of_ble_eq_true rfl), (Nat.le_of_ble_eq_true rfl)⟩) hph 2 ly_182 rfl rfl rfl rfl (Nat.le_of_ble_eq_true rfl) dX2_layNow_25 ⟨Nat.le_of_ble_eq_true rfl, Nat.le_of_ble_eq_true rfl⟩) (fun r4 s3 h => ?_)
  refine r_iadd X dX2_layNow_28 ?_
  refine r_iastL X hph 183 5544 ly_183 tn_243 il_243_5544 dX2_layNow_29 (fun s5 e6 => ?_)
  replace h := h s5 e6
  refine r_aload_n X 0 dX2_layNow_30 rfl rfl ?_
  refine r_iload_n X 2 dX2_layNow_31 rfl rfl ?_
  refine r_cv X (r_okVL (As := [.int p2]) (rest := []) X (m_X2_settle (xl x) G X.2.2.2.2.1 hph p2 s5 _ h) (cl_X2_300 X ⟨(Nat.le_of_ble_eq_true rfl), (Nat.le_of_ble_eq_true rfl)⟩) hph 2 ly_182 rfl rfl rfl rfl (Nat.le_of_ble_eq_true rfl) dX2_layNow_32 ⟨Nat.le_of_ble_eq_true rfl, Nat.le_of_ble_eq_true rfl⟩) (fun s7 h => ?_)
  exact r_vret X h (Nat.le_of_ble_eq_true rfl) (Nat.le_of_ble_eq_true rfl) dX2_layNow_35
theorem m_X2_layNow (l : Launch) (G : GT) (g : GK G) (hph : kP G = 1) (p1 : Int32) (p2 : Int32) (s : PS) (Q : PS → Prop) (h : w_X2_layNow G p1 p2 s Q) : Met l yX2_layNow (ws_ yX2_layNow cX2_layNow 3 none) rm_X2_layNow (va_Pc [.ref (kB G + 182), .int p1, .int p2] (Wr G s)) (va_Qv Q (fun u t => Wr G u t) (kF G)) 0 0 (kF G) := by
  refine Met.ofW (cc := cX2_layNow) (maxL := 3) (ret := none) (by decide) rfl ?_
  intro p e s0 m args below meth c s₁ B hml hv
  obtain ⟨rfl, hw⟩ := hv
  exact wb_of [.ref (kB G + 182), .int p1, .int p2] (Nat.le_of_ble_eq_true rfl) hw.1 rfl (e_X2_layNow (cx_of g B hml rfl hw) hph p1 p2 s Q h)
theorem e_X2_lay {x : CT} {G : GT} (X : Cx x G cX2_lay 2 RX2 (some .int) rm_X2_lay) (hph : kP G = 1) (p1 : Int32) (s : PS) (Q : Int32 → PS → Prop) (h : w_X2_lay G p1 s Q) : WB x G 2 (QfI x G 0 0 Q) 0 0 s 0 [(0, .ref (kB G + 182)), (1, .int p1)] [] := by
  unfold w_X2_lay at h
  refine r_aload_n X 0 dX2_lay_0 rfl rfl ?_
  refine r_iload_n X 1 dX2_lay_1 rfl rfl ?_
  refine r_ci X (r_okVL (As := [.int p1]) (rest := []) X (m_X2_isDeed (xl x) G X.2.2.2.2.1 hph p1 s _ h) (cl_X2_92 X ⟨(Nat.le_of_ble_eq_true rfl), (Nat.le_of_ble_eq_true rfl)⟩) hph 2 ly_182 rfl rfl rfl rfl (Nat.le_of_ble_eq_true rfl) dX2_lay_2 ⟨Nat.le_of_ble_eq_true rfl, Nat.le_of_ble_eq_true rfl⟩) (fun r2 s1 h => ?_)
  obtain ⟨z3, h⟩ := h
  refine r_if_eq X 40 dX2_lay_5 (by decide) (fun c4 => ?_) (fun c4 => ?_)
  · replace h := h.1 c4
    refine r_ldc_w X q1658 dX2_lay_40 ?_
    exact r_iret X h (Nat.le_of_ble_eq_true rfl) (Nat.le_of_ble_eq_true rfl) dX2_lay_43
  · replace h := h.2 c4
    refine r_aload_n X 0 dX2_lay_8 rfl rfl ?_
    refine r_iload_n X 1 dX2_lay_9 rfl rfl ?_
    refine r_iconst (v := 0) X dX2_lay_10 rfl ?_
    refine r_ci X (r_okVL (As := [.int p1, .int 0]) (rest := []) X (m_X2_deedOf (xl x) G X.2.2.2.2.1 hph p1 0 s1 _ h) (cl_X2_84 X ⟨(Nat.le_of_ble_eq_true rfl), (Nat.le_of_ble_eq_true rfl)⟩) hph 2 ly_182 rfl rfl rfl rfl (Nat.le_of_ble_eq_true rfl) dX2_lay_11 ⟨Nat.le_of_ble_eq_true rfl, Nat.le_of_ble_eq_true rfl⟩) (fun r6 s5 h => ?_)
    refine r_aload_n X 0 dX2_lay_14 rfl rfl ?_
    refine gr_X2_7 X hph 13 182 183 ly_182 rfl rfl dX2_lay_15 ?_
    refine r_sipush (v := 242) X dX2_lay_18 rfl ?_
    refine r_ialdL X hph 183 5544 ly_183 tn_242 il_242_5544 dX2_lay_21 ?_
    refine r_ic_ne X 40 dX2_lay_22 (by decide) (fun c7 => ?_) (fun c7 => ?_)
    · replace h := h.2 c7
      refine r_ldc_w X q1658 dX2_lay_40 ?_
      exact r_iret X h (Nat.le_of_ble_eq_true rfl) (Nat.le_of_ble_eq_true rfl) dX2_lay_43
    · replace h := h.1 c7
      refine r_aload_n X 0 dX2_lay_25 rfl rfl ?_
      refine gr_X2_7 X hph 13 182 183 ly_182 rfl rfl dX2_lay_26 ?_
      refine r_sipush (v := 246) X dX2_lay_29 rfl ?_
      refine r_ialdL X hph 183 5544 ly_183 tn_246 il_246_5544 dX2_lay_32 ?_
      refine r_iload_n X 1 dX2_lay_33 rfl rfl ?_
      refine r_ci X (r_okS (As := [.int (gI s5 (kB G + 183) 246), .int p1]) (rest := []) X (m_X2_has (xl x) G X.2.2.2.2.1 (gI s5 (kB G + 183) 246) p1 s5 _ h) (cl_X2_224 X ⟨(Nat.le_of_ble_eq_true rfl), (Nat.le_of_ble_eq_true rfl)⟩) rfl rfl (Nat.le_of_ble_eq_true rfl) dX2_lay_34 ⟨Nat.le_of_ble_eq_true rfl, Nat.le_of_ble_eq_true rfl⟩) (fun r9 s8 h => ?_)
      obtain ⟨z10, h⟩ := h
      refine r_if_eq X 44 dX2_lay_37 (by decide) (fun c11 => ?_) (fun c11 => ?_)
      · replace h := h.1 c11
        refine r_aload_n X 0 dX2_lay_44 rfl rfl ?_
        refine r_cv X (r_okVL (As := []) (rest := []) X (m_X2_keep (xl x) G X.2.2.2.2.1 hph s8 _ h) (cl_X2_318 X ⟨(Nat.le_of_ble_eq_true rfl), (Nat.le_of_ble_eq_true rfl)⟩) hph 2 ly_182 rfl rfl rfl rfl (Nat.le_of_ble_eq_true rfl) dX2_lay_45 ⟨Nat.le_of_ble_eq_true rfl, Nat.le_of_ble_eq_true rfl⟩) (fun s12 h => ?_)
        refine r_aload_n X 0 dX2_lay_48 rfl rfl ?_
        refine r_iload_n X 1 dX2_lay_49 rfl rfl ?_
        refine r_aload_n X 0 dX2_lay_50 rfl rfl ?_
        refine gr_X2_7 X hph 13 182 183 ly_182 rfl rfl dX2_lay_51 ?_
        refine r_iconst (v := 3) X dX2_lay_54 rfl ?_
        refine r_ialdL X hph 183 5544 ly_183 tn_3 il_3_5544 dX2_lay_55 ?_
        refine r_cv X (r_okVL (As := [.int p1, .int (gI s12 (kB G + 183) 3)]) (rest := []) X (m_X2_layNow (xl x) G X.2.2.2.2.1 hph p1 (gI s12 (kB G + 183) 3) s12 _ h) (cl_X2_325 X ⟨(Nat.le_of_ble_eq_true rfl), (Nat.le_of_ble_eq_true rfl)⟩) hph 2 ly_182 rfl rfl rfl rfl (Nat.le_of_ble_eq_true rfl) dX2_lay_56 ⟨Nat.le_of_ble_eq_true rfl, Nat.le_of_ble_eq_true rfl⟩) (fun s13 h => ?_)
        refine r_aload_n X 0 dX2_lay_59 rfl rfl ?_
        refine gr_X2_7 X hph 13 182 183 ly_182 rfl rfl dX2_lay_60 ?_
        refine r_sipush (v := 244) X dX2_lay_63 rfl ?_
        refine r_ialdL X hph 183 5544 ly_183 tn_244 il_244_5544 dX2_lay_66 ?_
        exact r_iret X h (Nat.le_of_ble_eq_true rfl) (Nat.le_of_ble_eq_true rfl) dX2_lay_67
      · replace h := h.2 c11
        refine r_ldc_w X q1658 dX2_lay_40 ?_
        exact r_iret X h (Nat.le_of_ble_eq_true rfl) (Nat.le_of_ble_eq_true rfl) dX2_lay_43
theorem m_X2_lay (l : Launch) (G : GT) (g : GK G) (hph : kP G = 1) (p1 : Int32) (s : PS) (Q : Int32 → PS → Prop) (h : w_X2_lay G p1 s Q) : Met l yX2_lay (ws_ yX2_lay cX2_lay 2 (some .int)) rm_X2_lay (va_Pc [.ref (kB G + 182), .int p1] (Wr G s)) (va_Qi Q (fun u t => Wr G u t) (kF G)) 0 0 (kF G) := by
  refine Met.ofW (cc := cX2_lay) (maxL := 2) (ret := (some .int)) (by decide) rfl ?_
  intro p e s0 m args below meth c s₁ B hml hv
  obtain ⟨rfl, hw⟩ := hv
  exact wb_of [.ref (kB G + 182), .int p1] (Nat.le_of_ble_eq_true rfl) hw.1 rfl (e_X2_lay (cx_of g B hml rfl hw) hph p1 s Q h)
theorem e_X2_isJudge {x : CT} {G : GT} (X : Cx x G cX2_isJudge 2 RX2 (some .boolean) rm_X2_isJudge) (hph : kP G = 1) (p1 : Int32) (s : PS) (Q : Int32 → PS → Prop) (h : w_X2_isJudge G p1 s Q) : WB x G 2 (QfI x G 0 0 (fun r u => (r = 0 ∨ r = 1) ∧ Q r u)) 0 0 s 0 [(0, .ref (kB G + 182)), (1, .int p1)] [] := by
  unfold w_X2_isJudge at h
  refine r_iload_n X 1 dX2_isJudge_0 rfl rfl ?_
  refine r_iconst (v := 0) X dX2_isJudge_1 rfl ?_
  refine r_aload_n X 0 dX2_isJudge_2 rfl rfl ?_
  refine gr_X2_7 X hph 13 182 183 ly_182 rfl rfl dX2_isJudge_3 ?_
  refine r_iconst (v := 2) X dX2_isJudge_6 rfl ?_
  refine r_ialdL X hph 183 5544 ly_183 tn_2 il_2_5544 dX2_isJudge_7 ?_
  refine r_iconst (v := 1) X dX2_isJudge_8 rfl ?_
  refine r_isub X dX2_isJudge_9 ?_
  refine r_ci X (r_okS (As := [.int p1, .int 0, .int ((gI s (kB G + 183) 2) - 1)]) (rest := []) X (m_X2_isIn (xl x) G X.2.2.2.2.1 p1 0 ((gI s (kB G + 183) 2) - 1) s _ h) (cl_X2_80 X ⟨(Nat.le_of_ble_eq_true rfl), (Nat.le_of_ble_eq_true rfl)⟩) rfl rfl (Nat.le_of_ble_eq_true rfl) dX2_isJudge_10 ⟨Nat.le_of_ble_eq_true rfl, Nat.le_of_ble_eq_true rfl⟩) (fun r2 s1 h => ?_)
  obtain ⟨z3, h⟩ := h
  exact r_zret X z3 h (Nat.le_of_ble_eq_true rfl) (Nat.le_of_ble_eq_true rfl) dX2_isJudge_13
theorem m_X2_isJudge (l : Launch) (G : GT) (g : GK G) (hph : kP G = 1) (p1 : Int32) (s : PS) (Q : Int32 → PS → Prop) (h : w_X2_isJudge G p1 s Q) : Met l yX2_isJudge (ws_ yX2_isJudge cX2_isJudge 2 (some .boolean)) rm_X2_isJudge (va_Pc [.ref (kB G + 182), .int p1] (Wr G s)) (va_Qi (fun r u => (r = 0 ∨ r = 1) ∧ Q r u) (fun u t => Wr G u t) (kF G)) 0 0 (kF G) := by
  refine Met.ofW (cc := cX2_isJudge) (maxL := 2) (ret := (some .boolean)) (by decide) rfl ?_
  intro p e s0 m args below meth c s₁ B hml hv
  obtain ⟨rfl, hw⟩ := hv
  exact wb_of [.ref (kB G + 182), .int p1] (Nat.le_of_ble_eq_true rfl) hw.1 rfl (e_X2_isJudge (cx_of g B hml rfl hw) hph p1 s Q h)
theorem tl_X2_isSoOf_2 {x : CT} {G : GT} (X : Cx x G cX2_isSoOf 4 RX2 (some .boolean) rm_X2_isSoOf) (hph : kP G = 1) (Q : Int32 → PS → Prop) (v1 : Int32) (v2 : Int32) : ∀ (n : Nat) (v3 : Int32) (s : PS) (h : l_X2_isSoOf_2 G Q v1 v2 n v3 s), WB x G 4 (QfI x G 0 0 (fun r u => (r = 0 ∨ r = 1) ∧ Q r u)) 0 0 s 2 [(0, .ref (kB G + 182)), (1, .int v1), (2, .int v2), (3, .int v3)] [] := by
  intro n
  induction n with
  | zero =>
    intro v3 s h
    exact False.elim h
  | succ n ih =>
    intro v3 s h
    unfold l_X2_isSoOf_2 at h
    refine r_iload_n X 3 dX2_isSoOf_2 rfl rfl ?_
    refine r_aload_n X 0 dX2_isSoOf_3 rfl rfl ?_
    refine gr_X2_7 X hph 13 182 183 ly_182 rfl rfl dX2_isSoOf_4 ?_
    refine r_iconst (v := 1) X dX2_isSoOf_7 rfl ?_
    refine r_ialdL X hph 183 5544 ly_183 tn_1 il_1_5544 dX2_isSoOf_8 ?_
    refine r_ic_ge X 60 dX2_isSoOf_9 (by decide) (fun c1 => ?_) (fun c1 => ?_)
    · replace h := h.1 c1
      refine r_iconst (v := 0) X dX2_isSoOf_60 rfl ?_
      exact r_zret X (Or.inl rfl) h (Nat.le_of_ble_eq_true rfl) (Nat.le_of_ble_eq_true rfl) dX2_isSoOf_61
    · replace h := h.2 c1
      refine r_aload_n X 0 dX2_isSoOf_12 rfl rfl ?_
      refine r_iload_n X 3 dX2_isSoOf_13 rfl rfl ?_
      refine r_iconst (v := 0) X dX2_isSoOf_14 rfl ?_
      refine r_ci X (r_okVL (As := [.int v3, .int 0]) (rest := []) X (m_X2_deedOf (xl x) G X.2.2.2.2.1 hph v3 0 s _ h) (cl_X2_84 X ⟨(Nat.le_of_ble_eq_true rfl), (Nat.le_of_ble_eq_true rfl)⟩) hph 2 ly_182 rfl rfl rfl rfl (Nat.le_of_ble_eq_true rfl) dX2_isSoOf_15 ⟨Nat.le_of_ble_eq_true rfl, Nat.le_of_ble_eq_true rfl⟩) (fun r3 s2 h => ?_)
      refine r_iload_n X 2 dX2_isSoOf_18 rfl rfl ?_
      refine r_ic_ne X 54 dX2_isSoOf_19 (by decide) (fun c4 => ?_) (fun c4 => ?_)
      · replace h := h.2 c4
        refine r_iinc (lv' := [(3, .int (v3 + 1)), (0, .ref (kB G + 182)), (1, .int v1), (2, .int v2)]) X 3 dX2_isSoOf_54 rfl rfl (Nat.le_of_ble_eq_true rfl) rfl ?_
        refine r_goto X 2 dX2_isSoOf_57 (by decide) ?_
        refine r_sub [1, 2, 3, 0] rfl ?_
        exact ih (v3 + 1) s2 h
      · replace h := h.1 c4
        refine r_aload_n X 0 dX2_isSoOf_22 rfl rfl ?_
        refine gr_X2_7 X hph 13 182 183 ly_182 rfl rfl dX2_isSoOf_23 ?_
        refine r_sipush (v := 234) X dX2_isSoOf_26 rfl ?_
        refine r_iload_n X 1 dX2_isSoOf_29 rfl rfl ?_
        refine r_iadd X dX2_isSoOf_30 ?_
        obtain ⟨g5, h⟩ := h
        refine r_ialdL X hph 183 5544 ly_183 rfl g5 dX2_isSoOf_31 ?_
        refine r_aload_n X 0 dX2_isSoOf_32 rfl rfl ?_
        refine r_iload_n X 3 dX2_isSoOf_33 rfl rfl ?_
        refine r_iconst (v := 1) X dX2_isSoOf_34 rfl ?_
        refine r_ci X (r_okVL (As := [.int v3, .int 1]) (rest := [.int (gI s2 (kB G + 183) (234 + v1).toNatClampNeg)]) X (m_X2_deedOf (xl x) G X.2.2.2.2.1 hph v3 1 s2 _ h) (cl_X2_84 X ⟨(Nat.le_of_ble_eq_true rfl), (Nat.le_of_ble_eq_true rfl)⟩) hph 2 ly_182 rfl rfl rfl rfl (Nat.le_of_ble_eq_true rfl) dX2_isSoOf_35 ⟨Nat.le_of_ble_eq_true rfl, Nat.le_of_ble_eq_true rfl⟩) (fun r7 s6 h => ?_)
        refine r_ci X (r_okS (As := [.int (gI s2 (kB G + 183) (234 + v1).toNatClampNeg), .int r7]) (rest := []) X (m_X2_has (xl x) G X.2.2.2.2.1 (gI s2 (kB G + 183) (234 + v1).toNatClampNeg) r7 s6 _ h) (cl_X2_224 X ⟨(Nat.le_of_ble_eq_true rfl), (Nat.le_of_ble_eq_true rfl)⟩) rfl rfl (Nat.le_of_ble_eq_true rfl) dX2_isSoOf_38 ⟨Nat.le_of_ble_eq_true rfl, Nat.le_of_ble_eq_true rfl⟩) (fun r9 s8 h => ?_)
        obtain ⟨z10, h⟩ := h
        refine r_if_eq X 54 dX2_isSoOf_41 (by decide) (fun c11 => ?_) (fun c11 => ?_)
        · replace h := h.1 c11
          refine r_iinc (lv' := [(3, .int (v3 + 1)), (0, .ref (kB G + 182)), (1, .int v1), (2, .int v2)]) X 3 dX2_isSoOf_54 rfl rfl (Nat.le_of_ble_eq_true rfl) rfl ?_
          refine r_goto X 2 dX2_isSoOf_57 (by decide) ?_
          refine r_sub [1, 2, 3, 0] rfl ?_
          exact ih (v3 + 1) s8 h
        · replace h := h.2 c11
          refine r_aload_n X 0 dX2_isSoOf_44 rfl rfl ?_
          refine r_iload_n X 3 dX2_isSoOf_45 rfl rfl ?_
          refine r_ci X (r_okVL (As := [.int v3]) (rest := []) X (m_X2_weightOf (xl x) G X.2.2.2.2.1 hph v3 s8 _ h) (cl_X2_303 X ⟨(Nat.le_of_ble_eq_true rfl), (Nat.le_of_ble_eq_true rfl)⟩) hph 2 ly_182 rfl rfl rfl rfl (Nat.le_of_ble_eq_true rfl) dX2_isSoOf_46 ⟨Nat.le_of_ble_eq_true rfl, Nat.le_of_ble_eq_true rfl⟩) (fun r13 s12 h => ?_)
          refine r_if_le X 54 dX2_isSoOf_49 (by decide) (fun c14 => ?_) (fun c14 => ?_)
          · replace h := h.1 c14
            refine r_iinc (lv' := [(3, .int (v3 + 1)), (0, .ref (kB G + 182)), (1, .int v1), (2, .int v2)]) X 3 dX2_isSoOf_54 rfl rfl (Nat.le_of_ble_eq_true rfl) rfl ?_
            refine r_goto X 2 dX2_isSoOf_57 (by decide) ?_
            refine r_sub [1, 2, 3, 0] rfl ?_
            exact ih (v3 + 1) s12 h
          · replace h := h.2 c14
            refine r_iconst (v := 1) X dX2_isSoOf_52 rfl ?_
            exact r_zret X (Or.inr rfl) h (Nat.le_of_ble_eq_true rfl) (Nat.le_of_ble_eq_true rfl) dX2_isSoOf_53
theorem e_X2_isSoOf {x : CT} {G : GT} (X : Cx x G cX2_isSoOf 4 RX2 (some .boolean) rm_X2_isSoOf) (hph : kP G = 1) (p1 : Int32) (p2 : Int32) (s : PS) (Q : Int32 → PS → Prop) (h : w_X2_isSoOf G p1 p2 s Q) : WB x G 4 (QfI x G 0 0 (fun r u => (r = 0 ∨ r = 1) ∧ Q r u)) 0 0 s 0 [(0, .ref (kB G + 182)), (1, .int p1), (2, .int p2)] [] := by
  unfold w_X2_isSoOf at h
  refine r_iconst (v := 0) X dX2_isSoOf_0 rfl ?_
  refine r_istore_n (lv' := [(3, .int 0), (0, .ref (kB G + 182)), (1, .int p1), (2, .int p2)]) X dX2_isSoOf_1 rfl (Nat.le_of_ble_eq_true rfl) rfl ?_
  refine r_sub [1, 2, 3, 0] rfl ?_
  obtain ⟨n1, h⟩ := h
  exact tl_X2_isSoOf_2 X hph Q p1 p2 n1 0 s h
theorem m_X2_isSoOf (l : Launch) (G : GT) (g : GK G) (hph : kP G = 1) (p1 : Int32) (p2 : Int32) (s : PS) (Q : Int32 → PS → Prop) (h : w_X2_isSoOf G p1 p2 s Q) : Met l yX2_isSoOf (ws_ yX2_isSoOf cX2_isSoOf 4 (some .boolean)) rm_X2_isSoOf (va_Pc [.ref (kB G + 182), .int p1, .int p2] (Wr G s)) (va_Qi (fun r u => (r = 0 ∨ r = 1) ∧ Q r u) (fun u t => Wr G u t) (kF G)) 0 0 (kF G) := by
  refine Met.ofW (cc := cX2_isSoOf) (maxL := 4) (ret := (some .boolean)) (by decide) rfl ?_
  intro p e s0 m args below meth c s₁ B hml hv
  obtain ⟨rfl, hw⟩ := hv
  exact wb_of [.ref (kB G + 182), .int p1, .int p2] (Nat.le_of_ble_eq_true rfl) hw.1 rfl (e_X2_isSoOf (cx_of g B hml rfl hw) hph p1 p2 s Q h)
theorem tl_X2_lieNow_14 {x : CT} {G : GT} (X : Cx x G cX2_lieNow 5 RX2 none rm_X2_lieNow) (hph : kP G = 1) (Q : PS → Prop) (v1 : Int32) (v2 : Int32) : ∀ (n : Nat) (v3 : Int32) (v4 : Int32) (s : PS) (h : l_X2_lieNow_14 G Q v1 v2 n v3 v4 s), WB x G 5 (QfV x G 0 0 Q) 0 0 s 14 [(0, .ref (kB G + 182)), (1, .int v1), (2, .int v2), (3, .int v3), (4, .int v4)] [] := by
  intro n
  induction n with
  | zero =>
    intro v3 v4 s h
    exact False.elim h
  | succ n ih =>
    intro v3 v4 s h
    unfold l_X2_lieNow_14 at h
    refine r_iload X 4 dX2_lieNow_14 rfl ?_
    refine r_aload_n X 0 dX2_lieNow_16 rfl rfl ?_
    refine gr_X2_7 X hph 13 182 183 ly_182 rfl rfl dX2_lieNow_17 ?_
    refine r_iconst (v := 1) X dX2_lieNow_20 rfl ?_
    refine r_ialdL X hph 183 5544 ly_183 tn_1 il_1_5544 dX2_lieNow_21 ?_
    refine r_ic_ge X 85 dX2_lieNow_22 (by decide) (fun c1 => ?_) (fun c1 => ?_)
    · replace h := h.1 c1
      refine r_aload_n X 0 dX2_lieNow_85 rfl rfl ?_
      refine gr_X2_32 X hph 13 182 188 ly_182 rfl rfl dX2_lieNow_86 ?_
      refine r_bipush (v := 10) X dX2_lieNow_89 rfl ?_
      refine r_aload_n X 0 dX2_lieNow_91 rfl rfl ?_
      refine gr_X2_7 X hph 13 182 183 ly_182 rfl rfl dX2_lieNow_92 ?_
      refine r_sipush (v := 245) X dX2_lieNow_95 rfl ?_
      refine r_ialdL X hph 183 5544 ly_183 tn_245 il_245_5544 dX2_lieNow_98 ?_
      refine r_iastL X hph 188 15 ly_188 tn_10 il_10_15 dX2_lieNow_99 (fun s2 e3 => ?_)
      replace h := h s2 e3
      refine r_aload_n X 0 dX2_lieNow_100 rfl rfl ?_
      refine gr_X2_32 X hph 13 182 188 ly_182 rfl rfl dX2_lieNow_101 ?_
      refine r_bipush (v := 11) X dX2_lieNow_104 rfl ?_
      refine r_iload_n X 1 dX2_lieNow_106 rfl rfl ?_
      refine r_iastL X hph 188 15 ly_188 tn_11 il_11_15 dX2_lieNow_107 (fun s4 e5 => ?_)
      replace h := h s4 e5
      refine r_aload_n X 0 dX2_lieNow_108 rfl rfl ?_
      refine gr_X2_32 X hph 13 182 188 ly_182 rfl rfl dX2_lieNow_109 ?_
      refine r_bipush (v := 12) X dX2_lieNow_112 rfl ?_
      refine r_aload_n X 0 dX2_lieNow_114 rfl rfl ?_
      refine gr_X2_7 X hph 13 182 183 ly_182 rfl rfl dX2_lieNow_115 ?_
      refine r_sipush (v := 234) X dX2_lieNow_118 rfl ?_
      refine r_iload_n X 1 dX2_lieNow_121 rfl rfl ?_
      refine r_iadd X dX2_lieNow_122 ?_
      obtain ⟨g6, h⟩ := h
      refine r_ialdL X hph 183 5544 ly_183 rfl g6 dX2_lieNow_123 ?_
      refine r_ci X (r_okS (As := [.int (gI s4 (kB G + 183) (234 + v1).toNatClampNeg)]) (rest := [.int 12, .ref (kB G + 188)]) X (m_X2_bits (xl x) G X.2.2.2.2.1 (gI s4 (kB G + 183) (234 + v1).toNatClampNeg) s4 _ h) (cl_X2_294 X ⟨(Nat.le_of_ble_eq_true rfl), (Nat.le_of_ble_eq_true rfl)⟩) rfl rfl (Nat.le_of_ble_eq_true rfl) dX2_lieNow_124 ⟨Nat.le_of_ble_eq_true rfl, Nat.le_of_ble_eq_true rfl⟩) (fun r8 s7 h => ?_)
      refine r_iastL X hph 188 15 ly_188 tn_12 il_12_15 dX2_lieNow_127 (fun s9 e10 => ?_)
      replace h := h s9 e10
      refine r_aload_n X 0 dX2_lieNow_128 rfl rfl ?_
      refine gr_X2_32 X hph 13 182 188 ly_182 rfl rfl dX2_lieNow_129 ?_
      refine r_bipush (v := 13) X dX2_lieNow_132 rfl ?_
      refine r_iload_n X 3 dX2_lieNow_134 rfl rfl ?_
      refine r_iastL X hph 188 15 ly_188 tn_13 il_13_15 dX2_lieNow_135 (fun s11 e12 => ?_)
      replace h := h s11 e12
      refine r_aload_n X 0 dX2_lieNow_136 rfl rfl ?_
      refine r_aload_n X 0 dX2_lieNow_137 rfl rfl ?_
      refine gr_X2_7 X hph 13 182 183 ly_182 rfl rfl dX2_lieNow_138 ?_
      refine r_bipush (v := 7) X dX2_lieNow_141 rfl ?_
      refine r_ialdL X hph 183 5544 ly_183 tn_7 il_7_5544 dX2_lieNow_143 ?_
      refine r_iconst (v := 2) X dX2_lieNow_144 rfl ?_
      refine r_iload_n X 2 dX2_lieNow_145 rfl rfl ?_
      refine r_iconst (v := 3) X dX2_lieNow_146 rfl ?_
      refine r_iconst (v := 0) X dX2_lieNow_147 rfl ?_
      refine r_sipush (v := 999) X dX2_lieNow_148 rfl ?_
      refine r_ci X (r_okVL (As := [.int (gI s11 (kB G + 183) 7), .int 2, .int v2, .int 3, .int 0, .int 999]) (rest := []) X (m_X2_says (xl x) G X.2.2.2.2.1 hph (gI s11 (kB G + 183) 7) 2 v2 3 0 999 s11 _ h) (cl_X2_284 X ⟨(Nat.le_of_ble_eq_true rfl), (Nat.le_of_ble_eq_true rfl)⟩) hph 2 ly_182 rfl rfl rfl rfl (Nat.le_of_ble_eq_true rfl) dX2_lieNow_151 ⟨Nat.le_of_ble_eq_true rfl, Nat.le_of_ble_eq_true rfl⟩) (fun r14 s13 h => ?_)
      refine r_istore (lv' := [(4, .int r14), (0, .ref (kB G + 182)), (1, .int v1), (2, .int v2), (3, .int v3)]) X dX2_lieNow_154 (Nat.le_of_ble_eq_true rfl) rfl ?_
      refine r_aload_n X 1 dX2_lieNow_156 rfl rfl ?_
      refine gr_X2_7 X hph 13 182 183 ly_182 rfl rfl dX2_lieNow_157 ?_
      refine r_sipush (v := 245) X dX2_lieNow_160 rfl ?_
      refine r_dup2 X dX2_lieNow_163 rfl rfl ?_
      refine r_ialdL X hph 183 5544 ly_183 tn_245 il_245_5544 dX2_lieNow_164 ?_
      refine r_iconst (v := 1) X dX2_lieNow_165 rfl ?_
      refine r_iadd X dX2_lieNow_166 ?_
      refine r_iastL X hph 183 5544 ly_183 tn_245 il_245_5544 dX2_lieNow_167 (fun s15 e16 => ?_)
      replace h := h s15 e16
      refine r_aload_n X 1 dX2_lieNow_168 rfl rfl ?_
      refine gr_X2_7 X hph 13 182 183 ly_182 rfl rfl dX2_lieNow_169 ?_
      refine r_sipush (v := 243) X dX2_lieNow_172 rfl ?_
      refine r_dup2 X dX2_lieNow_175 rfl rfl ?_
      refine r_ialdL X hph 183 5544 ly_183 tn_243 il_243_5544 dX2_lieNow_176 ?_
      refine r_iload X 0 dX2_lieNow_177 rfl ?_
      refine r_iadd X dX2_lieNow_179 ?_
      refine r_iastL X hph 183 5544 ly_183 tn_243 il_243_5544 dX2_lieNow_180 (fun s17 e18 => ?_)
      replace h := h s17 e18
      refine r_aload_n X 1 dX2_lieNow_181 rfl rfl ?_
      refine r_aload_n X 1 dX2_lieNow_182 rfl rfl ?_
      refine gr_X2_7 X hph 13 182 183 ly_182 rfl rfl dX2_lieNow_183 ?_
      refine r_iconst (v := 3) X dX2_lieNow_186 rfl ?_
      refine r_ialdL X hph 183 5544 ly_183 tn_3 il_3_5544 dX2_lieNow_187 ?_
      refine r_cv X (r_okVL (As := [.int (gI s17 (kB G + 183) 3)]) (rest := []) X (m_X2_settle (xl x) G X.2.2.2.2.1 hph (gI s17 (kB G + 183) 3) s17 _ h) (cl_X2_300 X ⟨(Nat.le_of_ble_eq_true rfl), (Nat.le_of_ble_eq_true rfl)⟩) hph 2 ly_182 rfl rfl rfl rfl (Nat.le_of_ble_eq_true rfl) dX2_lieNow_188 ⟨Nat.le_of_ble_eq_true rfl, Nat.le_of_ble_eq_true rfl⟩) (fun s19 h => ?_)
      exact r_vret X h (Nat.le_of_ble_eq_true rfl) (Nat.le_of_ble_eq_true rfl) dX2_lieNow_191
    · replace h := h.2 c1
      refine r_iload_n X 3 dX2_lieNow_25 rfl rfl ?_
      refine r_aload_n X 0 dX2_lieNow_26 rfl rfl ?_
      refine r_iload X 4 dX2_lieNow_27 rfl ?_
      refine r_iconst (v := 0) X dX2_lieNow_29 rfl ?_
      refine r_ci X (r_okVL (As := [.int v4, .int 0]) (rest := [.int v3]) X (m_X2_deedOf (xl x) G X.2.2.2.2.1 hph v4 0 s _ h) (cl_X2_84 X ⟨(Nat.le_of_ble_eq_true rfl), (Nat.le_of_ble_eq_true rfl)⟩) hph 2 ly_182 rfl rfl rfl rfl (Nat.le_of_ble_eq_true rfl) dX2_lieNow_30 ⟨Nat.le_of_ble_eq_true rfl, Nat.le_of_ble_eq_true rfl⟩) (fun r21 s20 h => ?_)
      refine r_iload_n X 2 dX2_lieNow_33 rfl rfl ?_
      refine r_ic_ne X 76 dX2_lieNow_34 (by decide) (fun c22 => ?_) (fun c22 => ?_)
      · replace h := h.2 c22
        refine r_iconst (v := 0) X dX2_lieNow_76 rfl ?_
        refine r_iadd X dX2_lieNow_77 ?_
        refine r_nmI (fun y37 e38 => ?_)
        replace h := h y37 e38
        refine r_istore_n (lv' := [(3, .int y37), (0, .ref (kB G + 182)), (1, .int v1), (2, .int v2), (4, .int v4)]) X dX2_lieNow_78 rfl (Nat.le_of_ble_eq_true rfl) rfl ?_
        refine r_iinc (lv' := [(4, .int (v4 + 1)), (3, .int y37), (0, .ref (kB G + 182)), (1, .int v1), (2, .int v2)]) X 4 dX2_lieNow_79 rfl rfl (Nat.le_of_ble_eq_true rfl) rfl ?_
        refine r_goto X 14 dX2_lieNow_82 (by decide) ?_
        refine r_sub [2, 3, 4, 1, 0] rfl ?_
        exact ih y37 (v4 + 1) s20 h
      · replace h := h.1 c22
        refine r_aload_n X 0 dX2_lieNow_37 rfl rfl ?_
        refine gr_X2_7 X hph 13 182 183 ly_182 rfl rfl dX2_lieNow_38 ?_
        refine r_sipush (v := 234) X dX2_lieNow_41 rfl ?_
        refine r_iload_n X 1 dX2_lieNow_44 rfl rfl ?_
        refine r_iadd X dX2_lieNow_45 ?_
        obtain ⟨g23, h⟩ := h
        refine r_ialdL X hph 183 5544 ly_183 rfl g23 dX2_lieNow_46 ?_
        refine r_aload_n X 0 dX2_lieNow_47 rfl rfl ?_
        refine r_iload X 4 dX2_lieNow_48 rfl ?_
        refine r_iconst (v := 1) X dX2_lieNow_50 rfl ?_
        refine r_ci X (r_okVL (As := [.int v4, .int 1]) (rest := [.int (gI s20 (kB G + 183) (234 + v1).toNatClampNeg), .int v3]) X (m_X2_deedOf (xl x) G X.2.2.2.2.1 hph v4 1 s20 _ h) (cl_X2_84 X ⟨(Nat.le_of_ble_eq_true rfl), (Nat.le_of_ble_eq_true rfl)⟩) hph 2 ly_182 rfl rfl rfl rfl (Nat.le_of_ble_eq_true rfl) dX2_lieNow_51 ⟨Nat.le_of_ble_eq_true rfl, Nat.le_of_ble_eq_true rfl⟩) (fun r25 s24 h => ?_)
        refine r_ci X (r_okS (As := [.int (gI s20 (kB G + 183) (234 + v1).toNatClampNeg), .int r25]) (rest := [.int v3]) X (m_X2_has (xl x) G X.2.2.2.2.1 (gI s20 (kB G + 183) (234 + v1).toNatClampNeg) r25 s24 _ h) (cl_X2_224 X ⟨(Nat.le_of_ble_eq_true rfl), (Nat.le_of_ble_eq_true rfl)⟩) rfl rfl (Nat.le_of_ble_eq_true rfl) dX2_lieNow_54 ⟨Nat.le_of_ble_eq_true rfl, Nat.le_of_ble_eq_true rfl⟩) (fun r27 s26 h => ?_)
        obtain ⟨z28, h⟩ := h
        refine r_if_eq X 76 dX2_lieNow_57 (by decide) (fun c29 => ?_) (fun c29 => ?_)
        · replace h := h.1 c29
          refine r_iconst (v := 0) X dX2_lieNow_76 rfl ?_
          refine r_iadd X dX2_lieNow_77 ?_
          refine r_nmI (fun y30 e31 => ?_)
          replace h := h y30 e31
          refine r_istore_n (lv' := [(3, .int y30), (0, .ref (kB G + 182)), (1, .int v1), (2, .int v2), (4, .int v4)]) X dX2_lieNow_78 rfl (Nat.le_of_ble_eq_true rfl) rfl ?_
          refine r_iinc (lv' := [(4, .int (v4 + 1)), (3, .int y30), (0, .ref (kB G + 182)), (1, .int v1), (2, .int v2)]) X 4 dX2_lieNow_79 rfl rfl (Nat.le_of_ble_eq_true rfl) rfl ?_
          refine r_goto X 14 dX2_lieNow_82 (by decide) ?_
          refine r_sub [2, 3, 4, 1, 0] rfl ?_
          exact ih y30 (v4 + 1) s26 h
        · replace h := h.2 c29
          refine r_aload_n X 0 dX2_lieNow_60 rfl rfl ?_
          refine r_iload X 4 dX2_lieNow_61 rfl ?_
          refine r_iconst (v := 3) X dX2_lieNow_63 rfl ?_
          refine r_ci X (r_okVL (As := [.int v4, .int 3]) (rest := [.int v3]) X (m_X2_deedOf (xl x) G X.2.2.2.2.1 hph v4 3 s26 _ h) (cl_X2_84 X ⟨(Nat.le_of_ble_eq_true rfl), (Nat.le_of_ble_eq_true rfl)⟩) hph 2 ly_182 rfl rfl rfl rfl (Nat.le_of_ble_eq_true rfl) dX2_lieNow_64 ⟨Nat.le_of_ble_eq_true rfl, Nat.le_of_ble_eq_true rfl⟩) (fun r33 s32 h => ?_)
          refine r_iconst (v := 2) X dX2_lieNow_67 rfl ?_
          refine r_irem X dX2_lieNow_68 (by decide) ?_
          have hJ : WB x G 5 (QfV x G 0 0 Q) 0 0 s32 77 [(0, .ref (kB G + 182)), (1, .int v1), (2, .int v2), (3, .int v3), (4, .int v4)] [.int (if (r33 - r33 / 2 * 2) = 0 then 1 else 0 : Int32), .int v3] := by
            refine r_iadd X dX2_lieNow_77 ?_
            refine r_nmI (fun y35 e36 => ?_)
            replace h := h y35 e36
            refine r_istore_n (lv' := [(3, .int y35), (0, .ref (kB G + 182)), (1, .int v1), (2, .int v2), (4, .int v4)]) X dX2_lieNow_78 rfl (Nat.le_of_ble_eq_true rfl) rfl ?_
            refine r_iinc (lv' := [(4, .int (v4 + 1)), (3, .int y35), (0, .ref (kB G + 182)), (1, .int v1), (2, .int v2)]) X 4 dX2_lieNow_79 rfl rfl (Nat.le_of_ble_eq_true rfl) rfl ?_
            refine r_goto X 14 dX2_lieNow_82 (by decide) ?_
            refine r_sub [2, 3, 4, 1, 0] rfl ?_
            exact ih y35 (v4 + 1) s32 h
          refine r_if_ne X 76 dX2_lieNow_69 (by decide) (fun c34 => ?_) (fun c34 => ?_)
          · rw [if_neg c34] at hJ
            refine r_iconst (v := 0) X dX2_lieNow_76 rfl ?_
            exact hJ
          · rw [if_pos c34] at hJ
            refine r_iconst (v := 1) X dX2_lieNow_72 rfl ?_
            refine r_goto X 77 dX2_lieNow_73 (by decide) ?_
            exact hJ
theorem e_X2_lieNow {x : CT} {G : GT} (X : Cx x G cX2_lieNow 5 RX2 none rm_X2_lieNow) (hph : kP G = 1) (p1 : Int32) (s : PS) (Q : PS → Prop) (h : w_X2_lieNow G p1 s Q) : WB x G 5 (QfV x G 0 0 Q) 0 0 s 0 [(0, .ref (kB G + 182)), (1, .int p1)] [] := by
  unfold w_X2_lieNow at h
  refine r_aload_n X 0 dX2_lieNow_0 rfl rfl ?_
  refine gr_X2_7 X hph 13 182 183 ly_182 rfl rfl dX2_lieNow_1 ?_
  refine r_sipush (v := 242) X dX2_lieNow_4 rfl ?_
  refine r_ialdL X hph 183 5544 ly_183 tn_242 il_242_5544 dX2_lieNow_7 ?_
  refine r_nmI (fun y1 e2 => ?_)
  replace h := h y1 e2
  refine r_istore_n (lv' := [(2, .int y1), (0, .ref (kB G + 182)), (1, .int p1)]) X dX2_lieNow_8 rfl (Nat.le_of_ble_eq_true rfl) rfl ?_
  refine r_iconst (v := 0) X dX2_lieNow_9 rfl ?_
  refine r_istore_n (lv' := [(3, .int 0), (2, .int y1), (0, .ref (kB G + 182)), (1, .int p1)]) X dX2_lieNow_10 rfl (Nat.le_of_ble_eq_true rfl) rfl ?_
  refine r_iconst (v := 0) X dX2_lieNow_11 rfl ?_
  refine r_istore (lv' := [(4, .int 0), (3, .int 0), (2, .int y1), (0, .ref (kB G + 182)), (1, .int p1)]) X dX2_lieNow_12 (Nat.le_of_ble_eq_true rfl) rfl ?_
  refine r_sub [3, 4, 2, 1, 0] rfl ?_
  obtain ⟨n3, h⟩ := h
  exact tl_X2_lieNow_14 X hph Q p1 y1 n3 0 0 s h
theorem m_X2_lieNow (l : Launch) (G : GT) (g : GK G) (hph : kP G = 1) (p1 : Int32) (s : PS) (Q : PS → Prop) (h : w_X2_lieNow G p1 s Q) : Met l yX2_lieNow (ws_ yX2_lieNow cX2_lieNow 5 none) rm_X2_lieNow (va_Pc [.ref (kB G + 182), .int p1] (Wr G s)) (va_Qv Q (fun u t => Wr G u t) (kF G)) 0 0 (kF G) := by
  refine Met.ofW (cc := cX2_lieNow) (maxL := 5) (ret := none) (by decide) rfl ?_
  intro p e s0 m args below meth c s₁ B hml hv
  obtain ⟨rfl, hw⟩ := hv
  exact wb_of [.ref (kB G + 182), .int p1] (Nat.le_of_ble_eq_true rfl) hw.1 rfl (e_X2_lieNow (cx_of g B hml rfl hw) hph p1 s Q h)
theorem e_X2_answerNow {x : CT} {G : GT} (X : Cx x G cX2_answerNow 4 RX2 (some .boolean) rm_X2_answerNow) (hph : kP G = 1) (p1 : Int32) (p2 : Int32) (s : PS) (Q : Int32 → PS → Prop) (h : w_X2_answerNow G p1 p2 s Q) : WB x G 4 (QfI x G 0 0 (fun r u => (r = 0 ∨ r = 1) ∧ Q r u)) 0 0 s 0 [(0, .ref (kB G + 182)), (1, .int p1), (2, .int p2)] [] := by
  unfold w_X2_answerNow at h
  refine r_aload_n X 0 dX2_answerNow_0 rfl rfl ?_
  refine gr_X2_7 X hph 13 182 183 ly_182 rfl rfl dX2_answerNow_1 ?_
  refine r_sipush (v := 247) X dX2_answerNow_4 rfl ?_
  refine r_dup2 X dX2_answerNow_7 rfl rfl ?_
  refine r_ialdL X hph 183 5544 ly_183 tn_247 il_247_5544 dX2_answerNow_8 ?_
  refine r_iconst (v := 1) X dX2_answerNow_9 rfl ?_
  refine r_iload_n X 1 dX2_answerNow_10 rfl rfl ?_
  refine r_ishl X dX2_answerNow_11 ?_
  refine r_ior X dX2_answerNow_12 ?_
  refine r_iastL X hph 183 5544 ly_183 tn_247 il_247_5544 dX2_answerNow_13 (fun s1 e2 => ?_)
  replace h := h s1 e2
  refine r_aload_n X 0 dX2_answerNow_14 rfl rfl ?_
  refine r_iload_n X 1 dX2_answerNow_15 rfl rfl ?_
  refine r_aload_n X 0 dX2_answerNow_16 rfl rfl ?_
  refine gr_X2_7 X hph 13 182 183 ly_182 rfl rfl dX2_answerNow_17 ?_
  refine r_sipush (v := 242) X dX2_answerNow_20 rfl ?_
  refine r_ialdL X hph 183 5544 ly_183 tn_242 il_242_5544 dX2_answerNow_23 ?_
  refine r_ci X (r_okVL (As := [.int p1, .int (gI s1 (kB G + 183) 242)]) (rest := []) X (m_X2_isSoOf (xl x) G X.2.2.2.2.1 hph p1 (gI s1 (kB G + 183) 242) s1 _ h) (cl_X2_306 X ⟨(Nat.le_of_ble_eq_true rfl), (Nat.le_of_ble_eq_true rfl)⟩) hph 2 ly_182 rfl rfl rfl rfl (Nat.le_of_ble_eq_true rfl) dX2_answerNow_24 ⟨Nat.le_of_ble_eq_true rfl, Nat.le_of_ble_eq_true rfl⟩) (fun r4 s3 h => ?_)
  obtain ⟨z5, h⟩ := h
  refine r_iload_n X 2 dX2_answerNow_27 rfl rfl ?_
  have hJ : WB x G 4 (QfI x G 0 0 (fun r u => (r = 0 ∨ r = 1) ∧ Q r u)) 0 0 s3 36 [(0, .ref (kB G + 182)), (1, .int p1), (2, .int p2)] [.int (if r4 = p2 then 0 else 1 : Int32)] := by
    refine r_nmI (fun y7 e8 => ?_)
    replace h := h y7 e8
    refine r_istore_n (lv' := [(3, .int y7), (0, .ref (kB G + 182)), (1, .int p1), (2, .int p2)]) X dX2_answerNow_36 rfl (Nat.le_of_ble_eq_true rfl) rfl ?_
    refine r_iload_n X 0 dX2_answerNow_37 rfl rfl ?_
    refine r_if_eq X 46 dX2_answerNow_38 (by decide) (fun c9 => ?_) (fun c9 => ?_)
    · replace h := h.1 c9
      refine r_iload_n X 0 dX2_answerNow_46 rfl rfl ?_
      obtain ⟨g10, h⟩ := h
      exact r_zret X g10 h (Nat.le_of_ble_eq_true rfl) (Nat.le_of_ble_eq_true rfl) dX2_answerNow_47
    · replace h := h.2 c9
      refine r_aload_n X 1 dX2_answerNow_41 rfl rfl ?_
      refine r_iload_n X 2 dX2_answerNow_42 rfl rfl ?_
      refine r_cv X (r_okVL (As := [.int p1]) (rest := []) X (m_X2_lieNow (xl x) G X.2.2.2.2.1 hph p1 s3 _ h) (cl_X2_309 X ⟨(Nat.le_of_ble_eq_true rfl), (Nat.le_of_ble_eq_true rfl)⟩) hph 2 ly_182 rfl rfl rfl rfl (Nat.le_of_ble_eq_true rfl) dX2_answerNow_43 ⟨Nat.le_of_ble_eq_true rfl, Nat.le_of_ble_eq_true rfl⟩) (fun s11 h => ?_)
      refine r_iload_n X 0 dX2_answerNow_46 rfl rfl ?_
      obtain ⟨g12, h⟩ := h
      exact r_zret X g12 h (Nat.le_of_ble_eq_true rfl) (Nat.le_of_ble_eq_true rfl) dX2_answerNow_47
  refine r_ic_eq X 35 dX2_answerNow_28 (by decide) (fun c6 => ?_) (fun c6 => ?_)
  · rw [if_pos c6] at hJ
    refine r_iconst (v := 0) X dX2_answerNow_35 rfl ?_
    exact hJ
  · rw [if_neg c6] at hJ
    refine r_iconst (v := 1) X dX2_answerNow_31 rfl ?_
    refine r_goto X 36 dX2_answerNow_32 (by decide) ?_
    exact hJ
theorem m_X2_answerNow (l : Launch) (G : GT) (g : GK G) (hph : kP G = 1) (p1 : Int32) (p2 : Int32) (s : PS) (Q : Int32 → PS → Prop) (h : w_X2_answerNow G p1 p2 s Q) : Met l yX2_answerNow (ws_ yX2_answerNow cX2_answerNow 4 (some .boolean)) rm_X2_answerNow (va_Pc [.ref (kB G + 182), .int p1, .int p2] (Wr G s)) (va_Qi (fun r u => (r = 0 ∨ r = 1) ∧ Q r u) (fun u t => Wr G u t) (kF G)) 0 0 (kF G) := by
  refine Met.ofW (cc := cX2_answerNow) (maxL := 4) (ret := (some .boolean)) (by decide) rfl ?_
  intro p e s0 m args below meth c s₁ B hml hv
  obtain ⟨rfl, hw⟩ := hv
  exact wb_of [.ref (kB G + 182), .int p1, .int p2] (Nat.le_of_ble_eq_true rfl) hw.1 rfl (e_X2_answerNow (cx_of g B hml rfl hw) hph p1 p2 s Q h)
theorem e_X2_answer {x : CT} {G : GT} (X : Cx x G cX2_answer 3 RX2 (some .int) rm_X2_answer) (hph : kP G = 1) (p1 : Int32) (p2 : Int32) (s : PS) (Q : Int32 → PS → Prop) (h : w_X2_answer G p1 p2 s Q) : WB x G 3 (QfI x G 0 0 Q) 0 0 s 0 [(0, .ref (kB G + 182)), (1, .int p1), (2, .int p2)] [] := by
  unfold w_X2_answer at h
  refine r_aload_n X 0 dX2_answer_0 rfl rfl ?_
  refine r_iload_n X 1 dX2_answer_1 rfl rfl ?_
  refine r_ci X (r_okVL (As := [.int p1]) (rest := []) X (m_X2_isJudge (xl x) G X.2.2.2.2.1 hph p1 s _ h) (cl_X2_328 X ⟨(Nat.le_of_ble_eq_true rfl), (Nat.le_of_ble_eq_true rfl)⟩) hph 2 ly_182 rfl rfl rfl rfl (Nat.le_of_ble_eq_true rfl) dX2_answer_2 ⟨Nat.le_of_ble_eq_true rfl, Nat.le_of_ble_eq_true rfl⟩) (fun r2 s1 h => ?_)
  obtain ⟨z3, h⟩ := h
  refine r_if_eq X 35 dX2_answer_5 (by decide) (fun c4 => ?_) (fun c4 => ?_)
  · replace h := h.1 c4
    refine r_iconst (v := (-1)) X dX2_answer_35 rfl ?_
    exact r_iret X h (Nat.le_of_ble_eq_true rfl) (Nat.le_of_ble_eq_true rfl) dX2_answer_36
  · replace h := h.2 c4
    refine r_aload_n X 0 dX2_answer_8 rfl rfl ?_
    refine gr_X2_7 X hph 13 182 183 ly_182 rfl rfl dX2_answer_9 ?_
    refine r_sipush (v := 242) X dX2_answer_12 rfl ?_
    refine r_ialdL X hph 183 5544 ly_183 tn_242 il_242_5544 dX2_answer_15 ?_
    refine r_iconst (v := (-1)) X dX2_answer_16 rfl ?_
    refine r_ic_eq X 35 dX2_answer_17 (by decide) (fun c5 => ?_) (fun c5 => ?_)
    · replace h := h.1 c5
      refine r_iconst (v := (-1)) X dX2_answer_35 rfl ?_
      exact r_iret X h (Nat.le_of_ble_eq_true rfl) (Nat.le_of_ble_eq_true rfl) dX2_answer_36
    · replace h := h.2 c5
      refine r_aload_n X 0 dX2_answer_20 rfl rfl ?_
      refine gr_X2_7 X hph 13 182 183 ly_182 rfl rfl dX2_answer_21 ?_
      refine r_sipush (v := 247) X dX2_answer_24 rfl ?_
      refine r_ialdL X hph 183 5544 ly_183 tn_247 il_247_5544 dX2_answer_27 ?_
      refine r_iload_n X 1 dX2_answer_28 rfl rfl ?_
      refine r_ci X (r_okS (As := [.int (gI s1 (kB G + 183) 247), .int p1]) (rest := []) X (m_X2_has (xl x) G X.2.2.2.2.1 (gI s1 (kB G + 183) 247) p1 s1 _ h) (cl_X2_224 X ⟨(Nat.le_of_ble_eq_true rfl), (Nat.le_of_ble_eq_true rfl)⟩) rfl rfl (Nat.le_of_ble_eq_true rfl) dX2_answer_29 ⟨Nat.le_of_ble_eq_true rfl, Nat.le_of_ble_eq_true rfl⟩) (fun r7 s6 h => ?_)
      obtain ⟨z8, h⟩ := h
      refine r_if_eq X 37 dX2_answer_32 (by decide) (fun c9 => ?_) (fun c9 => ?_)
      · replace h := h.1 c9
        refine r_aload_n X 0 dX2_answer_37 rfl rfl ?_
        refine r_cv X (r_okVL (As := []) (rest := []) X (m_X2_keep (xl x) G X.2.2.2.2.1 hph s6 _ h) (cl_X2_318 X ⟨(Nat.le_of_ble_eq_true rfl), (Nat.le_of_ble_eq_true rfl)⟩) hph 2 ly_182 rfl rfl rfl rfl (Nat.le_of_ble_eq_true rfl) dX2_answer_38 ⟨Nat.le_of_ble_eq_true rfl, Nat.le_of_ble_eq_true rfl⟩) (fun s10 h => ?_)
        refine r_aload_n X 0 dX2_answer_41 rfl rfl ?_
        refine r_iload_n X 1 dX2_answer_42 rfl rfl ?_
        refine r_iload_n X 2 dX2_answer_43 rfl rfl ?_
        refine r_ci X (r_okVL (As := [.int p1, .int p2]) (rest := []) X (m_X2_answerNow (xl x) G X.2.2.2.2.1 hph p1 p2 s10 _ h) (cl_X2_331 X ⟨(Nat.le_of_ble_eq_true rfl), (Nat.le_of_ble_eq_true rfl)⟩) hph 2 ly_182 rfl rfl rfl rfl (Nat.le_of_ble_eq_true rfl) dX2_answer_44 ⟨Nat.le_of_ble_eq_true rfl, Nat.le_of_ble_eq_true rfl⟩) (fun r12 s11 h => ?_)
        obtain ⟨z13, h⟩ := h
        have hJ : WB x G 3 (QfI x G 0 0 Q) 0 0 s11 55 [(0, .ref (kB G + 182)), (1, .int p1), (2, .int p2)] [.int (if r12 = 0 then 0 else 1 : Int32)] := by
          exact r_iret X h (Nat.le_of_ble_eq_true rfl) (Nat.le_of_ble_eq_true rfl) dX2_answer_55
        refine r_if_eq X 54 dX2_answer_47 (by decide) (fun c14 => ?_) (fun c14 => ?_)
        · rw [if_pos c14] at hJ
          refine r_iconst (v := 0) X dX2_answer_54 rfl ?_
          exact hJ
        · rw [if_neg c14] at hJ
          refine r_iconst (v := 1) X dX2_answer_50 rfl ?_
          refine r_goto X 55 dX2_answer_51 (by decide) ?_
          exact hJ
      · replace h := h.2 c9
        refine r_iconst (v := (-1)) X dX2_answer_35 rfl ?_
        exact r_iret X h (Nat.le_of_ble_eq_true rfl) (Nat.le_of_ble_eq_true rfl) dX2_answer_36
theorem m_X2_answer (l : Launch) (G : GT) (g : GK G) (hph : kP G = 1) (p1 : Int32) (p2 : Int32) (s : PS) (Q : Int32 → PS → Prop) (h : w_X2_answer G p1 p2 s Q) : Met l yX2_answer (ws_ yX2_answer cX2_answer 3 (some .int)) rm_X2_answer (va_Pc [.ref (kB G + 182), .int p1, .int p2] (Wr G s)) (va_Qi Q (fun u t => Wr G u t) (kF G)) 0 0 (kF G) := by
  refine Met.ofW (cc := cX2_answer) (maxL := 3) (ret := (some .int)) (by decide) rfl ?_
  intro p e s0 m args below meth c s₁ B hml hv
  obtain ⟨rfl, hw⟩ := hv
  exact wb_of [.ref (kB G + 182), .int p1, .int p2] (Nat.le_of_ble_eq_true rfl) hw.1 rfl (e_X2_answer (cx_of g B hml rfl hw) hph p1 p2 s Q h)
theorem tl_X2_deedsOf_4 {x : CT} {G : GT} (X : Cx x G cX2_deedsOf 4 RX2 (some .int) rm_X2_deedsOf) (hph : kP G = 1) (Q : Int32 → PS → Prop) (v1 : Int32) : ∀ (n : Nat) (v2 : Int32) (v3 : Int32) (s : PS) (h : l_X2_deedsOf_4 G Q v1 n v2 v3 s), WB x G 4 (QfI x G 0 0 Q) 0 0 s 4 [(0, .ref (kB G + 182)), (1, .int v1), (2, .int v2), (3, .int v3)] [] := by
  intro n
  induction n with
  | zero =>
    intro v2 v3 s h
    exact False.elim h
  | succ n ih =>
    intro v2 v3 s h
    unfold l_X2_deedsOf_4 at h
    refine r_iload_n X 3 dX2_deedsOf_4 rfl rfl ?_
    refine r_aload_n X 0 dX2_deedsOf_5 rfl rfl ?_
    refine gr_X2_7 X hph 13 182 183 ly_182 rfl rfl dX2_deedsOf_6 ?_
    refine r_iconst (v := 1) X dX2_deedsOf_9 rfl ?_
    refine r_ialdL X hph 183 5544 ly_183 tn_1 il_1_5544 dX2_deedsOf_10 ?_
    refine r_ic_ge X 40 dX2_deedsOf_11 (by decide) (fun c1 => ?_) (fun c1 => ?_)
    · replace h := h.1 c1
      refine r_iload_n X 2 dX2_deedsOf_40 rfl rfl ?_
      exact r_iret X h (Nat.le_of_ble_eq_true rfl) (Nat.le_of_ble_eq_true rfl) dX2_deedsOf_41
    · replace h := h.2 c1
      refine r_iload_n X 2 dX2_deedsOf_14 rfl rfl ?_
      refine r_aload_n X 0 dX2_deedsOf_15 rfl rfl ?_
      refine r_iload_n X 3 dX2_deedsOf_16 rfl rfl ?_
      refine r_iconst (v := 0) X dX2_deedsOf_17 rfl ?_
      refine r_ci X (r_okVL (As := [.int v3, .int 0]) (rest := [.int v2]) X (m_X2_deedOf (xl x) G X.2.2.2.2.1 hph v3 0 s _ h) (cl_X2_84 X ⟨(Nat.le_of_ble_eq_true rfl), (Nat.le_of_ble_eq_true rfl)⟩) hph 2 ly_182 rfl rfl rfl rfl (Nat.le_of_ble_eq_true rfl) dX2_deedsOf_18 ⟨Nat.le_of_ble_eq_true rfl, Nat.le_of_ble_eq_true rfl⟩) (fun r3 s2 h => ?_)
      refine r_iload_n X 1 dX2_deedsOf_21 rfl rfl ?_
      have hJ : WB x G 4 (QfI x G 0 0 Q) 0 0 s2 32 [(0, .ref (kB G + 182)), (1, .int v1), (2, .int v2), (3, .int v3)] [.int (if r3 = v1 then ((1 : Int32) <<< (v3 &&& 31)) else 0 : Int32), .int v2] := by
        refine r_ior X dX2_deedsOf_32 ?_
        refine r_nmI (fun y5 e6 => ?_)
        replace h := h y5 e6
        refine r_istore_n (lv' := [(2, .int y5), (0, .ref (kB G + 182)), (1, .int v1), (3, .int v3)]) X dX2_deedsOf_33 rfl (Nat.le_of_ble_eq_true rfl) rfl ?_
        refine r_iinc (lv' := [(3, .int (v3 + 1)), (2, .int y5), (0, .ref (kB G + 182)), (1, .int v1)]) X 3 dX2_deedsOf_34 rfl rfl (Nat.le_of_ble_eq_true rfl) rfl ?_
        refine r_goto X 4 dX2_deedsOf_37 (by decide) ?_
        refine r_sub [2, 3, 1, 0] rfl ?_
        exact ih y5 (v3 + 1) s2 h
      refine r_ic_ne X 31 dX2_deedsOf_22 (by decide) (fun c4 => ?_) (fun c4 => ?_)
      · rw [if_neg c4] at hJ
        refine r_iconst (v := 0) X dX2_deedsOf_31 rfl ?_
        exact hJ
      · rw [if_pos c4] at hJ
        refine r_iconst (v := 1) X dX2_deedsOf_25 rfl ?_
        refine r_iload_n X 3 dX2_deedsOf_26 rfl rfl ?_
        refine r_ishl X dX2_deedsOf_27 ?_
        refine r_goto X 32 dX2_deedsOf_28 (by decide) ?_
        exact hJ
theorem e_X2_deedsOf {x : CT} {G : GT} (X : Cx x G cX2_deedsOf 4 RX2 (some .int) rm_X2_deedsOf) (hph : kP G = 1) (p1 : Int32) (s : PS) (Q : Int32 → PS → Prop) (h : w_X2_deedsOf G p1 s Q) : WB x G 4 (QfI x G 0 0 Q) 0 0 s 0 [(0, .ref (kB G + 182)), (1, .int p1)] [] := by
  unfold w_X2_deedsOf at h
  refine r_iconst (v := 0) X dX2_deedsOf_0 rfl ?_
  refine r_istore_n (lv' := [(2, .int 0), (0, .ref (kB G + 182)), (1, .int p1)]) X dX2_deedsOf_1 rfl (Nat.le_of_ble_eq_true rfl) rfl ?_
  refine r_iconst (v := 0) X dX2_deedsOf_2 rfl ?_
  refine r_istore_n (lv' := [(3, .int 0), (2, .int 0), (0, .ref (kB G + 182)), (1, .int p1)]) X dX2_deedsOf_3 rfl (Nat.le_of_ble_eq_true rfl) rfl ?_
  refine r_sub [2, 3, 1, 0] rfl ?_
  obtain ⟨n1, h⟩ := h
  exact tl_X2_deedsOf_4 X hph Q p1 n1 0 0 s h
theorem m_X2_deedsOf (l : Launch) (G : GT) (g : GK G) (hph : kP G = 1) (p1 : Int32) (s : PS) (Q : Int32 → PS → Prop) (h : w_X2_deedsOf G p1 s Q) : Met l yX2_deedsOf (ws_ yX2_deedsOf cX2_deedsOf 4 (some .int)) rm_X2_deedsOf (va_Pc [.ref (kB G + 182), .int p1] (Wr G s)) (va_Qi Q (fun u t => Wr G u t) (kF G)) 0 0 (kF G) := by
  refine Met.ofW (cc := cX2_deedsOf) (maxL := 4) (ret := (some .int)) (by decide) rfl ?_
  intro p e s0 m args below meth c s₁ B hml hv
  obtain ⟨rfl, hw⟩ := hv
  exact wb_of [.ref (kB G + 182), .int p1] (Nat.le_of_ble_eq_true rfl) hw.1 rfl (e_X2_deedsOf (cx_of g B hml rfl hw) hph p1 s Q h)
theorem e_X2_upOf {x : CT} {G : GT} (X : Cx x G cX2_upOf 2 RX2 (some .int) rm_X2_upOf) (hph : kP G = 1) (p1 : Int32) (s : PS) (Q : Int32 → PS → Prop) (h : w_X2_upOf G p1 s Q) : WB x G 2 (QfI x G 0 0 Q) 0 0 s 0 [(0, .ref (kB G + 182)), (1, .int p1)] [] := by
  unfold w_X2_upOf at h
  refine r_aload_n X 0 dX2_upOf_0 rfl rfl ?_
  refine gr_X2_32 X hph 13 182 188 ly_182 rfl rfl dX2_upOf_1 ?_
  refine r_bipush (v := 14) X dX2_upOf_4 rfl ?_
  refine r_aload_n X 0 dX2_upOf_6 rfl rfl ?_
  refine r_iload_n X 1 dX2_upOf_7 rfl rfl ?_
  refine r_ci X (r_okVL (As := [.int p1]) (rest := [.int 14, .ref (kB G + 188)]) X (m_X2_deedsOf (xl x) G X.2.2.2.2.1 hph p1 s _ h) (cl_X2_291 X ⟨(Nat.le_of_ble_eq_true rfl), (Nat.le_of_ble_eq_true rfl)⟩) hph 2 ly_182 rfl rfl rfl rfl (Nat.le_of_ble_eq_true rfl) dX2_upOf_8 ⟨Nat.le_of_ble_eq_true rfl, Nat.le_of_ble_eq_true rfl⟩) (fun r2 s1 h => ?_)
  refine r_ci X (r_okS (As := [.int r2]) (rest := [.int 14, .ref (kB G + 188)]) X (m_X2_bits (xl x) G X.2.2.2.2.1 r2 s1 _ h) (cl_X2_294 X ⟨(Nat.le_of_ble_eq_true rfl), (Nat.le_of_ble_eq_true rfl)⟩) rfl rfl (Nat.le_of_ble_eq_true rfl) dX2_upOf_11 ⟨Nat.le_of_ble_eq_true rfl, Nat.le_of_ble_eq_true rfl⟩) (fun r4 s3 h => ?_)
  refine r_iastL X hph 188 15 ly_188 tn_14 il_14_15 dX2_upOf_14 (fun s5 e6 => ?_)
  replace h := h s5 e6
  refine r_aload_n X 0 dX2_upOf_15 rfl rfl ?_
  refine r_aload_n X 0 dX2_upOf_16 rfl rfl ?_
  refine gr_X2_7 X hph 13 182 183 ly_182 rfl rfl dX2_upOf_17 ?_
  refine r_bipush (v := 7) X dX2_upOf_20 rfl ?_
  refine r_ialdL X hph 183 5544 ly_183 tn_7 il_7_5544 dX2_upOf_22 ?_
  refine r_iconst (v := 3) X dX2_upOf_23 rfl ?_
  refine r_iload_n X 1 dX2_upOf_24 rfl rfl ?_
  refine r_bipush (v := 50) X dX2_upOf_25 rfl ?_
  refine r_iconst (v := 0) X dX2_upOf_27 rfl ?_
  refine r_sipush (v := 999) X dX2_upOf_28 rfl ?_
  refine r_ci X (r_okVL (As := [.int (gI s5 (kB G + 183) 7), .int 3, .int p1, .int 50, .int 0, .int 999]) (rest := []) X (m_X2_says (xl x) G X.2.2.2.2.1 hph (gI s5 (kB G + 183) 7) 3 p1 50 0 999 s5 _ h) (cl_X2_284 X ⟨(Nat.le_of_ble_eq_true rfl), (Nat.le_of_ble_eq_true rfl)⟩) hph 2 ly_182 rfl rfl rfl rfl (Nat.le_of_ble_eq_true rfl) dX2_upOf_31 ⟨Nat.le_of_ble_eq_true rfl, Nat.le_of_ble_eq_true rfl⟩) (fun r8 s7 h => ?_)
  exact r_iret X h (Nat.le_of_ble_eq_true rfl) (Nat.le_of_ble_eq_true rfl) dX2_upOf_34
theorem m_X2_upOf (l : Launch) (G : GT) (g : GK G) (hph : kP G = 1) (p1 : Int32) (s : PS) (Q : Int32 → PS → Prop) (h : w_X2_upOf G p1 s Q) : Met l yX2_upOf (ws_ yX2_upOf cX2_upOf 2 (some .int)) rm_X2_upOf (va_Pc [.ref (kB G + 182), .int p1] (Wr G s)) (va_Qi Q (fun u t => Wr G u t) (kF G)) 0 0 (kF G) := by
  refine Met.ofW (cc := cX2_upOf) (maxL := 2) (ret := (some .int)) (by decide) rfl ?_
  intro p e s0 m args below meth c s₁ B hml hv
  obtain ⟨rfl, hw⟩ := hv
  exact wb_of [.ref (kB G + 182), .int p1] (Nat.le_of_ble_eq_true rfl) hw.1 rfl (e_X2_upOf (cx_of g B hml rfl hw) hph p1 s Q h)
theorem e_X2_verdict {x : CT} {G : GT} (X : Cx x G cX2_verdict 2 RX2 (some .int) rm_X2_verdict) (hph : kP G = 1) (s : PS) (Q : Int32 → PS → Prop) (h : w_X2_verdict G s Q) : WB x G 2 (QfI x G 0 0 Q) 0 0 s 0 [(0, .ref (kB G + 182))] [] := by
  unfold w_X2_verdict at h
  refine r_aload_n X 0 dX2_verdict_0 rfl rfl ?_
  refine gr_X2_7 X hph 13 182 183 ly_182 rfl rfl dX2_verdict_1 ?_
  refine r_sipush (v := 242) X dX2_verdict_4 rfl ?_
  refine r_ialdL X hph 183 5544 ly_183 tn_242 il_242_5544 dX2_verdict_7 ?_
  refine r_nmI (fun y1 e2 => ?_)
  replace h := h y1 e2
  refine r_istore_n (lv' := [(1, .int y1), (0, .ref (kB G + 182))]) X dX2_verdict_8 rfl (Nat.le_of_ble_eq_true rfl) rfl ?_
  refine r_aload_n X 1 dX2_verdict_9 rfl rfl ?_
  refine gr_X2_7 X hph 13 182 183 ly_182 rfl rfl dX2_verdict_10 ?_
  refine r_sipush (v := 244) X dX2_verdict_13 rfl ?_
  refine r_ialdL X hph 183 5544 ly_183 tn_244 il_244_5544 dX2_verdict_16 ?_
  refine r_aload_n X 1 dX2_verdict_17 rfl rfl ?_
  refine gr_X2_7 X hph 13 182 183 ly_182 rfl rfl dX2_verdict_18 ?_
  refine r_bipush (v := 12) X dX2_verdict_21 rfl ?_
  refine r_iload_n X 0 dX2_verdict_23 rfl rfl ?_
  refine r_iadd X dX2_verdict_24 ?_
  obtain ⟨g3, h⟩ := h
  refine r_ialdL X hph 183 5544 ly_183 rfl g3 dX2_verdict_25 ?_
  refine r_ic_le X 31 dX2_verdict_26 (by decide) (fun c4 => ?_) (fun c4 => ?_)
  · replace h := h.1 c4
    refine r_aload_n X 1 dX2_verdict_31 rfl rfl ?_
    refine gr_X2_7 X hph 13 182 183 ly_182 rfl rfl dX2_verdict_32 ?_
    refine r_sipush (v := 244) X dX2_verdict_35 rfl ?_
    refine r_ialdL X hph 183 5544 ly_183 tn_244 il_244_5544 dX2_verdict_38 ?_
    refine r_aload_n X 1 dX2_verdict_39 rfl rfl ?_
    refine r_iload_n X 0 dX2_verdict_40 rfl rfl ?_
    refine r_ci X (r_okVL (As := [.int y1]) (rest := [.int (gI s (kB G + 183) 244)]) X (m_X2_upOf (xl x) G X.2.2.2.2.1 hph y1 s _ h) (cl_X2_312 X ⟨(Nat.le_of_ble_eq_true rfl), (Nat.le_of_ble_eq_true rfl)⟩) hph 2 ly_182 rfl rfl rfl rfl (Nat.le_of_ble_eq_true rfl) dX2_verdict_41 ⟨Nat.le_of_ble_eq_true rfl, Nat.le_of_ble_eq_true rfl⟩) (fun r6 s5 h => ?_)
    refine r_iadd X dX2_verdict_44 ?_
    refine r_aload_n X 1 dX2_verdict_45 rfl rfl ?_
    refine gr_X2_7 X hph 13 182 183 ly_182 rfl rfl dX2_verdict_46 ?_
    refine r_bipush (v := 12) X dX2_verdict_49 rfl ?_
    refine r_iload_n X 0 dX2_verdict_51 rfl rfl ?_
    refine r_iadd X dX2_verdict_52 ?_
    refine r_ialdL X hph 183 5544 ly_183 rfl g3 dX2_verdict_53 ?_
    have hJ : WB x G 2 (QfI x G 0 0 Q) 0 0 s5 62 [(1, .int y1), (0, .ref (kB G + 182))] [.int (if (gI s5 (kB G + 183) (12 + y1).toNatClampNeg) ≤ ((gI s (kB G + 183) 244) + r6) then 1 else 2 : Int32)] := by
      exact r_iret X h (Nat.le_of_ble_eq_true rfl) (Nat.le_of_ble_eq_true rfl) dX2_verdict_62
    refine r_ic_ge X 61 dX2_verdict_54 (by decide) (fun c7 => ?_) (fun c7 => ?_)
    · rw [if_pos c7] at hJ
      refine r_iconst (v := 1) X dX2_verdict_61 rfl ?_
      exact hJ
    · rw [if_neg c7] at hJ
      refine r_iconst (v := 2) X dX2_verdict_57 rfl ?_
      refine r_goto X 62 dX2_verdict_58 (by decide) ?_
      exact hJ
  · replace h := h.2 c4
    refine r_iconst (v := 0) X dX2_verdict_29 rfl ?_
    exact r_iret X h (Nat.le_of_ble_eq_true rfl) (Nat.le_of_ble_eq_true rfl) dX2_verdict_30
theorem m_X2_verdict (l : Launch) (G : GT) (g : GK G) (hph : kP G = 1) (s : PS) (Q : Int32 → PS → Prop) (h : w_X2_verdict G s Q) : Met l yX2_verdict (ws_ yX2_verdict cX2_verdict 2 (some .int)) rm_X2_verdict (va_Pc [.ref (kB G + 182)] (Wr G s)) (va_Qi Q (fun u t => Wr G u t) (kF G)) 0 0 (kF G) := by
  refine Met.ofW (cc := cX2_verdict) (maxL := 2) (ret := (some .int)) (by decide) rfl ?_
  intro p e s0 m args below meth c s₁ B hml hv
  obtain ⟨rfl, hw⟩ := hv
  exact wb_of [.ref (kB G + 182)] (Nat.le_of_ble_eq_true rfl) hw.1 rfl (e_X2_verdict (cx_of g B hml rfl hw) hph s Q h)
theorem tb_X2_judgeNow_64 {x : CT} {G : GT} (X : Cx x G cX2_judgeNow 4 RX2 (some .int) rm_X2_judgeNow) (hph : kP G = 1) (Q : Int32 → PS → Prop) (v1 : Int32) (v2 : Int32) (s : PS) (h : b_X2_judgeNow_64 G Q v1 v2 s) : WB x G 4 (QfI x G 0 0 Q) 0 0 s 64 [(0, .ref (kB G + 182)), (1, .int v1), (2, .int v2)] [] := by
  unfold b_X2_judgeNow_64 at h
  refine r_sipush (v := 1704) X dX2_judgeNow_64 rfl ?_
  refine r_iconst (v := 5) X dX2_judgeNow_67 rfl ?_
  refine r_aload_n X 0 dX2_judgeNow_68 rfl rfl ?_
  refine gr_X2_7 X hph 13 182 183 ly_182 rfl rfl dX2_judgeNow_69 ?_
  refine r_bipush (v := 11) X dX2_judgeNow_72 rfl ?_
  refine r_ialdL X hph 183 5544 ly_183 tn_11 il_11_5544 dX2_judgeNow_74 ?_
  refine r_sipush (v := 768) X dX2_judgeNow_75 rfl ?_
  refine r_irem X dX2_judgeNow_78 (by decide) ?_
  refine r_imul X dX2_judgeNow_79 ?_
  refine r_iadd X dX2_judgeNow_80 ?_
  refine r_nmI (fun y1 e2 => ?_)
  replace h := h y1 e2
  refine r_istore_n (lv' := [(3, .int y1), (0, .ref (kB G + 182)), (1, .int v1), (2, .int v2)]) X dX2_judgeNow_81 rfl (Nat.le_of_ble_eq_true rfl) rfl ?_
  refine r_aload_n X 1 dX2_judgeNow_82 rfl rfl ?_
  refine gr_X2_7 X hph 13 182 183 ly_182 rfl rfl dX2_judgeNow_83 ?_
  refine r_iload_n X 0 dX2_judgeNow_86 rfl rfl ?_
  refine r_iload_n X 3 dX2_judgeNow_87 rfl rfl ?_
  obtain ⟨g3, h⟩ := h
  refine r_iastL X hph 183 5544 ly_183 rfl g3 dX2_judgeNow_88 (fun s4 e5 => ?_)
  replace h := h s4 e5
  refine r_aload_n X 1 dX2_judgeNow_89 rfl rfl ?_
  refine gr_X2_7 X hph 13 182 183 ly_182 rfl rfl dX2_judgeNow_90 ?_
  refine r_iload_n X 0 dX2_judgeNow_93 rfl rfl ?_
  refine r_iconst (v := 1) X dX2_judgeNow_94 rfl ?_
  refine r_iadd X dX2_judgeNow_95 ?_
  refine r_aload_n X 1 dX2_judgeNow_96 rfl rfl ?_
  refine gr_X2_7 X hph 13 182 183 ly_182 rfl rfl dX2_judgeNow_97 ?_
  refine r_sipush (v := 244) X dX2_judgeNow_100 rfl ?_
  refine r_ialdL X hph 183 5544 ly_183 tn_244 il_244_5544 dX2_judgeNow_103 ?_
  obtain ⟨g6, h⟩ := h
  refine r_iastL X hph 183 5544 ly_183 rfl g6 dX2_judgeNow_104 (fun s7 e8 => ?_)
  replace h := h s7 e8
  refine r_aload_n X 1 dX2_judgeNow_105 rfl rfl ?_
  refine gr_X2_7 X hph 13 182 183 ly_182 rfl rfl dX2_judgeNow_106 ?_
  refine r_iload_n X 0 dX2_judgeNow_109 rfl rfl ?_
  refine r_iconst (v := 2) X dX2_judgeNow_110 rfl ?_
  refine r_iadd X dX2_judgeNow_111 ?_
  refine r_aload_n X 1 dX2_judgeNow_112 rfl rfl ?_
  refine gr_X2_7 X hph 13 182 183 ly_182 rfl rfl dX2_judgeNow_113 ?_
  refine r_sipush (v := 243) X dX2_judgeNow_116 rfl ?_
  refine r_ialdL X hph 183 5544 ly_183 tn_243 il_243_5544 dX2_judgeNow_119 ?_
  obtain ⟨g9, h⟩ := h
  refine r_iastL X hph 183 5544 ly_183 rfl g9 dX2_judgeNow_120 (fun s10 e11 => ?_)
  replace h := h s10 e11
  refine r_aload_n X 1 dX2_judgeNow_121 rfl rfl ?_
  refine gr_X2_7 X hph 13 182 183 ly_182 rfl rfl dX2_judgeNow_122 ?_
  refine r_iload_n X 0 dX2_judgeNow_125 rfl rfl ?_
  refine r_iconst (v := 3) X dX2_judgeNow_126 rfl ?_
  refine r_iadd X dX2_judgeNow_127 ?_
  refine r_aload_n X 1 dX2_judgeNow_128 rfl rfl ?_
  refine gr_X2_7 X hph 13 182 183 ly_182 rfl rfl dX2_judgeNow_129 ?_
  refine r_sipush (v := 245) X dX2_judgeNow_132 rfl ?_
  refine r_ialdL X hph 183 5544 ly_183 tn_245 il_245_5544 dX2_judgeNow_135 ?_
  obtain ⟨g12, h⟩ := h
  refine r_iastL X hph 183 5544 ly_183 rfl g12 dX2_judgeNow_136 (fun s13 e14 => ?_)
  replace h := h s13 e14
  refine r_aload_n X 1 dX2_judgeNow_137 rfl rfl ?_
  refine gr_X2_7 X hph 13 182 183 ly_182 rfl rfl dX2_judgeNow_138 ?_
  refine r_iload_n X 0 dX2_judgeNow_141 rfl rfl ?_
  refine r_iconst (v := 4) X dX2_judgeNow_142 rfl ?_
  refine r_iadd X dX2_judgeNow_143 ?_
  refine r_iload_n X 2 dX2_judgeNow_144 rfl rfl ?_
  obtain ⟨g15, h⟩ := h
  refine r_iastL X hph 183 5544 ly_183 rfl g15 dX2_judgeNow_145 (fun s16 e17 => ?_)
  replace h := h s16 e17
  refine r_aload_n X 1 dX2_judgeNow_146 rfl rfl ?_
  refine gr_X2_7 X hph 13 182 183 ly_182 rfl rfl dX2_judgeNow_147 ?_
  refine r_bipush (v := 11) X dX2_judgeNow_150 rfl ?_
  refine r_dup2 X dX2_judgeNow_152 rfl rfl ?_
  refine r_ialdL X hph 183 5544 ly_183 tn_11 il_11_5544 dX2_judgeNow_153 ?_
  refine r_iconst (v := 1) X dX2_judgeNow_154 rfl ?_
  refine r_iadd X dX2_judgeNow_155 ?_
  refine r_iastL X hph 183 5544 ly_183 tn_11 il_11_5544 dX2_judgeNow_156 (fun s18 e19 => ?_)
  replace h := h s18 e19
  refine r_aload_n X 1 dX2_judgeNow_157 rfl rfl ?_
  refine gr_X2_7 X hph 13 182 183 ly_182 rfl rfl dX2_judgeNow_158 ?_
  refine r_sipush (v := 242) X dX2_judgeNow_161 rfl ?_
  refine r_iconst (v := (-1)) X dX2_judgeNow_164 rfl ?_
  refine r_iastL X hph 183 5544 ly_183 tn_242 il_242_5544 dX2_judgeNow_165 (fun s20 e21 => ?_)
  replace h := h s20 e21
  refine r_iload_n X 2 dX2_judgeNow_166 rfl rfl ?_
  exact r_iret X h (Nat.le_of_ble_eq_true rfl) (Nat.le_of_ble_eq_true rfl) dX2_judgeNow_167
theorem e_X2_judgeNow {x : CT} {G : GT} (X : Cx x G cX2_judgeNow 4 RX2 (some .int) rm_X2_judgeNow) (hph : kP G = 1) (s : PS) (Q : Int32 → PS → Prop) (h : w_X2_judgeNow G s Q) : WB x G 4 (QfI x G 0 0 Q) 0 0 s 0 [(0, .ref (kB G + 182))] [] := by
  unfold w_X2_judgeNow at h
  refine r_aload_n X 0 dX2_judgeNow_0 rfl rfl ?_
  refine r_ci X (r_okVL (As := []) (rest := []) X (m_X2_verdict (xl x) G X.2.2.2.2.1 hph s _ h) (cl_X2_315 X ⟨(Nat.le_of_ble_eq_true rfl), (Nat.le_of_ble_eq_true rfl)⟩) hph 2 ly_182 rfl rfl rfl rfl (Nat.le_of_ble_eq_true rfl) dX2_judgeNow_1 ⟨Nat.le_of_ble_eq_true rfl, Nat.le_of_ble_eq_true rfl⟩) (fun r2 s1 h => ?_)
  refine r_istore_n (lv' := [(1, .int r2), (0, .ref (kB G + 182))]) X dX2_judgeNow_4 rfl (Nat.le_of_ble_eq_true rfl) rfl ?_
  refine r_aload_n X 1 dX2_judgeNow_5 rfl rfl ?_
  refine gr_X2_7 X hph 13 182 183 ly_182 rfl rfl dX2_judgeNow_6 ?_
  refine r_sipush (v := 242) X dX2_judgeNow_9 rfl ?_
  refine r_ialdL X hph 183 5544 ly_183 tn_242 il_242_5544 dX2_judgeNow_12 ?_
  refine r_nmI (fun y3 e4 => ?_)
  replace h := h y3 e4
  refine r_istore_n (lv' := [(2, .int y3), (1, .int r2), (0, .ref (kB G + 182))]) X dX2_judgeNow_13 rfl (Nat.le_of_ble_eq_true rfl) rfl ?_
  refine r_iload_n X 1 dX2_judgeNow_14 rfl rfl ?_
  refine r_if_ne X 64 dX2_judgeNow_15 (by decide) (fun c5 => ?_) (fun c5 => ?_)
  · replace h := h.2 c5
    refine r_sub [2, 1, 0] rfl ?_
    exact tb_X2_judgeNow_64 X hph Q r2 y3 s1 h
  · replace h := h.1 c5
    refine r_aload_n X 2 dX2_judgeNow_18 rfl rfl ?_
    refine gr_X2_7 X hph 13 182 183 ly_182 rfl rfl dX2_judgeNow_19 ?_
    refine r_iconst (v := 4) X dX2_judgeNow_22 rfl ?_
    refine r_ialdL X hph 183 5544 ly_183 tn_4 il_4_5544 dX2_judgeNow_23 ?_
    refine r_aload_n X 2 dX2_judgeNow_24 rfl rfl ?_
    refine gr_X2_7 X hph 13 182 183 ly_182 rfl rfl dX2_judgeNow_25 ?_
    refine r_sipush (v := 244) X dX2_judgeNow_28 rfl ?_
    refine r_ialdL X hph 183 5544 ly_183 tn_244 il_244_5544 dX2_judgeNow_31 ?_
    refine r_iadd X dX2_judgeNow_32 ?_
    refine r_aload_n X 2 dX2_judgeNow_33 rfl rfl ?_
    refine gr_X2_7 X hph 13 182 183 ly_182 rfl rfl dX2_judgeNow_34 ?_
    refine r_bipush (v := 12) X dX2_judgeNow_37 rfl ?_
    refine r_iload_n X 0 dX2_judgeNow_39 rfl rfl ?_
    refine r_iadd X dX2_judgeNow_40 ?_
    obtain ⟨g6, h⟩ := h
    refine r_ialdL X hph 183 5544 ly_183 rfl g6 dX2_judgeNow_41 ?_
    refine r_isub X dX2_judgeNow_42 ?_
    refine r_nmI (fun y7 e8 => ?_)
    replace h := h y7 e8
    refine r_istore_n (lv' := [(3, .int y7), (2, .int y3), (1, .int r2), (0, .ref (kB G + 182))]) X dX2_judgeNow_43 rfl (Nat.le_of_ble_eq_true rfl) rfl ?_
    refine r_aload_n X 3 dX2_judgeNow_44 rfl rfl ?_
    refine gr_X2_7 X hph 13 182 183 ly_182 rfl rfl dX2_judgeNow_45 ?_
    refine r_iconst (v := 4) X dX2_judgeNow_48 rfl ?_
    refine r_iload_n X 0 dX2_judgeNow_49 rfl rfl ?_
    refine r_sipush (v := 9999) X dX2_judgeNow_50 rfl ?_
    have hJ : WB x G 4 (QfI x G 0 0 Q) 0 0 s1 63 [(3, .int y7), (2, .int y3), (1, .int r2), (0, .ref (kB G + 182))] [.int (if y7 ≤ 9999 then y7 else 9999 : Int32), .int 4, .ref (kB G + 183)] := by
      refine r_iastL X hph 183 5544 ly_183 tn_4 il_4_5544 dX2_judgeNow_63 (fun s10 e11 => ?_)
      replace h := h s10 e11
      refine r_sub [3, 2, 1] rfl ?_
      exact tb_X2_judgeNow_64 X hph Q r2 y3 s10 h
    refine r_ic_le X 62 dX2_judgeNow_53 (by decide) (fun c9 => ?_) (fun c9 => ?_)
    · rw [if_pos c9] at hJ
      refine r_iload_n X 0 dX2_judgeNow_62 rfl rfl ?_
      exact hJ
    · rw [if_neg c9] at hJ
      refine r_sipush (v := 9999) X dX2_judgeNow_56 rfl ?_
      refine r_goto X 63 dX2_judgeNow_59 (by decide) ?_
      exact hJ
theorem m_X2_judgeNow (l : Launch) (G : GT) (g : GK G) (hph : kP G = 1) (s : PS) (Q : Int32 → PS → Prop) (h : w_X2_judgeNow G s Q) : Met l yX2_judgeNow (ws_ yX2_judgeNow cX2_judgeNow 4 (some .int)) rm_X2_judgeNow (va_Pc [.ref (kB G + 182)] (Wr G s)) (va_Qi Q (fun u t => Wr G u t) (kF G)) 0 0 (kF G) := by
  refine Met.ofW (cc := cX2_judgeNow) (maxL := 4) (ret := (some .int)) (by decide) rfl ?_
  intro p e s0 m args below meth c s₁ B hml hv
  obtain ⟨rfl, hw⟩ := hv
  exact wb_of [.ref (kB G + 182)] (Nat.le_of_ble_eq_true rfl) hw.1 rfl (e_X2_judgeNow (cx_of g B hml rfl hw) hph s Q h)
theorem e_X2_judged {x : CT} {G : GT} (X : Cx x G cX2_judged 1 RX2 (some .int) rm_X2_judged) (hph : kP G = 1) (s : PS) (Q : Int32 → PS → Prop) (h : w_X2_judged G s Q) : WB x G 1 (QfI x G 0 0 Q) 0 0 s 0 [(0, .ref (kB G + 182))] [] := by
  unfold w_X2_judged at h
  refine r_aload_n X 0 dX2_judged_0 rfl rfl ?_
  refine gr_X2_7 X hph 13 182 183 ly_182 rfl rfl dX2_judged_1 ?_
  refine r_sipush (v := 242) X dX2_judged_4 rfl ?_
  refine r_ialdL X hph 183 5544 ly_183 tn_242 il_242_5544 dX2_judged_7 ?_
  refine r_iconst (v := (-1)) X dX2_judged_8 rfl ?_
  refine r_ic_ne X 14 dX2_judged_9 (by decide) (fun c1 => ?_) (fun c1 => ?_)
  · replace h := h.2 c1
    refine r_aload_n X 0 dX2_judged_14 rfl rfl ?_
    refine r_cv X (r_okVL (As := []) (rest := []) X (m_X2_keep (xl x) G X.2.2.2.2.1 hph s _ h) (cl_X2_318 X ⟨(Nat.le_of_ble_eq_true rfl), (Nat.le_of_ble_eq_true rfl)⟩) hph 2 ly_182 rfl rfl rfl rfl (Nat.le_of_ble_eq_true rfl) dX2_judged_15 ⟨Nat.le_of_ble_eq_true rfl, Nat.le_of_ble_eq_true rfl⟩) (fun s2 h => ?_)
    refine r_aload_n X 0 dX2_judged_18 rfl rfl ?_
    refine r_ci X (r_okVL (As := []) (rest := []) X (m_X2_judgeNow (xl x) G X.2.2.2.2.1 hph s2 _ h) (cl_X2_335 X ⟨(Nat.le_of_ble_eq_true rfl), (Nat.le_of_ble_eq_true rfl)⟩) hph 2 ly_182 rfl rfl rfl rfl (Nat.le_of_ble_eq_true rfl) dX2_judged_19 ⟨Nat.le_of_ble_eq_true rfl, Nat.le_of_ble_eq_true rfl⟩) (fun r4 s3 h => ?_)
    exact r_iret X h (Nat.le_of_ble_eq_true rfl) (Nat.le_of_ble_eq_true rfl) dX2_judged_22
  · replace h := h.1 c1
    refine r_iconst (v := (-1)) X dX2_judged_12 rfl ?_
    exact r_iret X h (Nat.le_of_ble_eq_true rfl) (Nat.le_of_ble_eq_true rfl) dX2_judged_13
theorem m_X2_judged (l : Launch) (G : GT) (g : GK G) (hph : kP G = 1) (s : PS) (Q : Int32 → PS → Prop) (h : w_X2_judged G s Q) : Met l yX2_judged (ws_ yX2_judged cX2_judged 1 (some .int)) rm_X2_judged (va_Pc [.ref (kB G + 182)] (Wr G s)) (va_Qi Q (fun u t => Wr G u t) (kF G)) 0 0 (kF G) := by
  refine Met.ofW (cc := cX2_judged) (maxL := 1) (ret := (some .int)) (by decide) rfl ?_
  intro p e s0 m args below meth c s₁ B hml hv
  obtain ⟨rfl, hw⟩ := hv
  exact wb_of [.ref (kB G + 182)] (Nat.le_of_ble_eq_true rfl) hw.1 rfl (e_X2_judged (cx_of g B hml rfl hw) hph s Q h)
theorem e_X2_isPlayed {x : CT} {G : GT} (X : Cx x G cX2_isPlayed 3 RX2 (some .boolean) rm_X2_isPlayed) (hph : kP G = 1) (p1 : Int32) (s : PS) (Q : Int32 → PS → Prop) (h : w_X2_isPlayed G p1 s Q) : WB x G 3 (QfI x G 0 0 (fun r u => (r = 0 ∨ r = 1) ∧ Q r u)) 0 0 s 0 [(0, .ref (kB G + 182)), (1, .int p1)] [] := by
  unfold w_X2_isPlayed at h
  refine r_aload_n X 0 dX2_isPlayed_0 rfl rfl ?_
  refine gr_X2_16 X hph 13 182 185 ly_182 rfl rfl dX2_isPlayed_1 ?_
  refine r_iload_n X 1 dX2_isPlayed_4 rfl rfl ?_
  refine r_iconst (v := 1) X dX2_isPlayed_5 rfl ?_
  refine r_iadd X dX2_isPlayed_6 ?_
  obtain ⟨g1, h⟩ := h
  refine r_ialdL X hph 185 3012 ly_185 rfl g1 dX2_isPlayed_7 ?_
  refine r_nmI (fun y2 e3 => ?_)
  replace h := h y2 e3
  refine r_istore_n (lv' := [(2, .int y2), (0, .ref (kB G + 182)), (1, .int p1)]) X dX2_isPlayed_8 rfl (Nat.le_of_ble_eq_true rfl) rfl ?_
  refine r_aload_n X 1 dX2_isPlayed_9 rfl rfl ?_
  refine gr_X2_16 X hph 13 182 185 ly_182 rfl rfl dX2_isPlayed_10 ?_
  refine r_iload_n X 2 dX2_isPlayed_13 rfl rfl ?_
  obtain ⟨g4, h⟩ := h
  refine r_ialdL X hph 185 3012 ly_185 rfl g4 dX2_isPlayed_14 ?_
  refine r_nmI (fun y5 e6 => ?_)
  replace h := h y5 e6
  by_cases c7 : y5 = 4
  · replace h := h.1 c7
    refine r_tin X 64 dX2_isPlayed_15 4 c7 (by decide) (by decide) rfl (by decide) ?_
    refine r_aload_n X 1 dX2_isPlayed_64 rfl rfl ?_
    refine r_iload_n X 0 dX2_isPlayed_65 rfl rfl ?_
    refine r_ci X (r_okVL (As := [.int y2]) (rest := []) X (m_X2_heart (xl x) G X.2.2.2.2.1 hph y2 s _ h) (cl_X2_338 X ⟨(Nat.le_of_ble_eq_true rfl), (Nat.le_of_ble_eq_true rfl)⟩) hph 2 ly_182 rfl rfl rfl rfl (Nat.le_of_ble_eq_true rfl) dX2_isPlayed_66 ⟨Nat.le_of_ble_eq_true rfl, Nat.le_of_ble_eq_true rfl⟩) (fun r9 s8 h => ?_)
    have hJ : WB x G 3 (QfI x G 0 0 (fun r u => (r = 0 ∨ r = 1) ∧ Q r u)) 0 0 s8 77 [(2, .int y2), (0, .ref (kB G + 182)), (1, .int p1)] [.int (if r9 < 0 then 0 else 1 : Int32)] := by
      exact r_zret X (by (repeat' split) <;> first | exact Or.inl rfl | exact Or.inr rfl) h (Nat.le_of_ble_eq_true rfl) (Nat.le_of_ble_eq_true rfl) dX2_isPlayed_77
    refine r_if_lt X 76 dX2_isPlayed_69 (by decide) (fun c10 => ?_) (fun c10 => ?_)
    · rw [if_pos c10] at hJ
      refine r_iconst (v := 0) X dX2_isPlayed_76 rfl ?_
      exact hJ
    · rw [if_neg c10] at hJ
      refine r_iconst (v := 1) X dX2_isPlayed_72 rfl ?_
      refine r_goto X 77 dX2_isPlayed_73 (by decide) ?_
      exact hJ
  · replace h := h.2 c7
    by_cases c11 : y5 = 5
    · replace h := h.1 c11
      refine r_tin X 78 dX2_isPlayed_15 5 c11 (by decide) (by decide) rfl (by decide) ?_
      refine r_aload_n X 1 dX2_isPlayed_78 rfl rfl ?_
      refine r_aload_n X 1 dX2_isPlayed_79 rfl rfl ?_
      refine gr_X2_16 X hph 13 182 185 ly_182 rfl rfl dX2_isPlayed_80 ?_
      refine r_iload_n X 2 dX2_isPlayed_83 rfl rfl ?_
      refine r_iconst (v := 3) X dX2_isPlayed_84 rfl ?_
      refine r_iadd X dX2_isPlayed_85 ?_
      obtain ⟨g12, h⟩ := h
      refine r_ialdL X hph 185 3012 ly_185 rfl g12 dX2_isPlayed_86 ?_
      refine r_iload_n X 0 dX2_isPlayed_87 rfl rfl ?_
      refine r_aload_n X 1 dX2_isPlayed_88 rfl rfl ?_
      refine gr_X2_16 X hph 13 182 185 ly_182 rfl rfl dX2_isPlayed_89 ?_
      refine r_iload_n X 2 dX2_isPlayed_92 rfl rfl ?_
      refine r_iconst (v := 2) X dX2_isPlayed_93 rfl ?_
      refine r_iadd X dX2_isPlayed_94 ?_
      obtain ⟨g13, h⟩ := h
      refine r_ialdL X hph 185 3012 ly_185 rfl g13 dX2_isPlayed_95 ?_
      refine r_aload_n X 1 dX2_isPlayed_96 rfl rfl ?_
      refine gr_X2_16 X hph 13 182 185 ly_182 rfl rfl dX2_isPlayed_97 ?_
      refine r_iload_n X 2 dX2_isPlayed_100 rfl rfl ?_
      refine r_iconst (v := 4) X dX2_isPlayed_101 rfl ?_
      refine r_iadd X dX2_isPlayed_102 ?_
      obtain ⟨g14, h⟩ := h
      refine r_ialdL X hph 185 3012 ly_185 rfl g14 dX2_isPlayed_103 ?_
      refine r_iconst (v := (-1)) X dX2_isPlayed_104 rfl ?_
      refine r_ci X (r_okVL (As := [.int (gI s (kB G + 185) (p1 + 3).toNatClampNeg), .int y2, .int (gI s (kB G + 185) (p1 + 2).toNatClampNeg), .int (gI s (kB G + 185) (p1 + 4).toNatClampNeg), .int (-1)]) (rest := []) X (m_X2_deed (xl x) G X.2.2.2.2.1 hph (gI s (kB G + 185) (p1 + 3).toNatClampNeg) y2 (gI s (kB G + 185) (p1 + 2).toNatClampNeg) (gI s (kB G + 185) (p1 + 4).toNatClampNeg) (-1) s _ h) (cl_X2_341 X ⟨(Nat.le_of_ble_eq_true rfl), (Nat.le_of_ble_eq_true rfl)⟩) hph 2 ly_182 rfl rfl rfl rfl (Nat.le_of_ble_eq_true rfl) dX2_isPlayed_105 ⟨Nat.le_of_ble_eq_true rfl, Nat.le_of_ble_eq_true rfl⟩) (fun r16 s15 h => ?_)
      have hJ : WB x G 3 (QfI x G 0 0 (fun r u => (r = 0 ∨ r = 1) ∧ Q r u)) 0 0 s15 116 [(2, .int y2), (0, .ref (kB G + 182)), (1, .int p1)] [.int (if r16 < 0 then 0 else 1 : Int32)] := by
        exact r_zret X (by (repeat' split) <;> first | exact Or.inl rfl | exact Or.inr rfl) h (Nat.le_of_ble_eq_true rfl) (Nat.le_of_ble_eq_true rfl) dX2_isPlayed_116
      refine r_if_lt X 115 dX2_isPlayed_108 (by decide) (fun c17 => ?_) (fun c17 => ?_)
      · rw [if_pos c17] at hJ
        refine r_iconst (v := 0) X dX2_isPlayed_115 rfl ?_
        exact hJ
      · rw [if_neg c17] at hJ
        refine r_iconst (v := 1) X dX2_isPlayed_111 rfl ?_
        refine r_goto X 116 dX2_isPlayed_112 (by decide) ?_
        exact hJ
    · replace h := h.2 c11
      by_cases c18 : y5 = 6
      · replace h := h.1 c18
        refine r_tin X 117 dX2_isPlayed_15 6 c18 (by decide) (by decide) rfl (by decide) ?_
        refine r_aload_n X 1 dX2_isPlayed_117 rfl rfl ?_
        refine r_iload_n X 0 dX2_isPlayed_118 rfl rfl ?_
        refine r_ci X (r_okVL (As := [.int y2]) (rest := []) X (m_X2_judge (xl x) G X.2.2.2.2.1 hph y2 s _ h) (cl_X2_345 X ⟨(Nat.le_of_ble_eq_true rfl), (Nat.le_of_ble_eq_true rfl)⟩) hph 2 ly_182 rfl rfl rfl rfl (Nat.le_of_ble_eq_true rfl) dX2_isPlayed_119 ⟨Nat.le_of_ble_eq_true rfl, Nat.le_of_ble_eq_true rfl⟩) (fun r20 s19 h => ?_)
        have hJ : WB x G 3 (QfI x G 0 0 (fun r u => (r = 0 ∨ r = 1) ∧ Q r u)) 0 0 s19 130 [(2, .int y2), (0, .ref (kB G + 182)), (1, .int p1)] [.int (if r20 < 0 then 0 else 1 : Int32)] := by
          exact r_zret X (by (repeat' split) <;> first | exact Or.inl rfl | exact Or.inr rfl) h (Nat.le_of_ble_eq_true rfl) (Nat.le_of_ble_eq_true rfl) dX2_isPlayed_130
        refine r_if_lt X 129 dX2_isPlayed_122 (by decide) (fun c21 => ?_) (fun c21 => ?_)
        · rw [if_pos c21] at hJ
          refine r_iconst (v := 0) X dX2_isPlayed_129 rfl ?_
          exact hJ
        · rw [if_neg c21] at hJ
          refine r_iconst (v := 1) X dX2_isPlayed_125 rfl ?_
          refine r_goto X 130 dX2_isPlayed_126 (by decide) ?_
          exact hJ
      · replace h := h.2 c18
        by_cases c22 : y5 = 7
        · replace h := h.1 c22
          refine r_tin X 131 dX2_isPlayed_15 7 c22 (by decide) (by decide) rfl (by decide) ?_
          refine r_aload_n X 1 dX2_isPlayed_131 rfl rfl ?_
          refine r_iload_n X 0 dX2_isPlayed_132 rfl rfl ?_
          refine r_aload_n X 1 dX2_isPlayed_133 rfl rfl ?_
          refine gr_X2_16 X hph 13 182 185 ly_182 rfl rfl dX2_isPlayed_134 ?_
          refine r_iload_n X 2 dX2_isPlayed_137 rfl rfl ?_
          refine r_iconst (v := 2) X dX2_isPlayed_138 rfl ?_
          refine r_iadd X dX2_isPlayed_139 ?_
          obtain ⟨g23, h⟩ := h
          refine r_ialdL X hph 185 3012 ly_185 rfl g23 dX2_isPlayed_140 ?_
          refine r_aload_n X 1 dX2_isPlayed_141 rfl rfl ?_
          refine gr_X2_16 X hph 13 182 185 ly_182 rfl rfl dX2_isPlayed_142 ?_
          refine r_iload_n X 2 dX2_isPlayed_145 rfl rfl ?_
          refine r_iconst (v := 3) X dX2_isPlayed_146 rfl ?_
          refine r_iadd X dX2_isPlayed_147 ?_
          obtain ⟨g24, h⟩ := h
          refine r_ialdL X hph 185 3012 ly_185 rfl g24 dX2_isPlayed_148 ?_
          refine r_ci X (r_okVL (As := [.int y2, .int (gI s (kB G + 185) (p1 + 2).toNatClampNeg), .int (gI s (kB G + 185) (p1 + 3).toNatClampNeg)]) (rest := []) X (m_X2_lend (xl x) G X.2.2.2.2.1 hph y2 (gI s (kB G + 185) (p1 + 2).toNatClampNeg) (gI s (kB G + 185) (p1 + 3).toNatClampNeg) s _ h) (cl_X2_348 X ⟨(Nat.le_of_ble_eq_true rfl), (Nat.le_of_ble_eq_true rfl)⟩) hph 2 ly_182 rfl rfl rfl rfl (Nat.le_of_ble_eq_true rfl) dX2_isPlayed_149 ⟨Nat.le_of_ble_eq_true rfl, Nat.le_of_ble_eq_true rfl⟩) (fun r26 s25 h => ?_)
          obtain ⟨z27, h⟩ := h
          exact r_zret X z27 h (Nat.le_of_ble_eq_true rfl) (Nat.le_of_ble_eq_true rfl) dX2_isPlayed_152
        · replace h := h.2 c22
          by_cases c28 : y5 = 8
          · replace h := h.1 c28
            refine r_tin X 153 dX2_isPlayed_15 8 c28 (by decide) (by decide) rfl (by decide) ?_
            refine r_aload_n X 1 dX2_isPlayed_153 rfl rfl ?_
            refine r_iload_n X 0 dX2_isPlayed_154 rfl rfl ?_
            refine r_ci X (r_okVL (As := [.int y2]) (rest := []) X (m_X2_weigh (xl x) G X.2.2.2.2.1 hph y2 s _ h) (cl_X2_351 X ⟨(Nat.le_of_ble_eq_true rfl), (Nat.le_of_ble_eq_true rfl)⟩) hph 2 ly_182 rfl rfl rfl rfl (Nat.le_of_ble_eq_true rfl) dX2_isPlayed_155 ⟨Nat.le_of_ble_eq_true rfl, Nat.le_of_ble_eq_true rfl⟩) (fun r30 s29 h => ?_)
            refine r_ldc_w X q1658 dX2_isPlayed_158 ?_
            have hJ : WB x G 3 (QfI x G 0 0 (fun r u => (r = 0 ∨ r = 1) ∧ Q r u)) 0 0 s29 169 [(2, .int y2), (0, .ref (kB G + 182)), (1, .int p1)] [.int (if r30 = (-100000) then 0 else 1 : Int32)] := by
              exact r_zret X (by (repeat' split) <;> first | exact Or.inl rfl | exact Or.inr rfl) h (Nat.le_of_ble_eq_true rfl) (Nat.le_of_ble_eq_true rfl) dX2_isPlayed_169
            refine r_ic_eq X 168 dX2_isPlayed_161 (by decide) (fun c31 => ?_) (fun c31 => ?_)
            · rw [if_pos c31] at hJ
              refine r_iconst (v := 0) X dX2_isPlayed_168 rfl ?_
              exact hJ
            · rw [if_neg c31] at hJ
              refine r_iconst (v := 1) X dX2_isPlayed_164 rfl ?_
              refine r_goto X 169 dX2_isPlayed_165 (by decide) ?_
              exact hJ
          · replace h := h.2 c28
            by_cases c32 : y5 = 9
            · replace h := h.1 c32
              refine r_tin X 170 dX2_isPlayed_15 9 c32 (by decide) (by decide) rfl (by decide) ?_
              refine r_aload_n X 1 dX2_isPlayed_170 rfl rfl ?_
              refine r_iload_n X 0 dX2_isPlayed_171 rfl rfl ?_
              refine r_ci X (r_okVL (As := [.int y2]) (rest := []) X (m_X2_lay (xl x) G X.2.2.2.2.1 hph y2 s _ h) (cl_X2_354 X ⟨(Nat.le_of_ble_eq_true rfl), (Nat.le_of_ble_eq_true rfl)⟩) hph 2 ly_182 rfl rfl rfl rfl (Nat.le_of_ble_eq_true rfl) dX2_isPlayed_172 ⟨Nat.le_of_ble_eq_true rfl, Nat.le_of_ble_eq_true rfl⟩) (fun r34 s33 h => ?_)
              refine r_ldc_w X q1658 dX2_isPlayed_175 ?_
              have hJ : WB x G 3 (QfI x G 0 0 (fun r u => (r = 0 ∨ r = 1) ∧ Q r u)) 0 0 s33 186 [(2, .int y2), (0, .ref (kB G + 182)), (1, .int p1)] [.int (if r34 = (-100000) then 0 else 1 : Int32)] := by
                exact r_zret X (by (repeat' split) <;> first | exact Or.inl rfl | exact Or.inr rfl) h (Nat.le_of_ble_eq_true rfl) (Nat.le_of_ble_eq_true rfl) dX2_isPlayed_186
              refine r_ic_eq X 185 dX2_isPlayed_178 (by decide) (fun c35 => ?_) (fun c35 => ?_)
              · rw [if_pos c35] at hJ
                refine r_iconst (v := 0) X dX2_isPlayed_185 rfl ?_
                exact hJ
              · rw [if_neg c35] at hJ
                refine r_iconst (v := 1) X dX2_isPlayed_181 rfl ?_
                refine r_goto X 186 dX2_isPlayed_182 (by decide) ?_
                exact hJ
            · replace h := h.2 c32
              by_cases c36 : y5 = 10
              · replace h := h.1 c36
                refine r_tin X 187 dX2_isPlayed_15 10 c36 (by decide) (by decide) rfl (by decide) ?_
                refine r_aload_n X 1 dX2_isPlayed_187 rfl rfl ?_
                refine r_iload_n X 0 dX2_isPlayed_188 rfl rfl ?_
                refine r_iconst (v := 1) X dX2_isPlayed_189 rfl ?_
                refine r_ci X (r_okVL (As := [.int y2, .int 1]) (rest := []) X (m_X2_answer (xl x) G X.2.2.2.2.1 hph y2 1 s _ h) (cl_X2_357 X ⟨(Nat.le_of_ble_eq_true rfl), (Nat.le_of_ble_eq_true rfl)⟩) hph 2 ly_182 rfl rfl rfl rfl (Nat.le_of_ble_eq_true rfl) dX2_isPlayed_190 ⟨Nat.le_of_ble_eq_true rfl, Nat.le_of_ble_eq_true rfl⟩) (fun r38 s37 h => ?_)
                have hJ : WB x G 3 (QfI x G 0 0 (fun r u => (r = 0 ∨ r = 1) ∧ Q r u)) 0 0 s37 201 [(2, .int y2), (0, .ref (kB G + 182)), (1, .int p1)] [.int (if r38 < 0 then 0 else 1 : Int32)] := by
                  exact r_zret X (by (repeat' split) <;> first | exact Or.inl rfl | exact Or.inr rfl) h (Nat.le_of_ble_eq_true rfl) (Nat.le_of_ble_eq_true rfl) dX2_isPlayed_201
                refine r_if_lt X 200 dX2_isPlayed_193 (by decide) (fun c39 => ?_) (fun c39 => ?_)
                · rw [if_pos c39] at hJ
                  refine r_iconst (v := 0) X dX2_isPlayed_200 rfl ?_
                  exact hJ
                · rw [if_neg c39] at hJ
                  refine r_iconst (v := 1) X dX2_isPlayed_196 rfl ?_
                  refine r_goto X 201 dX2_isPlayed_197 (by decide) ?_
                  exact hJ
              · replace h := h.2 c36
                by_cases c40 : y5 = 11
                · replace h := h.1 c40
                  refine r_tin X 202 dX2_isPlayed_15 11 c40 (by decide) (by decide) rfl (by decide) ?_
                  refine r_aload_n X 1 dX2_isPlayed_202 rfl rfl ?_
                  refine r_iload_n X 0 dX2_isPlayed_203 rfl rfl ?_
                  refine r_iconst (v := 0) X dX2_isPlayed_204 rfl ?_
                  refine r_ci X (r_okVL (As := [.int y2, .int 0]) (rest := []) X (m_X2_answer (xl x) G X.2.2.2.2.1 hph y2 0 s _ h) (cl_X2_357 X ⟨(Nat.le_of_ble_eq_true rfl), (Nat.le_of_ble_eq_true rfl)⟩) hph 2 ly_182 rfl rfl rfl rfl (Nat.le_of_ble_eq_true rfl) dX2_isPlayed_205 ⟨Nat.le_of_ble_eq_true rfl, Nat.le_of_ble_eq_true rfl⟩) (fun r42 s41 h => ?_)
                  have hJ : WB x G 3 (QfI x G 0 0 (fun r u => (r = 0 ∨ r = 1) ∧ Q r u)) 0 0 s41 216 [(2, .int y2), (0, .ref (kB G + 182)), (1, .int p1)] [.int (if r42 < 0 then 0 else 1 : Int32)] := by
                    exact r_zret X (by (repeat' split) <;> first | exact Or.inl rfl | exact Or.inr rfl) h (Nat.le_of_ble_eq_true rfl) (Nat.le_of_ble_eq_true rfl) dX2_isPlayed_216
                  refine r_if_lt X 215 dX2_isPlayed_208 (by decide) (fun c43 => ?_) (fun c43 => ?_)
                  · rw [if_pos c43] at hJ
                    refine r_iconst (v := 0) X dX2_isPlayed_215 rfl ?_
                    exact hJ
                  · rw [if_neg c43] at hJ
                    refine r_iconst (v := 1) X dX2_isPlayed_211 rfl ?_
                    refine r_goto X 216 dX2_isPlayed_212 (by decide) ?_
                    exact hJ
                · replace h := h.2 c40
                  by_cases c44 : y5 = 12
                  · replace h := h.1 c44
                    refine r_tin X 217 dX2_isPlayed_15 12 c44 (by decide) (by decide) rfl (by decide) ?_
                    refine r_aload_n X 1 dX2_isPlayed_217 rfl rfl ?_
                    refine r_ci X (r_okVL (As := []) (rest := []) X (m_X2_judged (xl x) G X.2.2.2.2.1 hph s _ h) (cl_X2_361 X ⟨(Nat.le_of_ble_eq_true rfl), (Nat.le_of_ble_eq_true rfl)⟩) hph 2 ly_182 rfl rfl rfl rfl (Nat.le_of_ble_eq_true rfl) dX2_isPlayed_218 ⟨Nat.le_of_ble_eq_true rfl, Nat.le_of_ble_eq_true rfl⟩) (fun r46 s45 h => ?_)
                    have hJ : WB x G 3 (QfI x G 0 0 (fun r u => (r = 0 ∨ r = 1) ∧ Q r u)) 0 0 s45 229 [(2, .int y2), (0, .ref (kB G + 182)), (1, .int p1)] [.int (if r46 < 0 then 0 else 1 : Int32)] := by
                      exact r_zret X (by (repeat' split) <;> first | exact Or.inl rfl | exact Or.inr rfl) h (Nat.le_of_ble_eq_true rfl) (Nat.le_of_ble_eq_true rfl) dX2_isPlayed_229
                    refine r_if_lt X 228 dX2_isPlayed_221 (by decide) (fun c47 => ?_) (fun c47 => ?_)
                    · rw [if_pos c47] at hJ
                      refine r_iconst (v := 0) X dX2_isPlayed_228 rfl ?_
                      exact hJ
                    · rw [if_neg c47] at hJ
                      refine r_iconst (v := 1) X dX2_isPlayed_224 rfl ?_
                      refine r_goto X 229 dX2_isPlayed_225 (by decide) ?_
                      exact hJ
                  · replace h := h.2 c44
                    have o0 := lv_neT c7 (show Int32.toInt 4 = 4 from rfl)
                    have o1 := lv_neT c11 (show Int32.toInt 5 = 5 from rfl)
                    have o2 := lv_neT c18 (show Int32.toInt 6 = 6 from rfl)
                    have o3 := lv_neT c22 (show Int32.toInt 7 = 7 from rfl)
                    have o4 := lv_neT c28 (show Int32.toInt 8 = 8 from rfl)
                    have o5 := lv_neT c32 (show Int32.toInt 9 = 9 from rfl)
                    have o6 := lv_neT c36 (show Int32.toInt 10 = 10 from rfl)
                    have o7 := lv_neT c40 (show Int32.toInt 11 = 11 from rfl)
                    have o8 := lv_neT c44 (show Int32.toInt 12 = 12 from rfl)
                    refine r_tout X 230 dX2_isPlayed_15 (by omega) (by decide) ?_
                    refine r_iconst (v := 1) X dX2_isPlayed_230 rfl ?_
                    exact r_zret X (Or.inr rfl) h (Nat.le_of_ble_eq_true rfl) (Nat.le_of_ble_eq_true rfl) dX2_isPlayed_231
theorem m_X2_isPlayed (l : Launch) (G : GT) (g : GK G) (hph : kP G = 1) (p1 : Int32) (s : PS) (Q : Int32 → PS → Prop) (h : w_X2_isPlayed G p1 s Q) : Met l yX2_isPlayed (ws_ yX2_isPlayed cX2_isPlayed 3 (some .boolean)) rm_X2_isPlayed (va_Pc [.ref (kB G + 182), .int p1] (Wr G s)) (va_Qi (fun r u => (r = 0 ∨ r = 1) ∧ Q r u) (fun u t => Wr G u t) (kF G)) 0 0 (kF G) := by
  refine Met.ofW (cc := cX2_isPlayed) (maxL := 3) (ret := (some .boolean)) (by decide) rfl ?_
  intro p e s0 m args below meth c s₁ B hml hv
  obtain ⟨rfl, hw⟩ := hv
  exact wb_of [.ref (kB G + 182), .int p1] (Nat.le_of_ble_eq_true rfl) hw.1 rfl (e_X2_isPlayed (cx_of g B hml rfl hw) hph p1 s Q h)
theorem tl_X2_played_22 {x : CT} {G : GT} (X : Cx x G cX2_played 3 RX2 (some .int) rm_X2_played) (hph : kP G = 1) (Q : Int32 → PS → Prop) (v1 : Int32) : ∀ (n : Nat) (v2 : Int32) (s : PS) (h : l_X2_played_22 G Q v1 n v2 s), WB x G 3 (QfI x G 0 0 Q) 0 0 s 22 [(0, .ref (kB G + 182)), (1, .int v1), (2, .int v2)] [] := by
  intro n
  induction n with
  | zero =>
    intro v2 s h
    exact False.elim h
  | succ n ih =>
    intro v2 s h
    unfold l_X2_played_22 at h
    refine r_iload_n X 2 dX2_played_22 rfl rfl ?_
    refine r_aload_n X 0 dX2_played_23 rfl rfl ?_
    refine gr_X2_16 X hph 13 182 185 ly_182 rfl rfl dX2_played_24 ?_
    refine r_sipush (v := 753) X dX2_played_27 rfl ?_
    refine r_iload_n X 1 dX2_played_30 rfl rfl ?_
    refine r_imul X dX2_played_31 ?_
    obtain ⟨g1, h⟩ := h
    refine r_ialdL X hph 185 3012 ly_185 rfl g1 dX2_played_32 ?_
    refine r_ic_ge X 63 dX2_played_33 (by decide) (fun c2 => ?_) (fun c2 => ?_)
    · replace h := h.1 c2
      refine r_iconst (v := (-1)) X dX2_played_63 rfl ?_
      exact r_iret X h (Nat.le_of_ble_eq_true rfl) (Nat.le_of_ble_eq_true rfl) dX2_played_64
    · replace h := h.2 c2
      refine r_aload_n X 0 dX2_played_36 rfl rfl ?_
      refine r_sipush (v := 753) X dX2_played_37 rfl ?_
      refine r_iload_n X 1 dX2_played_40 rfl rfl ?_
      refine r_imul X dX2_played_41 ?_
      refine r_iconst (v := 1) X dX2_played_42 rfl ?_
      refine r_iadd X dX2_played_43 ?_
      refine r_bipush (v := 6) X dX2_played_44 rfl ?_
      refine r_iload_n X 2 dX2_played_46 rfl rfl ?_
      refine r_imul X dX2_played_47 ?_
      refine r_iadd X dX2_played_48 ?_
      refine r_ci X (r_okVL (As := [.int (((753 * v1) + 1) + (6 * v2))]) (rest := []) X (m_X2_isPlayed (xl x) G X.2.2.2.2.1 hph (((753 * v1) + 1) + (6 * v2)) s _ h) (cl_X2_364 X ⟨(Nat.le_of_ble_eq_true rfl), (Nat.le_of_ble_eq_true rfl)⟩) hph 2 ly_182 rfl rfl rfl rfl (Nat.le_of_ble_eq_true rfl) dX2_played_49 ⟨Nat.le_of_ble_eq_true rfl, Nat.le_of_ble_eq_true rfl⟩) (fun r4 s3 h => ?_)
      obtain ⟨z5, h⟩ := h
      refine r_if_ne X 57 dX2_played_52 (by decide) (fun c6 => ?_) (fun c6 => ?_)
      · replace h := h.2 c6
        refine r_iinc (lv' := [(2, .int (v2 + 1)), (0, .ref (kB G + 182)), (1, .int v1)]) X 2 dX2_played_57 rfl rfl (Nat.le_of_ble_eq_true rfl) rfl ?_
        refine r_goto X 22 dX2_played_60 (by decide) ?_
        refine r_sub [1, 2, 0] rfl ?_
        exact ih (v2 + 1) s3 h
      · replace h := h.1 c6
        refine r_iload_n X 2 dX2_played_55 rfl rfl ?_
        exact r_iret X h (Nat.le_of_ble_eq_true rfl) (Nat.le_of_ble_eq_true rfl) dX2_played_56
theorem e_X2_played {x : CT} {G : GT} (X : Cx x G cX2_played 3 RX2 (some .int) rm_X2_played) (hph : kP G = 1) (p1 : Int32) (s : PS) (Q : Int32 → PS → Prop) (h : w_X2_played G p1 s Q) : WB x G 3 (QfI x G 0 0 Q) 0 0 s 0 [(0, .ref (kB G + 182)), (1, .int p1)] [] := by
  unfold w_X2_played at h
  refine r_iload_n X 1 dX2_played_0 rfl rfl ?_
  refine r_iconst (v := 0) X dX2_played_1 rfl ?_
  refine r_aload_n X 0 dX2_played_2 rfl rfl ?_
  refine gr_X2_7 X hph 13 182 183 ly_182 rfl rfl dX2_played_3 ?_
  refine r_bipush (v := 6) X dX2_played_6 rfl ?_
  refine r_ialdL X hph 183 5544 ly_183 tn_6 il_6_5544 dX2_played_8 ?_
  refine r_iconst (v := 1) X dX2_played_9 rfl ?_
  refine r_isub X dX2_played_10 ?_
  refine r_ci X (r_okS (As := [.int p1, .int 0, .int ((gI s (kB G + 183) 6) - 1)]) (rest := []) X (m_X2_isIn (xl x) G X.2.2.2.2.1 p1 0 ((gI s (kB G + 183) 6) - 1) s _ h) (cl_X2_80 X ⟨(Nat.le_of_ble_eq_true rfl), (Nat.le_of_ble_eq_true rfl)⟩) rfl rfl (Nat.le_of_ble_eq_true rfl) dX2_played_11 ⟨Nat.le_of_ble_eq_true rfl, Nat.le_of_ble_eq_true rfl⟩) (fun r2 s1 h => ?_)
  obtain ⟨z3, h⟩ := h
  refine r_if_ne X 20 dX2_played_14 (by decide) (fun c4 => ?_) (fun c4 => ?_)
  · replace h := h.2 c4
    refine r_iconst (v := 0) X dX2_played_20 rfl ?_
    refine r_istore_n (lv' := [(2, .int 0), (0, .ref (kB G + 182)), (1, .int p1)]) X dX2_played_21 rfl (Nat.le_of_ble_eq_true rfl) rfl ?_
    refine r_sub [1, 2, 0] rfl ?_
    obtain ⟨n5, h⟩ := h
    exact tl_X2_played_22 X hph Q p1 n5 0 s1 h
  · replace h := h.1 c4
    refine r_bipush (v := (-2)) X dX2_played_17 rfl ?_
    exact r_iret X h (Nat.le_of_ble_eq_true rfl) (Nat.le_of_ble_eq_true rfl) dX2_played_19
theorem m_X2_played (l : Launch) (G : GT) (g : GK G) (hph : kP G = 1) (p1 : Int32) (s : PS) (Q : Int32 → PS → Prop) (h : w_X2_played G p1 s Q) : Met l yX2_played (ws_ yX2_played cX2_played 3 (some .int)) rm_X2_played (va_Pc [.ref (kB G + 182), .int p1] (Wr G s)) (va_Qi Q (fun u t => Wr G u t) (kF G)) 0 0 (kF G) := by
  refine Met.ofW (cc := cX2_played) (maxL := 3) (ret := (some .int)) (by decide) rfl ?_
  intro p e s0 m args below meth c s₁ B hml hv
  obtain ⟨rfl, hw⟩ := hv
  exact wb_of [.ref (kB G + 182), .int p1] (Nat.le_of_ble_eq_true rfl) hw.1 rfl (e_X2_played (cx_of g B hml rfl hw) hph p1 s Q h)
theorem e_X2_anew {x : CT} {G : GT} (X : Cx x G cX2_anew 1 RX2 none rm_X2_anew) (hph : kP G = 1) (s : PS) (Q : PS → Prop) (h : w_X2_anew G s Q) : WB x G 1 (QfV x G 0 0 Q) 0 0 s 0 [(0, .ref (kB G + 182))] [] := by
  unfold w_X2_anew at h
  refine r_aload_n X 0 dX2_anew_0 rfl rfl ?_
  refine gr_X2_7 X hph 13 182 183 ly_182 rfl rfl dX2_anew_1 ?_
  refine r_iconst (v := 5) X dX2_anew_4 rfl ?_
  refine r_aload_n X 0 dX2_anew_5 rfl rfl ?_
  refine gr_X2_7 X hph 13 182 183 ly_182 rfl rfl dX2_anew_6 ?_
  refine r_iconst (v := 5) X dX2_anew_9 rfl ?_
  refine r_ialdL X hph 183 5544 ly_183 tn_5 il_5_5544 dX2_anew_10 ?_
  refine r_sipush (v := 223) X dX2_anew_11 rfl ?_
  refine r_imul X dX2_anew_14 ?_
  refine r_bipush (v := 109) X dX2_anew_15 rfl ?_
  refine r_iadd X dX2_anew_17 ?_
  refine r_sipush (v := 30161) X dX2_anew_18 rfl ?_
  refine r_irem X dX2_anew_21 (by decide) ?_
  refine r_iastL X hph 183 5544 ly_183 tn_5 il_5_5544 dX2_anew_22 (fun s1 e2 => ?_)
  replace h := h s1 e2
  exact r_vret X h (Nat.le_of_ble_eq_true rfl) (Nat.le_of_ble_eq_true rfl) dX2_anew_23
theorem m_X2_anew (l : Launch) (G : GT) (g : GK G) (hph : kP G = 1) (s : PS) (Q : PS → Prop) (h : w_X2_anew G s Q) : Met l yX2_anew (ws_ yX2_anew cX2_anew 1 none) rm_X2_anew (va_Pc [.ref (kB G + 182)] (Wr G s)) (va_Qv Q (fun u t => Wr G u t) (kF G)) 0 0 (kF G) := by
  refine Met.ofW (cc := cX2_anew) (maxL := 1) (ret := none) (by decide) rfl ?_
  intro p e s0 m args below meth c s₁ B hml hv
  obtain ⟨rfl, hw⟩ := hv
  exact wb_of [.ref (kB G + 182)] (Nat.le_of_ble_eq_true rfl) hw.1 rfl (e_X2_anew (cx_of g B hml rfl hw) hph s Q h)
theorem tl_X2_layRow_7 {x : CT} {G : GT} (X : Cx x G cX2_layRow 3 RX2 none rm_X2_layRow) (hph : kP G = 1) (Q : PS → Prop) (v1 : Int32) : ∀ (n : Nat) (v2 : Int32) (s : PS) (h : l_X2_layRow_7 G Q v1 n v2 s), WB x G 3 (QfV x G 0 0 Q) 0 0 s 7 [(0, .ref (kB G + 182)), (1, .int v1), (2, .int v2)] [] := by
  intro n
  induction n with
  | zero =>
    intro v2 s h
    exact False.elim h
  | succ n ih =>
    intro v2 s h
    unfold l_X2_layRow_7 at h
    refine r_iload_n X 2 dX2_layRow_7 rfl rfl ?_
    refine r_aload_n X 0 dX2_layRow_8 rfl rfl ?_
    refine gr_X2_7 X hph 13 182 183 ly_182 rfl rfl dX2_layRow_9 ?_
    refine r_iconst (v := 1) X dX2_layRow_12 rfl ?_
    refine r_ialdL X hph 183 5544 ly_183 tn_1 il_1_5544 dX2_layRow_13 ?_
    refine r_ic_ge X 56 dX2_layRow_14 (by decide) (fun c1 => ?_) (fun c1 => ?_)
    · replace h := h.1 c1
      exact r_vret X h (Nat.le_of_ble_eq_true rfl) (Nat.le_of_ble_eq_true rfl) dX2_layRow_56
    · replace h := h.2 c1
      refine r_aload_n X 0 dX2_layRow_17 rfl rfl ?_
      refine r_iload_n X 2 dX2_layRow_18 rfl rfl ?_
      refine r_iconst (v := 0) X dX2_layRow_19 rfl ?_
      refine r_ci X (r_okVL (As := [.int v2, .int 0]) (rest := []) X (m_X2_deedOf (xl x) G X.2.2.2.2.1 hph v2 0 s _ h) (cl_X2_84 X ⟨(Nat.le_of_ble_eq_true rfl), (Nat.le_of_ble_eq_true rfl)⟩) hph 2 ly_182 rfl rfl rfl rfl (Nat.le_of_ble_eq_true rfl) dX2_layRow_20 ⟨Nat.le_of_ble_eq_true rfl, Nat.le_of_ble_eq_true rfl⟩) (fun r3 s2 h => ?_)
      refine r_iload_n X 1 dX2_layRow_23 rfl rfl ?_
      refine r_ic_eq X 30 dX2_layRow_24 (by decide) (fun c4 => ?_) (fun c4 => ?_)
      · replace h := h.1 c4
        refine r_aload_n X 0 dX2_layRow_30 rfl rfl ?_
        refine gr_X2_39 X hph 13 182 190 ly_182 rfl rfl dX2_layRow_31 ?_
        refine r_aload_n X 0 dX2_layRow_34 rfl rfl ?_
        refine gl_X2_367 X hph 182 ly_182 dX2_layRow_35 ?_
        refine r_iload_n X 2 dX2_layRow_38 rfl rfl ?_
        obtain ⟨g5, h⟩ := h
        refine r_iastL X hph 190 24 ly_190 rfl g5 dX2_layRow_39 (fun s6 e7 => ?_)
        replace h := h s6 e7
        refine r_aload_n X 0 dX2_layRow_40 rfl rfl ?_
        refine r_dup X dX2_layRow_41 rfl ?_
        refine gl_X2_367 X hph 182 ly_182 dX2_layRow_42 ?_
        refine r_iconst (v := 1) X dX2_layRow_45 rfl ?_
        refine r_iadd X dX2_layRow_46 ?_
        refine pl_X2_367 X hph 182 ly_182 dX2_layRow_47 (fun s8 e9 => ?_)
        replace h := h s8 e9
        refine r_iinc (lv' := [(2, .int (v2 + 1)), (0, .ref (kB G + 182)), (1, .int v1)]) X 2 dX2_layRow_50 rfl rfl (Nat.le_of_ble_eq_true rfl) rfl ?_
        refine r_goto X 7 dX2_layRow_53 (by decide) ?_
        refine r_sub [1, 2, 0] rfl ?_
        exact ih (v2 + 1) s8 h
      · replace h := h.2 c4
        refine r_goto X 50 dX2_layRow_27 (by decide) ?_
        refine r_iinc (lv' := [(2, .int (v2 + 1)), (0, .ref (kB G + 182)), (1, .int v1)]) X 2 dX2_layRow_50 rfl rfl (Nat.le_of_ble_eq_true rfl) rfl ?_
        refine r_goto X 7 dX2_layRow_53 (by decide) ?_
        refine r_sub [1, 2, 0] rfl ?_
        exact ih (v2 + 1) s2 h
theorem e_X2_layRow {x : CT} {G : GT} (X : Cx x G cX2_layRow 3 RX2 none rm_X2_layRow) (hph : kP G = 1) (p1 : Int32) (s : PS) (Q : PS → Prop) (h : w_X2_layRow G p1 s Q) : WB x G 3 (QfV x G 0 0 Q) 0 0 s 0 [(0, .ref (kB G + 182)), (1, .int p1)] [] := by
  unfold w_X2_layRow at h
  refine r_aload_n X 0 dX2_layRow_0 rfl rfl ?_
  refine r_iconst (v := 0) X dX2_layRow_1 rfl ?_
  refine pl_X2_367 X hph 182 ly_182 dX2_layRow_2 (fun s1 e2 => ?_)
  replace h := h s1 e2
  refine r_iconst (v := 0) X dX2_layRow_5 rfl ?_
  refine r_istore_n (lv' := [(2, .int 0), (0, .ref (kB G + 182)), (1, .int p1)]) X dX2_layRow_6 rfl (Nat.le_of_ble_eq_true rfl) rfl ?_
  refine r_sub [1, 2, 0] rfl ?_
  obtain ⟨n3, h⟩ := h
  exact tl_X2_layRow_7 X hph Q p1 n3 0 s1 h
theorem m_X2_layRow (l : Launch) (G : GT) (g : GK G) (hph : kP G = 1) (p1 : Int32) (s : PS) (Q : PS → Prop) (h : w_X2_layRow G p1 s Q) : Met l yX2_layRow (ws_ yX2_layRow cX2_layRow 3 none) rm_X2_layRow (va_Pc [.ref (kB G + 182), .int p1] (Wr G s)) (va_Qv Q (fun u t => Wr G u t) (kF G)) 0 0 (kF G) := by
  refine Met.ofW (cc := cX2_layRow) (maxL := 3) (ret := none) (by decide) rfl ?_
  intro p e s0 m args below meth c s₁ B hml hv
  obtain ⟨rfl, hw⟩ := hv
  exact wb_of [.ref (kB G + 182), .int p1] (Nat.le_of_ble_eq_true rfl) hw.1 rfl (e_X2_layRow (cx_of g B hml rfl hw) hph p1 s Q h)
theorem tb_X2_oneOfDay_157 {x : CT} {G : GT} (X : Cx x G cX2_oneOfDay 6 RX2 (some .int) rm_X2_oneOfDay) (hph : kP G = 1) (Q : Int32 → PS → Prop) (K102 : Int32 → PS → Prop) (v1 : Int32) (v3 : Int32) (t1 : Int32) (t2 : Int32) (s : PS) (hK102 : ∀ (v3' : Int32) (s' : PS), K102 v3' s' → WB x G 6 (QfI x G 0 0 Q) 0 0 s' 102 [(0, .ref (kB G + 182)), (1, .int v1), (3, .int v3')] []) (h : b_X2_oneOfDay_157 G Q K102 v1 v3 t1 t2 s) : WB x G 6 (QfI x G 0 0 Q) 0 0 s 157 [(0, .ref (kB G + 182)), (1, .int v1), (3, .int v3)] [.int t2, .int t1, .ref (kB G + 182)] := by
  unfold b_X2_oneOfDay_157 at h
  refine r_ci X (r_okVL (As := [.int t1, .int t2]) (rest := []) X (m_X2_answerNow (xl x) G X.2.2.2.2.1 hph t1 t2 s _ h) (cl_X2_331 X ⟨(Nat.le_of_ble_eq_true rfl), (Nat.le_of_ble_eq_true rfl)⟩) hph 2 ly_182 rfl rfl rfl rfl (Nat.le_of_ble_eq_true rfl) dX2_oneOfDay_157 ⟨Nat.le_of_ble_eq_true rfl, Nat.le_of_ble_eq_true rfl⟩) (fun r2 s1 h => ?_)
  obtain ⟨z3, h⟩ := h
  refine r_istore (lv' := [(5, .int r2), (0, .ref (kB G + 182)), (1, .int v1), (3, .int v3)]) X dX2_oneOfDay_160 (Nat.le_of_ble_eq_true rfl) rfl ?_
  refine r_iinc (lv' := [(3, .int (v3 + 1)), (5, .int r2), (0, .ref (kB G + 182)), (1, .int v1)]) X 3 dX2_oneOfDay_162 rfl rfl (Nat.le_of_ble_eq_true rfl) rfl ?_
  refine r_goto X 102 dX2_oneOfDay_165 (by decide) ?_
  refine r_sub [2, 3, 0] rfl ?_
  exact hK102 (v3 + 1) s1 h
theorem tb_X2_oneOfDay_156 {x : CT} {G : GT} (X : Cx x G cX2_oneOfDay 6 RX2 (some .int) rm_X2_oneOfDay) (hph : kP G = 1) (Q : Int32 → PS → Prop) (K102 : Int32 → PS → Prop) (v1 : Int32) (v3 : Int32) (t1 : Int32) (s : PS) (hK102 : ∀ (v3' : Int32) (s' : PS), K102 v3' s' → WB x G 6 (QfI x G 0 0 Q) 0 0 s' 102 [(0, .ref (kB G + 182)), (1, .int v1), (3, .int v3')] []) (h : b_X2_oneOfDay_156 G Q K102 v1 v3 t1 s) : WB x G 6 (QfI x G 0 0 Q) 0 0 s 156 [(0, .ref (kB G + 182)), (1, .int v1), (3, .int v3)] [.int t1, .ref (kB G + 182)] := by
  unfold b_X2_oneOfDay_156 at h
  refine r_iconst (v := 0) X dX2_oneOfDay_156 rfl ?_
  exact tb_X2_oneOfDay_157 X hph Q K102 v1 v3 t1 0 s hK102 h
theorem tl_X2_oneOfDay_102 {x : CT} {G : GT} (X : Cx x G cX2_oneOfDay 6 RX2 (some .int) rm_X2_oneOfDay) (hph : kP G = 1) (Q : Int32 → PS → Prop) (v1 : Int32) : ∀ (n : Nat) (v3 : Int32) (s : PS) (h : l_X2_oneOfDay_102 G Q v1 n v3 s), WB x G 6 (QfI x G 0 0 Q) 0 0 s 102 [(0, .ref (kB G + 182)), (1, .int v1), (3, .int v3)] [] := by
  intro n
  induction n with
  | zero =>
    intro v3 s h
    exact False.elim h
  | succ n ih =>
    intro v3 s h
    unfold l_X2_oneOfDay_102 at h
    refine r_iload_n X 2 dX2_oneOfDay_102 rfl rfl ?_
    refine r_aload_n X 0 dX2_oneOfDay_103 rfl rfl ?_
    refine gr_X2_7 X hph 13 182 183 ly_182 rfl rfl dX2_oneOfDay_104 ?_
    refine r_iconst (v := 2) X dX2_oneOfDay_107 rfl ?_
    refine r_ialdL X hph 183 5544 ly_183 tn_2 il_2_5544 dX2_oneOfDay_108 ?_
    refine r_ic_ge X 168 dX2_oneOfDay_109 (by decide) (fun c1 => ?_) (fun c1 => ?_)
    · replace h := h.1 c1
      refine r_aload_n X 0 dX2_oneOfDay_168 rfl rfl ?_
      refine r_ci X (r_okVL (As := []) (rest := []) X (m_X2_judgeNow (xl x) G X.2.2.2.2.1 hph s _ h) (cl_X2_335 X ⟨(Nat.le_of_ble_eq_true rfl), (Nat.le_of_ble_eq_true rfl)⟩) hph 2 ly_182 rfl rfl rfl rfl (Nat.le_of_ble_eq_true rfl) dX2_oneOfDay_169 ⟨Nat.le_of_ble_eq_true rfl, Nat.le_of_ble_eq_true rfl⟩) (fun r3 s2 h => ?_)
      have hJ : WB x G 6 (QfI x G 0 0 Q) 0 0 s2 180 [(0, .ref (kB G + 182)), (1, .int v1), (3, .int v3)] [.int (if r3 = 0 then 1 else 0 : Int32)] := by
        exact r_iret X h (Nat.le_of_ble_eq_true rfl) (Nat.le_of_ble_eq_true rfl) dX2_oneOfDay_180
      refine r_if_ne X 179 dX2_oneOfDay_172 (by decide) (fun c4 => ?_) (fun c4 => ?_)
      · rw [if_neg c4] at hJ
        refine r_iconst (v := 0) X dX2_oneOfDay_179 rfl ?_
        exact hJ
      · rw [if_pos c4] at hJ
        refine r_iconst (v := 1) X dX2_oneOfDay_175 rfl ?_
        refine r_goto X 180 dX2_oneOfDay_176 (by decide) ?_
        exact hJ
    · replace h := h.2 c1
      refine r_aload_n X 0 dX2_oneOfDay_112 rfl rfl ?_
      refine gr_X2_7 X hph 13 182 183 ly_182 rfl rfl dX2_oneOfDay_113 ?_
      refine r_iconst (v := 5) X dX2_oneOfDay_116 rfl ?_
      refine r_ialdL X hph 183 5544 ly_183 tn_5 il_5_5544 dX2_oneOfDay_117 ?_
      refine r_bipush (v := 10) X dX2_oneOfDay_118 rfl ?_
      refine r_irem X dX2_oneOfDay_120 (by decide) ?_
      refine r_iconst (v := 5) X dX2_oneOfDay_121 rfl ?_
      have hJ : WB x G 6 (QfI x G 0 0 Q) 0 0 s 130 [(0, .ref (kB G + 182)), (1, .int v1), (3, .int v3)] [.int (if 5 ≤ ((gI s (kB G + 183) 5) - (gI s (kB G + 183) 5) / 10 * 10) then 0 else 1 : Int32)] := by
        refine r_nmI (fun y6 e7 => ?_)
        replace h := h y6 e7
        refine r_istore (lv' := [(4, .int y6), (0, .ref (kB G + 182)), (1, .int v1), (3, .int v3)]) X dX2_oneOfDay_130 (Nat.le_of_ble_eq_true rfl) rfl ?_
        refine r_aload_n X 1 dX2_oneOfDay_132 rfl rfl ?_
        refine r_cv X (r_okVL (As := []) (rest := []) X (m_X2_anew (xl x) G X.2.2.2.2.1 hph s _ h) (cl_X2_370 X ⟨(Nat.le_of_ble_eq_true rfl), (Nat.le_of_ble_eq_true rfl)⟩) hph 2 ly_182 rfl rfl rfl rfl (Nat.le_of_ble_eq_true rfl) dX2_oneOfDay_133 ⟨Nat.le_of_ble_eq_true rfl, Nat.le_of_ble_eq_true rfl⟩) (fun s8 h => ?_)
        refine r_aload_n X 1 dX2_oneOfDay_136 rfl rfl ?_
        refine r_iload_n X 3 dX2_oneOfDay_137 rfl rfl ?_
        refine r_iload X 0 dX2_oneOfDay_138 rfl ?_
        refine r_if_ne X 156 dX2_oneOfDay_140 (by decide) (fun c9 => ?_) (fun c9 => ?_)
        · replace h := h.2 c9
          refine r_sub [1, 2, 3] rfl ?_
          exact tb_X2_oneOfDay_156 X hph Q (l_X2_oneOfDay_102 G Q v1 n) v1 v3 v3 s8 ih h
        · replace h := h.1 c9
          refine r_aload_n X 1 dX2_oneOfDay_143 rfl rfl ?_
          refine r_iload_n X 3 dX2_oneOfDay_144 rfl rfl ?_
          refine r_iload_n X 2 dX2_oneOfDay_145 rfl rfl ?_
          refine r_ci X (r_okVL (As := [.int v3, .int v1]) (rest := [.int v3, .ref (kB G + 182)]) X (m_X2_isSoOf (xl x) G X.2.2.2.2.1 hph v3 v1 s8 _ h) (cl_X2_306 X ⟨(Nat.le_of_ble_eq_true rfl), (Nat.le_of_ble_eq_true rfl)⟩) hph 2 ly_182 rfl rfl rfl rfl (Nat.le_of_ble_eq_true rfl) dX2_oneOfDay_146 ⟨Nat.le_of_ble_eq_true rfl, Nat.le_of_ble_eq_true rfl⟩) (fun r11 s10 h => ?_)
          obtain ⟨z12, h⟩ := h
          have hJ : WB x G 6 (QfI x G 0 0 Q) 0 0 s10 157 [(4, .int y6), (0, .ref (kB G + 182)), (1, .int v1), (3, .int v3)] [.int (if r11 = 0 then 0 else 1 : Int32), .int v3, .ref (kB G + 182)] := by
            refine r_ci X (r_okVL (As := [.int v3, .int (if r11 = 0 then 0 else 1 : Int32)]) (rest := []) X (m_X2_answerNow (xl x) G X.2.2.2.2.1 hph v3 (if r11 = 0 then 0 else 1 : Int32) s10 _ h) (cl_X2_331 X ⟨(Nat.le_of_ble_eq_true rfl), (Nat.le_of_ble_eq_true rfl)⟩) hph 2 ly_182 rfl rfl rfl rfl (Nat.le_of_ble_eq_true rfl) dX2_oneOfDay_157 ⟨Nat.le_of_ble_eq_true rfl, Nat.le_of_ble_eq_true rfl⟩) (fun r15 s14 h => ?_)
            obtain ⟨z16, h⟩ := h
            refine r_istore (lv' := [(5, .int r15), (4, .int y6), (0, .ref (kB G + 182)), (1, .int v1), (3, .int v3)]) X dX2_oneOfDay_160 (Nat.le_of_ble_eq_true rfl) rfl ?_
            refine r_iinc (lv' := [(3, .int (v3 + 1)), (5, .int r15), (4, .int y6), (0, .ref (kB G + 182)), (1, .int v1)]) X 4 dX2_oneOfDay_162 rfl rfl (Nat.le_of_ble_eq_true rfl) rfl ?_
            refine r_goto X 102 dX2_oneOfDay_165 (by decide) ?_
            refine r_sub [3, 4, 0] rfl ?_
            exact ih (v3 + 1) s14 h
          refine r_if_eq X 156 dX2_oneOfDay_149 (by decide) (fun c13 => ?_) (fun c13 => ?_)
          · rw [if_pos c13] at hJ
            refine r_iconst (v := 0) X dX2_oneOfDay_156 rfl ?_
            exact hJ
          · rw [if_neg c13] at hJ
            refine r_iconst (v := 1) X dX2_oneOfDay_152 rfl ?_
            refine r_goto X 157 dX2_oneOfDay_153 (by decide) ?_
            exact hJ
      refine r_ic_ge X 129 dX2_oneOfDay_122 (by decide) (fun c5 => ?_) (fun c5 => ?_)
      · rw [if_pos c5] at hJ
        refine r_iconst (v := 0) X dX2_oneOfDay_129 rfl ?_
        exact hJ
      · rw [if_neg c5] at hJ
        refine r_iconst (v := 1) X dX2_oneOfDay_125 rfl ?_
        refine r_goto X 130 dX2_oneOfDay_126 (by decide) ?_
        exact hJ
theorem tl_X2_oneOfDay_63 {x : CT} {G : GT} (X : Cx x G cX2_oneOfDay 6 RX2 (some .int) rm_X2_oneOfDay) (hph : kP G = 1) (Q : Int32 → PS → Prop) (v1 : Int32) (v2 : Int32) : ∀ (n : Nat) (v3 : Int32) (s : PS) (h : l_X2_oneOfDay_63 G Q v1 v2 n v3 s), WB x G 6 (QfI x G 0 0 Q) 0 0 s 63 [(0, .ref (kB G + 182)), (1, .int v1), (2, .int v2), (3, .int v3)] [] := by
  intro n
  induction n with
  | zero =>
    intro v3 s h
    exact False.elim h
  | succ n ih =>
    intro v3 s h
    unfold l_X2_oneOfDay_63 at h
    refine r_iload_n X 3 dX2_oneOfDay_63 rfl rfl ?_
    refine r_aload_n X 0 dX2_oneOfDay_64 rfl rfl ?_
    refine gl_X2_367 X hph 182 ly_182 dX2_oneOfDay_65 ?_
    refine r_ic_ge X 100 dX2_oneOfDay_68 (by decide) (fun c1 => ?_) (fun c1 => ?_)
    · replace h := h.1 c1
      refine r_iconst (v := 0) X dX2_oneOfDay_100 rfl ?_
      refine r_istore_n (lv' := [(3, .int 0), (0, .ref (kB G + 182)), (1, .int v1), (2, .int v2)]) X dX2_oneOfDay_101 rfl (Nat.le_of_ble_eq_true rfl) rfl ?_
      refine r_sub [1, 2, 0] rfl ?_
      obtain ⟨n2, h⟩ := h
      exact tl_X2_oneOfDay_102 X hph Q v1 n2 0 s h
    · replace h := h.2 c1
      refine r_aload_n X 0 dX2_oneOfDay_71 rfl rfl ?_
      refine r_aload_n X 0 dX2_oneOfDay_72 rfl rfl ?_
      refine gr_X2_39 X hph 13 182 190 ly_182 rfl rfl dX2_oneOfDay_73 ?_
      refine r_iload_n X 2 dX2_oneOfDay_76 rfl rfl ?_
      refine r_iload_n X 3 dX2_oneOfDay_77 rfl rfl ?_
      refine r_iadd X dX2_oneOfDay_78 ?_
      refine r_aload_n X 0 dX2_oneOfDay_79 rfl rfl ?_
      refine gl_X2_367 X hph 182 ly_182 dX2_oneOfDay_80 ?_
      obtain ⟨g3, h⟩ := h
      refine r_irem X dX2_oneOfDay_83 g3 ?_
      obtain ⟨g4, h⟩ := h
      refine r_ialdL X hph 190 24 ly_190 rfl g4 dX2_oneOfDay_84 ?_
      refine r_aload_n X 0 dX2_oneOfDay_85 rfl rfl ?_
      refine gr_X2_7 X hph 13 182 183 ly_182 rfl rfl dX2_oneOfDay_86 ?_
      refine r_iconst (v := 3) X dX2_oneOfDay_89 rfl ?_
      refine r_ialdL X hph 183 5544 ly_183 tn_3 il_3_5544 dX2_oneOfDay_90 ?_
      refine r_cv X (r_okVL (As := [.int (gI s (kB G + 190) ((v2 + v3) - (v2 + v3) / (gI s (kB G + 182) 23) * (gI s (kB G + 182) 23)).toNatClampNeg), .int (gI s (kB G + 183) 3)]) (rest := []) X (m_X2_layNow (xl x) G X.2.2.2.2.1 hph (gI s (kB G + 190) ((v2 + v3) - (v2 + v3) / (gI s (kB G + 182) 23) * (gI s (kB G + 182) 23)).toNatClampNeg) (gI s (kB G + 183) 3) s _ h) (cl_X2_325 X ⟨(Nat.le_of_ble_eq_true rfl), (Nat.le_of_ble_eq_true rfl)⟩) hph 2 ly_182 rfl rfl rfl rfl (Nat.le_of_ble_eq_true rfl) dX2_oneOfDay_91 ⟨Nat.le_of_ble_eq_true rfl, Nat.le_of_ble_eq_true rfl⟩) (fun s5 h => ?_)
      refine r_iinc (lv' := [(3, .int (v3 + 1)), (0, .ref (kB G + 182)), (1, .int v1), (2, .int v2)]) X 3 dX2_oneOfDay_94 rfl rfl (Nat.le_of_ble_eq_true rfl) rfl ?_
      refine r_goto X 63 dX2_oneOfDay_97 (by decide) ?_
      refine r_sub [1, 2, 3, 0] rfl ?_
      exact ih (v3 + 1) s5 h
theorem tb_X2_oneOfDay_56 {x : CT} {G : GT} (X : Cx x G cX2_oneOfDay 6 RX2 (some .int) rm_X2_oneOfDay) (hph : kP G = 1) (Q : Int32 → PS → Prop) (v1 : Int32) (t0 : Int32) (s : PS) (h : b_X2_oneOfDay_56 G Q v1 t0 s) : WB x G 6 (QfI x G 0 0 Q) 0 0 s 56 [(0, .ref (kB G + 182)), (1, .int v1)] [.int t0] := by
  unfold b_X2_oneOfDay_56 at h
  refine r_istore_n (lv' := [(2, .int t0), (0, .ref (kB G + 182)), (1, .int v1)]) X dX2_oneOfDay_56 rfl (Nat.le_of_ble_eq_true rfl) rfl ?_
  refine r_aload_n X 1 dX2_oneOfDay_57 rfl rfl ?_
  refine r_cv X (r_okVL (As := []) (rest := []) X (m_X2_anew (xl x) G X.2.2.2.2.1 hph s _ h) (cl_X2_370 X ⟨(Nat.le_of_ble_eq_true rfl), (Nat.le_of_ble_eq_true rfl)⟩) hph 2 ly_182 rfl rfl rfl rfl (Nat.le_of_ble_eq_true rfl) dX2_oneOfDay_58 ⟨Nat.le_of_ble_eq_true rfl, Nat.le_of_ble_eq_true rfl⟩) (fun s1 h => ?_)
  refine r_iconst (v := 0) X dX2_oneOfDay_61 rfl ?_
  refine r_istore_n (lv' := [(3, .int 0), (2, .int t0), (0, .ref (kB G + 182)), (1, .int v1)]) X dX2_oneOfDay_62 rfl (Nat.le_of_ble_eq_true rfl) rfl ?_
  refine r_sub [2, 3, 1, 0] rfl ?_
  obtain ⟨n2, h⟩ := h
  exact tl_X2_oneOfDay_63 X hph Q v1 t0 n2 0 s1 h
theorem e_X2_oneOfDay {x : CT} {G : GT} (X : Cx x G cX2_oneOfDay 6 RX2 (some .int) rm_X2_oneOfDay) (hph : kP G = 1) (s : PS) (Q : Int32 → PS → Prop) (h : w_X2_oneOfDay G s Q) : WB x G 6 (QfI x G 0 0 Q) 0 0 s 0 [(0, .ref (kB G + 182))] [] := by
  unfold w_X2_oneOfDay at h
  refine r_aload_n X 0 dX2_oneOfDay_0 rfl rfl ?_
  refine gr_X2_7 X hph 13 182 183 ly_182 rfl rfl dX2_oneOfDay_1 ?_
  refine r_iconst (v := 5) X dX2_oneOfDay_4 rfl ?_
  refine r_ialdL X hph 183 5544 ly_183 tn_5 il_5_5544 dX2_oneOfDay_5 ?_
  refine r_aload_n X 0 dX2_oneOfDay_6 rfl rfl ?_
  refine gr_X2_7 X hph 13 182 183 ly_182 rfl rfl dX2_oneOfDay_7 ?_
  refine r_iconst (v := 0) X dX2_oneOfDay_10 rfl ?_
  refine r_ialdL X hph 183 5544 ly_183 tn_0 il_0_5544 dX2_oneOfDay_11 ?_
  obtain ⟨g1, h⟩ := h
  refine r_irem X dX2_oneOfDay_12 g1 ?_
  refine r_nmI (fun y2 e3 => ?_)
  replace h := h y2 e3
  refine r_istore_n (lv' := [(1, .int y2), (0, .ref (kB G + 182))]) X dX2_oneOfDay_13 rfl (Nat.le_of_ble_eq_true rfl) rfl ?_
  refine r_aload_n X 1 dX2_oneOfDay_14 rfl rfl ?_
  refine r_cv X (r_okVL (As := []) (rest := []) X (m_X2_anew (xl x) G X.2.2.2.2.1 hph s _ h) (cl_X2_370 X ⟨(Nat.le_of_ble_eq_true rfl), (Nat.le_of_ble_eq_true rfl)⟩) hph 2 ly_182 rfl rfl rfl rfl (Nat.le_of_ble_eq_true rfl) dX2_oneOfDay_15 ⟨Nat.le_of_ble_eq_true rfl, Nat.le_of_ble_eq_true rfl⟩) (fun s4 h => ?_)
  refine r_aload_n X 1 dX2_oneOfDay_18 rfl rfl ?_
  refine r_iload_n X 0 dX2_oneOfDay_19 rfl rfl ?_
  refine r_aload_n X 1 dX2_oneOfDay_20 rfl rfl ?_
  refine gr_X2_7 X hph 13 182 183 ly_182 rfl rfl dX2_oneOfDay_21 ?_
  refine r_iconst (v := 3) X dX2_oneOfDay_24 rfl ?_
  refine r_ialdL X hph 183 5544 ly_183 tn_3 il_3_5544 dX2_oneOfDay_25 ?_
  refine r_cv X (r_okVL (As := [.int y2, .int (gI s4 (kB G + 183) 3)]) (rest := []) X (m_X2_weighNow (xl x) G X.2.2.2.2.1 hph y2 (gI s4 (kB G + 183) 3) s4 _ h) (cl_X2_322 X ⟨(Nat.le_of_ble_eq_true rfl), (Nat.le_of_ble_eq_true rfl)⟩) hph 2 ly_182 rfl rfl rfl rfl (Nat.le_of_ble_eq_true rfl) dX2_oneOfDay_26 ⟨Nat.le_of_ble_eq_true rfl, Nat.le_of_ble_eq_true rfl⟩) (fun s5 h => ?_)
  refine r_aload_n X 1 dX2_oneOfDay_29 rfl rfl ?_
  refine r_iload_n X 0 dX2_oneOfDay_30 rfl rfl ?_
  refine r_cv X (r_okVL (As := [.int y2]) (rest := []) X (m_X2_layRow (xl x) G X.2.2.2.2.1 hph y2 s5 _ h) (cl_X2_373 X ⟨(Nat.le_of_ble_eq_true rfl), (Nat.le_of_ble_eq_true rfl)⟩) hph 2 ly_182 rfl rfl rfl rfl (Nat.le_of_ble_eq_true rfl) dX2_oneOfDay_31 ⟨Nat.le_of_ble_eq_true rfl, Nat.le_of_ble_eq_true rfl⟩) (fun s6 h => ?_)
  refine r_aload_n X 1 dX2_oneOfDay_34 rfl rfl ?_
  refine gl_X2_367 X hph 182 ly_182 dX2_oneOfDay_35 ?_
  refine r_if_ne X 45 dX2_oneOfDay_38 (by decide) (fun c7 => ?_) (fun c7 => ?_)
  · replace h := h.2 c7
    refine r_aload_n X 1 dX2_oneOfDay_45 rfl rfl ?_
    refine gr_X2_7 X hph 13 182 183 ly_182 rfl rfl dX2_oneOfDay_46 ?_
    refine r_iconst (v := 5) X dX2_oneOfDay_49 rfl ?_
    refine r_ialdL X hph 183 5544 ly_183 tn_5 il_5_5544 dX2_oneOfDay_50 ?_
    refine r_aload_n X 1 dX2_oneOfDay_51 rfl rfl ?_
    refine gl_X2_367 X hph 182 ly_182 dX2_oneOfDay_52 ?_
    obtain ⟨g8, h⟩ := h
    refine r_irem X dX2_oneOfDay_55 g8 ?_
    refine r_sub [1, 0] rfl ?_
    exact tb_X2_oneOfDay_56 X hph Q y2 ((gI s6 (kB G + 183) 5) - (gI s6 (kB G + 183) 5) / (gI s6 (kB G + 182) 23) * (gI s6 (kB G + 182) 23)) s6 h
  · replace h := h.1 c7
    refine r_iconst (v := 0) X dX2_oneOfDay_41 rfl ?_
    refine r_goto X 56 dX2_oneOfDay_42 (by decide) ?_
    refine r_sub [1, 0] rfl ?_
    exact tb_X2_oneOfDay_56 X hph Q y2 0 s6 h
theorem m_X2_oneOfDay (l : Launch) (G : GT) (g : GK G) (hph : kP G = 1) (s : PS) (Q : Int32 → PS → Prop) (h : w_X2_oneOfDay G s Q) : Met l yX2_oneOfDay (ws_ yX2_oneOfDay cX2_oneOfDay 6 (some .int)) rm_X2_oneOfDay (va_Pc [.ref (kB G + 182)] (Wr G s)) (va_Qi Q (fun u t => Wr G u t) (kF G)) 0 0 (kF G) := by
  refine Met.ofW (cc := cX2_oneOfDay) (maxL := 6) (ret := (some .int)) (by decide) rfl ?_
  intro p e s0 m args below meth c s₁ B hml hv
  obtain ⟨rfl, hw⟩ := hv
  exact wb_of [.ref (kB G + 182)] (Nat.le_of_ble_eq_true rfl) hw.1 rfl (e_X2_oneOfDay (cx_of g B hml rfl hw) hph s Q h)
theorem tl_X2_day_53 {x : CT} {G : GT} (X : Cx x G cX2_day 5 RX2 (some .int) rm_X2_day) (hph : kP G = 1) (Q : Int32 → PS → Prop) (v2 : Int32) : ∀ (n : Nat) (v3 : Int32) (v4 : Int32) (s : PS) (h : l_X2_day_53 G Q v2 n v3 v4 s), WB x G 5 (QfI x G 0 0 Q) 0 0 s 53 [(0, .ref (kB G + 182)), (2, .int v2), (3, .int v3), (4, .int v4)] [] := by
  intro n
  induction n with
  | zero =>
    intro v3 v4 s h
    exact False.elim h
  | succ n ih =>
    intro v3 v4 s h
    unfold l_X2_day_53 at h
    refine r_iload X 3 dX2_day_53 rfl ?_
    refine r_iload_n X 1 dX2_day_55 rfl rfl ?_
    refine r_ic_ge X 72 dX2_day_56 (by decide) (fun c1 => ?_) (fun c1 => ?_)
    · replace h := h.1 c1
      refine r_iload_n X 2 dX2_day_72 rfl rfl ?_
      exact r_iret X h (Nat.le_of_ble_eq_true rfl) (Nat.le_of_ble_eq_true rfl) dX2_day_73
    · replace h := h.2 c1
      refine r_iload_n X 2 dX2_day_59 rfl rfl ?_
      refine r_aload_n X 0 dX2_day_60 rfl rfl ?_
      refine r_ci X (r_okVL (As := []) (rest := [.int v3]) X (m_X2_oneOfDay (xl x) G X.2.2.2.2.1 hph s _ h) (cl_X2_376 X ⟨(Nat.le_of_ble_eq_true rfl), (Nat.le_of_ble_eq_true rfl)⟩) hph 2 ly_182 rfl rfl rfl rfl (Nat.le_of_ble_eq_true rfl) dX2_day_61 ⟨Nat.le_of_ble_eq_true rfl, Nat.le_of_ble_eq_true rfl⟩) (fun r3 s2 h => ?_)
      refine r_iadd X dX2_day_64 ?_
      refine r_nmI (fun y4 e5 => ?_)
      replace h := h y4 e5
      refine r_istore_n (lv' := [(3, .int y4), (0, .ref (kB G + 182)), (2, .int v2), (4, .int v4)]) X dX2_day_65 rfl (Nat.le_of_ble_eq_true rfl) rfl ?_
      refine r_iinc (lv' := [(4, .int (v4 + 1)), (3, .int y4), (0, .ref (kB G + 182)), (2, .int v2)]) X 3 dX2_day_66 rfl rfl (Nat.le_of_ble_eq_true rfl) rfl ?_
      refine r_goto X 53 dX2_day_69 (by decide) ?_
      refine r_sub [2, 3, 1, 0] rfl ?_
      exact ih y4 (v4 + 1) s2 h
theorem e_X2_day {x : CT} {G : GT} (X : Cx x G cX2_day 5 RX2 (some .int) rm_X2_day) (hph : kP G = 1) (p1 : Int32) (p2 : Int32) (s : PS) (Q : Int32 → PS → Prop) (h : w_X2_day G p1 p2 s Q) : WB x G 5 (QfI x G 0 0 Q) 0 0 s 0 [(0, .ref (kB G + 182)), (1, .int p1), (2, .int p2)] [] := by
  unfold w_X2_day at h
  refine r_iload_n X 1 dX2_day_0 rfl rfl ?_
  refine r_iconst (v := 0) X dX2_day_1 rfl ?_
  refine r_sipush (v := 9999) X dX2_day_2 rfl ?_
  refine r_ci X (r_okS (As := [.int p1, .int 0, .int 9999]) (rest := []) X (m_X2_isIn (xl x) G X.2.2.2.2.1 p1 0 9999 s _ h) (cl_X2_80 X ⟨(Nat.le_of_ble_eq_true rfl), (Nat.le_of_ble_eq_true rfl)⟩) rfl rfl (Nat.le_of_ble_eq_true rfl) dX2_day_5 ⟨Nat.le_of_ble_eq_true rfl, Nat.le_of_ble_eq_true rfl⟩) (fun r2 s1 h => ?_)
  obtain ⟨z3, h⟩ := h
  refine r_if_eq X 30 dX2_day_8 (by decide) (fun c4 => ?_) (fun c4 => ?_)
  · replace h := h.1 c4
    refine r_iconst (v := (-1)) X dX2_day_30 rfl ?_
    exact r_iret X h (Nat.le_of_ble_eq_true rfl) (Nat.le_of_ble_eq_true rfl) dX2_day_31
  · replace h := h.2 c4
    refine r_iload_n X 2 dX2_day_11 rfl rfl ?_
    refine r_iconst (v := 1) X dX2_day_12 rfl ?_
    refine r_bipush (v := 20) X dX2_day_13 rfl ?_
    refine r_ci X (r_okS (As := [.int p2, .int 1, .int 20]) (rest := []) X (m_X2_isIn (xl x) G X.2.2.2.2.1 p2 1 20 s1 _ h) (cl_X2_80 X ⟨(Nat.le_of_ble_eq_true rfl), (Nat.le_of_ble_eq_true rfl)⟩) rfl rfl (Nat.le_of_ble_eq_true rfl) dX2_day_15 ⟨Nat.le_of_ble_eq_true rfl, Nat.le_of_ble_eq_true rfl⟩) (fun r6 s5 h => ?_)
    obtain ⟨z7, h⟩ := h
    refine r_if_eq X 30 dX2_day_18 (by decide) (fun c8 => ?_) (fun c8 => ?_)
    · replace h := h.1 c8
      refine r_iconst (v := (-1)) X dX2_day_30 rfl ?_
      exact r_iret X h (Nat.le_of_ble_eq_true rfl) (Nat.le_of_ble_eq_true rfl) dX2_day_31
    · replace h := h.2 c8
      refine r_aload_n X 0 dX2_day_21 rfl rfl ?_
      refine gr_X2_7 X hph 13 182 183 ly_182 rfl rfl dX2_day_22 ?_
      refine r_iconst (v := 0) X dX2_day_25 rfl ?_
      refine r_ialdL X hph 183 5544 ly_183 tn_0 il_0_5544 dX2_day_26 ?_
      refine r_if_ne X 32 dX2_day_27 (by decide) (fun c9 => ?_) (fun c9 => ?_)
      · replace h := h.2 c9
        refine r_aload_n X 0 dX2_day_32 rfl rfl ?_
        refine r_cv X (r_okVL (As := []) (rest := []) X (m_X2_keep (xl x) G X.2.2.2.2.1 hph s5 _ h) (cl_X2_318 X ⟨(Nat.le_of_ble_eq_true rfl), (Nat.le_of_ble_eq_true rfl)⟩) hph 2 ly_182 rfl rfl rfl rfl (Nat.le_of_ble_eq_true rfl) dX2_day_33 ⟨Nat.le_of_ble_eq_true rfl, Nat.le_of_ble_eq_true rfl⟩) (fun s10 h => ?_)
        refine r_aload_n X 0 dX2_day_36 rfl rfl ?_
        refine gr_X2_7 X hph 13 182 183 ly_182 rfl rfl dX2_day_37 ?_
        refine r_iconst (v := 5) X dX2_day_40 rfl ?_
        refine r_iload_n X 1 dX2_day_41 rfl rfl ?_
        refine r_iconst (v := 2) X dX2_day_42 rfl ?_
        refine r_imul X dX2_day_43 ?_
        refine r_bipush (v := 19) X dX2_day_44 rfl ?_
        refine r_iadd X dX2_day_46 ?_
        refine r_iastL X hph 183 5544 ly_183 tn_5 il_5_5544 dX2_day_47 (fun s11 e12 => ?_)
        replace h := h s11 e12
        refine r_iconst (v := 0) X dX2_day_48 rfl ?_
        refine r_istore_n (lv' := [(3, .int 0), (0, .ref (kB G + 182)), (1, .int p1), (2, .int p2)]) X dX2_day_49 rfl (Nat.le_of_ble_eq_true rfl) rfl ?_
        refine r_iconst (v := 0) X dX2_day_50 rfl ?_
        refine r_istore (lv' := [(4, .int 0), (3, .int 0), (0, .ref (kB G + 182)), (1, .int p1), (2, .int p2)]) X dX2_day_51 (Nat.le_of_ble_eq_true rfl) rfl ?_
        refine r_sub [2, 4, 1, 0] rfl ?_
        obtain ⟨n13, h⟩ := h
        exact tl_X2_day_53 X hph Q p2 n13 0 0 s11 h
      · replace h := h.1 c9
        refine r_iconst (v := (-1)) X dX2_day_30 rfl ?_
        exact r_iret X h (Nat.le_of_ble_eq_true rfl) (Nat.le_of_ble_eq_true rfl) dX2_day_31
theorem m_X2_day (l : Launch) (G : GT) (g : GK G) (hph : kP G = 1) (p1 : Int32) (p2 : Int32) (s : PS) (Q : Int32 → PS → Prop) (h : w_X2_day G p1 p2 s Q) : Met l yX2_day (ws_ yX2_day cX2_day 5 (some .int)) rm_X2_day (va_Pc [.ref (kB G + 182), .int p1, .int p2] (Wr G s)) (va_Qi Q (fun u t => Wr G u t) (kF G)) 0 0 (kF G) := by
  refine Met.ofW (cc := cX2_day) (maxL := 5) (ret := (some .int)) (by decide) rfl ?_
  intro p e s0 m args below meth c s₁ B hml hv
  obtain ⟨rfl, hw⟩ := hv
  exact wb_of [.ref (kB G + 182), .int p1, .int p2] (Nat.le_of_ble_eq_true rfl) hw.1 rfl (e_X2_day (cx_of g B hml rfl hw) hph p1 p2 s Q h)
theorem e_X2_scale {x : CT} {G : GT} (X : Cx x G cX2_scale 2 RX2 (some .int) rm_X2_scale) (hph : kP G = 1) (p1 : Int32) (s : PS) (Q : Int32 → PS → Prop) (h : w_X2_scale G p1 s Q) : WB x G 2 (QfI x G 0 0 Q) 0 0 s 0 [(0, .ref (kB G + 182)), (1, .int p1)] [] := by
  unfold w_X2_scale at h
  refine r_aload_n X 0 dX2_scale_0 rfl rfl ?_
  refine gr_X2_7 X hph 13 182 183 ly_182 rfl rfl dX2_scale_1 ?_
  refine r_sipush (v := 242) X dX2_scale_4 rfl ?_
  refine r_ialdL X hph 183 5544 ly_183 tn_242 il_242_5544 dX2_scale_7 ?_
  refine r_iconst (v := (-1)) X dX2_scale_8 rfl ?_
  refine r_ic_eq X 21 dX2_scale_9 (by decide) (fun c1 => ?_) (fun c1 => ?_)
  · replace h := h.1 c1
    refine r_ldc_w X q1658 dX2_scale_21 ?_
    refine r_goto X 37 dX2_scale_24 (by decide) ?_
    exact r_iret X h (Nat.le_of_ble_eq_true rfl) (Nat.le_of_ble_eq_true rfl) dX2_scale_37
  · replace h := h.2 c1
    refine r_iload_n X 1 dX2_scale_12 rfl rfl ?_
    refine r_iconst (v := 0) X dX2_scale_13 rfl ?_
    refine r_iconst (v := 5) X dX2_scale_14 rfl ?_
    refine r_ci X (r_okS (As := [.int p1, .int 0, .int 5]) (rest := []) X (m_X2_isIn (xl x) G X.2.2.2.2.1 p1 0 5 s _ h) (cl_X2_80 X ⟨(Nat.le_of_ble_eq_true rfl), (Nat.le_of_ble_eq_true rfl)⟩) rfl rfl (Nat.le_of_ble_eq_true rfl) dX2_scale_15 ⟨Nat.le_of_ble_eq_true rfl, Nat.le_of_ble_eq_true rfl⟩) (fun r3 s2 h => ?_)
    obtain ⟨z4, h⟩ := h
    refine r_if_ne X 27 dX2_scale_18 (by decide) (fun c5 => ?_) (fun c5 => ?_)
    · replace h := h.2 c5
      refine r_aload_n X 0 dX2_scale_27 rfl rfl ?_
      refine gr_X2_7 X hph 13 182 183 ly_182 rfl rfl dX2_scale_28 ?_
      refine r_sipush (v := 242) X dX2_scale_31 rfl ?_
      refine r_iload_n X 1 dX2_scale_34 rfl rfl ?_
      refine r_iadd X dX2_scale_35 ?_
      obtain ⟨g6, h⟩ := h
      refine r_ialdL X hph 183 5544 ly_183 rfl g6 dX2_scale_36 ?_
      exact r_iret X h (Nat.le_of_ble_eq_true rfl) (Nat.le_of_ble_eq_true rfl) dX2_scale_37
    · replace h := h.1 c5
      refine r_ldc_w X q1658 dX2_scale_21 ?_
      refine r_goto X 37 dX2_scale_24 (by decide) ?_
      exact r_iret X h (Nat.le_of_ble_eq_true rfl) (Nat.le_of_ble_eq_true rfl) dX2_scale_37
theorem m_X2_scale (l : Launch) (G : GT) (g : GK G) (hph : kP G = 1) (p1 : Int32) (s : PS) (Q : Int32 → PS → Prop) (h : w_X2_scale G p1 s Q) : Met l yX2_scale (ws_ yX2_scale cX2_scale 2 (some .int)) rm_X2_scale (va_Pc [.ref (kB G + 182), .int p1] (Wr G s)) (va_Qi Q (fun u t => Wr G u t) (kF G)) 0 0 (kF G) := by
  refine Met.ofW (cc := cX2_scale) (maxL := 2) (ret := (some .int)) (by decide) rfl ?_
  intro p e s0 m args below meth c s₁ B hml hv
  obtain ⟨rfl, hw⟩ := hv
  exact wb_of [.ref (kB G + 182), .int p1] (Nat.le_of_ble_eq_true rfl) hw.1 rfl (e_X2_scale (cx_of g B hml rfl hw) hph p1 s Q h)
theorem tl_X2_burdenOf_4 {x : CT} {G : GT} (X : Cx x G cX2_burdenOf 4 RX2 (some .int) rm_X2_burdenOf) (hph : kP G = 1) (Q : Int32 → PS → Prop) (v1 : Int32) : ∀ (n : Nat) (v2 : Int32) (v3 : Int32) (s : PS) (h : l_X2_burdenOf_4 G Q v1 n v2 v3 s), WB x G 4 (QfI x G 0 0 Q) 0 0 s 4 [(0, .ref (kB G + 182)), (1, .int v1), (2, .int v2), (3, .int v3)] [] := by
  intro n
  induction n with
  | zero =>
    intro v2 v3 s h
    exact False.elim h
  | succ n ih =>
    intro v2 v3 s h
    unfold l_X2_burdenOf_4 at h
    refine r_iload_n X 3 dX2_burdenOf_4 rfl rfl ?_
    refine r_aload_n X 0 dX2_burdenOf_5 rfl rfl ?_
    refine gr_X2_7 X hph 13 182 183 ly_182 rfl rfl dX2_burdenOf_6 ?_
    refine r_iconst (v := 1) X dX2_burdenOf_9 rfl ?_
    refine r_ialdL X hph 183 5544 ly_183 tn_1 il_1_5544 dX2_burdenOf_10 ?_
    refine r_ic_ge X 42 dX2_burdenOf_11 (by decide) (fun c1 => ?_) (fun c1 => ?_)
    · replace h := h.1 c1
      refine r_iload_n X 2 dX2_burdenOf_42 rfl rfl ?_
      exact r_iret X h (Nat.le_of_ble_eq_true rfl) (Nat.le_of_ble_eq_true rfl) dX2_burdenOf_43
    · replace h := h.2 c1
      refine r_iload_n X 2 dX2_burdenOf_14 rfl rfl ?_
      refine r_aload_n X 0 dX2_burdenOf_15 rfl rfl ?_
      refine r_iload_n X 3 dX2_burdenOf_16 rfl rfl ?_
      refine r_iconst (v := 0) X dX2_burdenOf_17 rfl ?_
      refine r_ci X (r_okVL (As := [.int v3, .int 0]) (rest := [.int v2]) X (m_X2_deedOf (xl x) G X.2.2.2.2.1 hph v3 0 s _ h) (cl_X2_84 X ⟨(Nat.le_of_ble_eq_true rfl), (Nat.le_of_ble_eq_true rfl)⟩) hph 2 ly_182 rfl rfl rfl rfl (Nat.le_of_ble_eq_true rfl) dX2_burdenOf_18 ⟨Nat.le_of_ble_eq_true rfl, Nat.le_of_ble_eq_true rfl⟩) (fun r3 s2 h => ?_)
      refine r_iload_n X 1 dX2_burdenOf_21 rfl rfl ?_
      refine r_ic_ne X 33 dX2_burdenOf_22 (by decide) (fun c4 => ?_) (fun c4 => ?_)
      · replace h := h.2 c4
        refine r_iconst (v := 0) X dX2_burdenOf_33 rfl ?_
        refine r_iadd X dX2_burdenOf_34 ?_
        refine r_nmI (fun y9 e10 => ?_)
        replace h := h y9 e10
        refine r_istore_n (lv' := [(2, .int y9), (0, .ref (kB G + 182)), (1, .int v1), (3, .int v3)]) X dX2_burdenOf_35 rfl (Nat.le_of_ble_eq_true rfl) rfl ?_
        refine r_iinc (lv' := [(3, .int (v3 + 1)), (2, .int y9), (0, .ref (kB G + 182)), (1, .int v1)]) X 3 dX2_burdenOf_36 rfl rfl (Nat.le_of_ble_eq_true rfl) rfl ?_
        refine r_goto X 4 dX2_burdenOf_39 (by decide) ?_
        refine r_sub [2, 3, 1, 0] rfl ?_
        exact ih y9 (v3 + 1) s2 h
      · replace h := h.1 c4
        refine r_aload_n X 0 dX2_burdenOf_25 rfl rfl ?_
        refine r_iload_n X 3 dX2_burdenOf_26 rfl rfl ?_
        refine r_ci X (r_okVL (As := [.int v3]) (rest := [.int v2]) X (m_X2_weightOf (xl x) G X.2.2.2.2.1 hph v3 s2 _ h) (cl_X2_303 X ⟨(Nat.le_of_ble_eq_true rfl), (Nat.le_of_ble_eq_true rfl)⟩) hph 2 ly_182 rfl rfl rfl rfl (Nat.le_of_ble_eq_true rfl) dX2_burdenOf_27 ⟨Nat.le_of_ble_eq_true rfl, Nat.le_of_ble_eq_true rfl⟩) (fun r6 s5 h => ?_)
        refine r_goto X 34 dX2_burdenOf_30 (by decide) ?_
        refine r_iadd X dX2_burdenOf_34 ?_
        refine r_nmI (fun y7 e8 => ?_)
        replace h := h y7 e8
        refine r_istore_n (lv' := [(2, .int y7), (0, .ref (kB G + 182)), (1, .int v1), (3, .int v3)]) X dX2_burdenOf_35 rfl (Nat.le_of_ble_eq_true rfl) rfl ?_
        refine r_iinc (lv' := [(3, .int (v3 + 1)), (2, .int y7), (0, .ref (kB G + 182)), (1, .int v1)]) X 3 dX2_burdenOf_36 rfl rfl (Nat.le_of_ble_eq_true rfl) rfl ?_
        refine r_goto X 4 dX2_burdenOf_39 (by decide) ?_
        refine r_sub [2, 3, 1, 0] rfl ?_
        exact ih y7 (v3 + 1) s5 h
theorem e_X2_burdenOf {x : CT} {G : GT} (X : Cx x G cX2_burdenOf 4 RX2 (some .int) rm_X2_burdenOf) (hph : kP G = 1) (p1 : Int32) (s : PS) (Q : Int32 → PS → Prop) (h : w_X2_burdenOf G p1 s Q) : WB x G 4 (QfI x G 0 0 Q) 0 0 s 0 [(0, .ref (kB G + 182)), (1, .int p1)] [] := by
  unfold w_X2_burdenOf at h
  refine r_iconst (v := 0) X dX2_burdenOf_0 rfl ?_
  refine r_istore_n (lv' := [(2, .int 0), (0, .ref (kB G + 182)), (1, .int p1)]) X dX2_burdenOf_1 rfl (Nat.le_of_ble_eq_true rfl) rfl ?_
  refine r_iconst (v := 0) X dX2_burdenOf_2 rfl ?_
  refine r_istore_n (lv' := [(3, .int 0), (2, .int 0), (0, .ref (kB G + 182)), (1, .int p1)]) X dX2_burdenOf_3 rfl (Nat.le_of_ble_eq_true rfl) rfl ?_
  refine r_sub [2, 3, 1, 0] rfl ?_
  obtain ⟨n1, h⟩ := h
  exact tl_X2_burdenOf_4 X hph Q p1 n1 0 0 s h
theorem m_X2_burdenOf (l : Launch) (G : GT) (g : GK G) (hph : kP G = 1) (p1 : Int32) (s : PS) (Q : Int32 → PS → Prop) (h : w_X2_burdenOf G p1 s Q) : Met l yX2_burdenOf (ws_ yX2_burdenOf cX2_burdenOf 4 (some .int)) rm_X2_burdenOf (va_Pc [.ref (kB G + 182), .int p1] (Wr G s)) (va_Qi Q (fun u t => Wr G u t) (kF G)) 0 0 (kF G) := by
  refine Met.ofW (cc := cX2_burdenOf) (maxL := 4) (ret := (some .int)) (by decide) rfl ?_
  intro p e s0 m args below meth c s₁ B hml hv
  obtain ⟨rfl, hw⟩ := hv
  exact wb_of [.ref (kB G + 182), .int p1] (Nat.le_of_ble_eq_true rfl) hw.1 rfl (e_X2_burdenOf (cx_of g B hml rfl hw) hph p1 s Q h)
theorem e_X2_balanceOf {x : CT} {G : GT} (X : Cx x G cX2_balanceOf 2 RX2 (some .int) rm_X2_balanceOf) (hph : kP G = 1) (p1 : Int32) (s : PS) (Q : Int32 → PS → Prop) (h : w_X2_balanceOf G p1 s Q) : WB x G 2 (QfI x G 0 0 Q) 0 0 s 0 [(0, .ref (kB G + 182)), (1, .int p1)] [] := by
  unfold w_X2_balanceOf at h
  refine r_aload_n X 0 dX2_balanceOf_0 rfl rfl ?_
  refine gr_X2_7 X hph 13 182 183 ly_182 rfl rfl dX2_balanceOf_1 ?_
  refine r_bipush (v := 12) X dX2_balanceOf_4 rfl ?_
  refine r_iload_n X 1 dX2_balanceOf_6 rfl rfl ?_
  refine r_iadd X dX2_balanceOf_7 ?_
  obtain ⟨g1, h⟩ := h
  refine r_ialdL X hph 183 5544 ly_183 rfl g1 dX2_balanceOf_8 ?_
  refine r_aload_n X 0 dX2_balanceOf_9 rfl rfl ?_
  refine r_iload_n X 1 dX2_balanceOf_10 rfl rfl ?_
  refine r_ci X (r_okVL (As := [.int p1]) (rest := [.int (gI s (kB G + 183) (12 + p1).toNatClampNeg)]) X (m_X2_burdenOf (xl x) G X.2.2.2.2.1 hph p1 s _ h) (cl_X2_379 X ⟨(Nat.le_of_ble_eq_true rfl), (Nat.le_of_ble_eq_true rfl)⟩) hph 2 ly_182 rfl rfl rfl rfl (Nat.le_of_ble_eq_true rfl) dX2_balanceOf_11 ⟨Nat.le_of_ble_eq_true rfl, Nat.le_of_ble_eq_true rfl⟩) (fun r3 s2 h => ?_)
  refine r_isub X dX2_balanceOf_14 ?_
  exact r_iret X h (Nat.le_of_ble_eq_true rfl) (Nat.le_of_ble_eq_true rfl) dX2_balanceOf_15
theorem m_X2_balanceOf (l : Launch) (G : GT) (g : GK G) (hph : kP G = 1) (p1 : Int32) (s : PS) (Q : Int32 → PS → Prop) (h : w_X2_balanceOf G p1 s Q) : Met l yX2_balanceOf (ws_ yX2_balanceOf cX2_balanceOf 2 (some .int)) rm_X2_balanceOf (va_Pc [.ref (kB G + 182), .int p1] (Wr G s)) (va_Qi Q (fun u t => Wr G u t) (kF G)) 0 0 (kF G) := by
  refine Met.ofW (cc := cX2_balanceOf) (maxL := 2) (ret := (some .int)) (by decide) rfl ?_
  intro p e s0 m args below meth c s₁ B hml hv
  obtain ⟨rfl, hw⟩ := hv
  exact wb_of [.ref (kB G + 182), .int p1] (Nat.le_of_ble_eq_true rfl) hw.1 rfl (e_X2_balanceOf (cx_of g B hml rfl hw) hph p1 s Q h)
theorem e_X2_ofHeart {x : CT} {G : GT} (X : Cx x G cX2_ofHeart 3 RX2 (some .int) rm_X2_ofHeart) (hph : kP G = 1) (p1 : Int32) (p2 : Int32) (s : PS) (Q : Int32 → PS → Prop) (h : w_X2_ofHeart G p1 p2 s Q) : WB x G 3 (QfI x G 0 0 Q) 0 0 s 0 [(0, .ref (kB G + 182)), (1, .int p1), (2, .int p2)] [] := by
  unfold w_X2_ofHeart at h
  refine r_aload_n X 0 dX2_ofHeart_0 rfl rfl ?_
  refine r_iload_n X 1 dX2_ofHeart_1 rfl rfl ?_
  refine r_ci X (r_okVL (As := [.int p1]) (rest := []) X (m_X2_isHeart (xl x) G X.2.2.2.2.1 hph p1 s _ h) (cl_X2_88 X ⟨(Nat.le_of_ble_eq_true rfl), (Nat.le_of_ble_eq_true rfl)⟩) hph 2 ly_182 rfl rfl rfl rfl (Nat.le_of_ble_eq_true rfl) dX2_ofHeart_2 ⟨Nat.le_of_ble_eq_true rfl, Nat.le_of_ble_eq_true rfl⟩) (fun r2 s1 h => ?_)
  obtain ⟨z3, h⟩ := h
  refine r_if_ne X 12 dX2_ofHeart_5 (by decide) (fun c4 => ?_) (fun c4 => ?_)
  · replace h := h.2 c4
    refine r_iload_n X 2 dX2_ofHeart_12 rfl rfl ?_
    refine r_bipush (v := 10) X dX2_ofHeart_13 rfl ?_
    refine r_bipush (v := 9) X dX2_ofHeart_15 rfl ?_
    refine r_aload_n X 0 dX2_ofHeart_17 rfl rfl ?_
    refine gr_X2_7 X hph 13 182 183 ly_182 rfl rfl dX2_ofHeart_18 ?_
    refine r_iconst (v := 0) X dX2_ofHeart_21 rfl ?_
    refine r_ialdL X hph 183 5544 ly_183 tn_0 il_0_5544 dX2_ofHeart_22 ?_
    refine r_iadd X dX2_ofHeart_23 ?_
    refine r_ci X (r_okS (As := [.int p2, .int 10, .int (9 + (gI s1 (kB G + 183) 0))]) (rest := []) X (m_X2_isIn (xl x) G X.2.2.2.2.1 p2 10 (9 + (gI s1 (kB G + 183) 0)) s1 _ h) (cl_X2_80 X ⟨(Nat.le_of_ble_eq_true rfl), (Nat.le_of_ble_eq_true rfl)⟩) rfl rfl (Nat.le_of_ble_eq_true rfl) dX2_ofHeart_24 ⟨Nat.le_of_ble_eq_true rfl, Nat.le_of_ble_eq_true rfl⟩) (fun r6 s5 h => ?_)
    obtain ⟨z7, h⟩ := h
    refine r_if_eq X 48 dX2_ofHeart_27 (by decide) (fun c8 => ?_) (fun c8 => ?_)
    · replace h := h.1 c8
      refine r_iload_n X 2 dX2_ofHeart_48 rfl rfl ?_
      by_cases c9 : p2 = 0
      · replace h := h.1 c9
        refine r_tin X 84 dX2_ofHeart_49 0 c9 (by decide) (by decide) rfl (by decide) ?_
        refine r_aload_n X 0 dX2_ofHeart_84 rfl rfl ?_
        refine gr_X2_7 X hph 13 182 183 ly_182 rfl rfl dX2_ofHeart_85 ?_
        refine r_bipush (v := 12) X dX2_ofHeart_88 rfl ?_
        refine r_iload_n X 1 dX2_ofHeart_90 rfl rfl ?_
        refine r_iadd X dX2_ofHeart_91 ?_
        obtain ⟨g10, h⟩ := h
        refine r_ialdL X hph 183 5544 ly_183 rfl g10 dX2_ofHeart_92 ?_
        exact r_iret X h (Nat.le_of_ble_eq_true rfl) (Nat.le_of_ble_eq_true rfl) dX2_ofHeart_93
      · replace h := h.2 c9
        by_cases c11 : p2 = 1
        · replace h := h.1 c11
          refine r_tin X 94 dX2_ofHeart_49 1 c11 (by decide) (by decide) rfl (by decide) ?_
          refine r_aload_n X 0 dX2_ofHeart_94 rfl rfl ?_
          refine r_iload_n X 1 dX2_ofHeart_95 rfl rfl ?_
          refine r_ci X (r_okVL (As := [.int p1]) (rest := []) X (m_X2_deedsOf (xl x) G X.2.2.2.2.1 hph p1 s5 _ h) (cl_X2_291 X ⟨(Nat.le_of_ble_eq_true rfl), (Nat.le_of_ble_eq_true rfl)⟩) hph 2 ly_182 rfl rfl rfl rfl (Nat.le_of_ble_eq_true rfl) dX2_ofHeart_96 ⟨Nat.le_of_ble_eq_true rfl, Nat.le_of_ble_eq_true rfl⟩) (fun r13 s12 h => ?_)
          exact r_iret X h (Nat.le_of_ble_eq_true rfl) (Nat.le_of_ble_eq_true rfl) dX2_ofHeart_99
        · replace h := h.2 c11
          by_cases c14 : p2 = 2
          · replace h := h.1 c14
            refine r_tin X 100 dX2_ofHeart_49 2 c14 (by decide) (by decide) rfl (by decide) ?_
            refine r_aload_n X 0 dX2_ofHeart_100 rfl rfl ?_
            refine r_iload_n X 1 dX2_ofHeart_101 rfl rfl ?_
            refine r_ci X (r_okVL (As := [.int p1]) (rest := []) X (m_X2_burdenOf (xl x) G X.2.2.2.2.1 hph p1 s5 _ h) (cl_X2_379 X ⟨(Nat.le_of_ble_eq_true rfl), (Nat.le_of_ble_eq_true rfl)⟩) hph 2 ly_182 rfl rfl rfl rfl (Nat.le_of_ble_eq_true rfl) dX2_ofHeart_102 ⟨Nat.le_of_ble_eq_true rfl, Nat.le_of_ble_eq_true rfl⟩) (fun r16 s15 h => ?_)
            exact r_iret X h (Nat.le_of_ble_eq_true rfl) (Nat.le_of_ble_eq_true rfl) dX2_ofHeart_105
          · replace h := h.2 c14
            by_cases c17 : p2 = 3
            · replace h := h.1 c17
              refine r_tin X 106 dX2_ofHeart_49 3 c17 (by decide) (by decide) rfl (by decide) ?_
              refine r_aload_n X 0 dX2_ofHeart_106 rfl rfl ?_
              refine r_iload_n X 1 dX2_ofHeart_107 rfl rfl ?_
              refine r_ci X (r_okVL (As := [.int p1]) (rest := []) X (m_X2_balanceOf (xl x) G X.2.2.2.2.1 hph p1 s5 _ h) (cl_X2_382 X ⟨(Nat.le_of_ble_eq_true rfl), (Nat.le_of_ble_eq_true rfl)⟩) hph 2 ly_182 rfl rfl rfl rfl (Nat.le_of_ble_eq_true rfl) dX2_ofHeart_108 ⟨Nat.le_of_ble_eq_true rfl, Nat.le_of_ble_eq_true rfl⟩) (fun r19 s18 h => ?_)
              exact r_iret X h (Nat.le_of_ble_eq_true rfl) (Nat.le_of_ble_eq_true rfl) dX2_ofHeart_111
            · replace h := h.2 c17
              by_cases c20 : p2 = 4
              · replace h := h.1 c20
                refine r_tin X 112 dX2_ofHeart_49 4 c20 (by decide) (by decide) rfl (by decide) ?_
                refine r_aload_n X 0 dX2_ofHeart_112 rfl rfl ?_
                refine r_iload_n X 1 dX2_ofHeart_113 rfl rfl ?_
                refine r_ci X (r_okVL (As := [.int p1]) (rest := []) X (m_X2_lentOf (xl x) G X.2.2.2.2.1 hph p1 s5 _ h) (cl_X2_297 X ⟨(Nat.le_of_ble_eq_true rfl), (Nat.le_of_ble_eq_true rfl)⟩) hph 2 ly_182 rfl rfl rfl rfl (Nat.le_of_ble_eq_true rfl) dX2_ofHeart_114 ⟨Nat.le_of_ble_eq_true rfl, Nat.le_of_ble_eq_true rfl⟩) (fun r22 s21 h => ?_)
                exact r_iret X h (Nat.le_of_ble_eq_true rfl) (Nat.le_of_ble_eq_true rfl) dX2_ofHeart_117
              · replace h := h.2 c20
                have o0 := lv_neT c9 (show Int32.toInt 0 = 0 from rfl)
                have o1 := lv_neT c11 (show Int32.toInt 1 = 1 from rfl)
                have o2 := lv_neT c14 (show Int32.toInt 2 = 2 from rfl)
                have o3 := lv_neT c17 (show Int32.toInt 3 = 3 from rfl)
                have o4 := lv_neT c20 (show Int32.toInt 4 = 4 from rfl)
                refine r_tout X 118 dX2_ofHeart_49 (by omega) (by decide) ?_
                refine r_ldc_w X q1658 dX2_ofHeart_118 ?_
                exact r_iret X h (Nat.le_of_ble_eq_true rfl) (Nat.le_of_ble_eq_true rfl) dX2_ofHeart_121
    · replace h := h.2 c8
      refine r_aload_n X 0 dX2_ofHeart_30 rfl rfl ?_
      refine gr_X2_7 X hph 13 182 183 ly_182 rfl rfl dX2_ofHeart_31 ?_
      refine r_bipush (v := 18) X dX2_ofHeart_34 rfl ?_
      refine r_bipush (v := 6) X dX2_ofHeart_36 rfl ?_
      refine r_iload_n X 1 dX2_ofHeart_38 rfl rfl ?_
      refine r_imul X dX2_ofHeart_39 ?_
      refine r_iadd X dX2_ofHeart_40 ?_
      refine r_iload_n X 2 dX2_ofHeart_41 rfl rfl ?_
      refine r_iadd X dX2_ofHeart_42 ?_
      refine r_bipush (v := 10) X dX2_ofHeart_43 rfl ?_
      refine r_isub X dX2_ofHeart_45 ?_
      obtain ⟨g23, h⟩ := h
      refine r_ialdL X hph 183 5544 ly_183 rfl g23 dX2_ofHeart_46 ?_
      exact r_iret X h (Nat.le_of_ble_eq_true rfl) (Nat.le_of_ble_eq_true rfl) dX2_ofHeart_47
  · replace h := h.1 c4
    refine r_ldc_w X q1658 dX2_ofHeart_8 ?_
    exact r_iret X h (Nat.le_of_ble_eq_true rfl) (Nat.le_of_ble_eq_true rfl) dX2_ofHeart_11
theorem m_X2_ofHeart (l : Launch) (G : GT) (g : GK G) (hph : kP G = 1) (p1 : Int32) (p2 : Int32) (s : PS) (Q : Int32 → PS → Prop) (h : w_X2_ofHeart G p1 p2 s Q) : Met l yX2_ofHeart (ws_ yX2_ofHeart cX2_ofHeart 3 (some .int)) rm_X2_ofHeart (va_Pc [.ref (kB G + 182), .int p1, .int p2] (Wr G s)) (va_Qi Q (fun u t => Wr G u t) (kF G)) 0 0 (kF G) := by
  refine Met.ofW (cc := cX2_ofHeart) (maxL := 3) (ret := (some .int)) (by decide) rfl ?_
  intro p e s0 m args below meth c s₁ B hml hv
  obtain ⟨rfl, hw⟩ := hv
  exact wb_of [.ref (kB G + 182), .int p1, .int p2] (Nat.le_of_ble_eq_true rfl) hw.1 rfl (e_X2_ofHeart (cx_of g B hml rfl hw) hph p1 p2 s Q h)
theorem e_X2_ofDeed {x : CT} {G : GT} (X : Cx x G cX2_ofDeed 3 RX2 (some .int) rm_X2_ofDeed) (hph : kP G = 1) (p1 : Int32) (p2 : Int32) (s : PS) (Q : Int32 → PS → Prop) (h : w_X2_ofDeed G p1 p2 s Q) : WB x G 3 (QfI x G 0 0 Q) 0 0 s 0 [(0, .ref (kB G + 182)), (1, .int p1), (2, .int p2)] [] := by
  unfold w_X2_ofDeed at h
  refine r_aload_n X 0 dX2_ofDeed_0 rfl rfl ?_
  refine r_iload_n X 1 dX2_ofDeed_1 rfl rfl ?_
  refine r_ci X (r_okVL (As := [.int p1]) (rest := []) X (m_X2_isDeed (xl x) G X.2.2.2.2.1 hph p1 s _ h) (cl_X2_92 X ⟨(Nat.le_of_ble_eq_true rfl), (Nat.le_of_ble_eq_true rfl)⟩) hph 2 ly_182 rfl rfl rfl rfl (Nat.le_of_ble_eq_true rfl) dX2_ofDeed_2 ⟨Nat.le_of_ble_eq_true rfl, Nat.le_of_ble_eq_true rfl⟩) (fun r2 s1 h => ?_)
  obtain ⟨z3, h⟩ := h
  refine r_if_eq X 18 dX2_ofDeed_5 (by decide) (fun c4 => ?_) (fun c4 => ?_)
  · replace h := h.1 c4
    refine r_ldc_w X q1658 dX2_ofDeed_18 ?_
    exact r_iret X h (Nat.le_of_ble_eq_true rfl) (Nat.le_of_ble_eq_true rfl) dX2_ofDeed_21
  · replace h := h.2 c4
    refine r_iload_n X 2 dX2_ofDeed_8 rfl rfl ?_
    refine r_iconst (v := 0) X dX2_ofDeed_9 rfl ?_
    refine r_bipush (v := 6) X dX2_ofDeed_10 rfl ?_
    refine r_ci X (r_okS (As := [.int p2, .int 0, .int 6]) (rest := []) X (m_X2_isIn (xl x) G X.2.2.2.2.1 p2 0 6 s1 _ h) (cl_X2_80 X ⟨(Nat.le_of_ble_eq_true rfl), (Nat.le_of_ble_eq_true rfl)⟩) rfl rfl (Nat.le_of_ble_eq_true rfl) dX2_ofDeed_12 ⟨Nat.le_of_ble_eq_true rfl, Nat.le_of_ble_eq_true rfl⟩) (fun r6 s5 h => ?_)
    obtain ⟨z7, h⟩ := h
    refine r_if_ne X 22 dX2_ofDeed_15 (by decide) (fun c8 => ?_) (fun c8 => ?_)
    · replace h := h.2 c8
      refine r_iload_n X 2 dX2_ofDeed_22 rfl rfl ?_
      refine r_bipush (v := 6) X dX2_ofDeed_23 rfl ?_
      refine r_ic_ne X 36 dX2_ofDeed_25 (by decide) (fun c9 => ?_) (fun c9 => ?_)
      · replace h := h.2 c9
        refine r_aload_n X 0 dX2_ofDeed_36 rfl rfl ?_
        refine r_iload_n X 1 dX2_ofDeed_37 rfl rfl ?_
        refine r_iload_n X 2 dX2_ofDeed_38 rfl rfl ?_
        refine r_ci X (r_okVL (As := [.int p1, .int p2]) (rest := []) X (m_X2_deedOf (xl x) G X.2.2.2.2.1 hph p1 p2 s5 _ h) (cl_X2_84 X ⟨(Nat.le_of_ble_eq_true rfl), (Nat.le_of_ble_eq_true rfl)⟩) hph 2 ly_182 rfl rfl rfl rfl (Nat.le_of_ble_eq_true rfl) dX2_ofDeed_39 ⟨Nat.le_of_ble_eq_true rfl, Nat.le_of_ble_eq_true rfl⟩) (fun r13 s12 h => ?_)
        exact r_iret X h (Nat.le_of_ble_eq_true rfl) (Nat.le_of_ble_eq_true rfl) dX2_ofDeed_42
      · replace h := h.1 c9
        refine r_aload_n X 0 dX2_ofDeed_28 rfl rfl ?_
        refine r_iload_n X 1 dX2_ofDeed_29 rfl rfl ?_
        refine r_ci X (r_okVL (As := [.int p1]) (rest := []) X (m_X2_weightOf (xl x) G X.2.2.2.2.1 hph p1 s5 _ h) (cl_X2_303 X ⟨(Nat.le_of_ble_eq_true rfl), (Nat.le_of_ble_eq_true rfl)⟩) hph 2 ly_182 rfl rfl rfl rfl (Nat.le_of_ble_eq_true rfl) dX2_ofDeed_30 ⟨Nat.le_of_ble_eq_true rfl, Nat.le_of_ble_eq_true rfl⟩) (fun r11 s10 h => ?_)
        refine r_goto X 42 dX2_ofDeed_33 (by decide) ?_
        exact r_iret X h (Nat.le_of_ble_eq_true rfl) (Nat.le_of_ble_eq_true rfl) dX2_ofDeed_42
    · replace h := h.1 c8
      refine r_ldc_w X q1658 dX2_ofDeed_18 ?_
      exact r_iret X h (Nat.le_of_ble_eq_true rfl) (Nat.le_of_ble_eq_true rfl) dX2_ofDeed_21
theorem m_X2_ofDeed (l : Launch) (G : GT) (g : GK G) (hph : kP G = 1) (p1 : Int32) (p2 : Int32) (s : PS) (Q : Int32 → PS → Prop) (h : w_X2_ofDeed G p1 p2 s Q) : Met l yX2_ofDeed (ws_ yX2_ofDeed cX2_ofDeed 3 (some .int)) rm_X2_ofDeed (va_Pc [.ref (kB G + 182), .int p1, .int p2] (Wr G s)) (va_Qi Q (fun u t => Wr G u t) (kF G)) 0 0 (kF G) := by
  refine Met.ofW (cc := cX2_ofDeed) (maxL := 3) (ret := (some .int)) (by decide) rfl ?_
  intro p e s0 m args below meth c s₁ B hml hv
  obtain ⟨rfl, hw⟩ := hv
  exact wb_of [.ref (kB G + 182), .int p1, .int p2] (Nat.le_of_ble_eq_true rfl) hw.1 rfl (e_X2_ofDeed (cx_of g B hml rfl hw) hph p1 p2 s Q h)
theorem e_X2_isSo {x : CT} {G : GT} (X : Cx x G cX2_isSo 3 RX2 (some .int) rm_X2_isSo) (hph : kP G = 1) (p1 : Int32) (p2 : Int32) (s : PS) (Q : Int32 → PS → Prop) (h : w_X2_isSo G p1 p2 s Q) : WB x G 3 (QfI x G 0 0 Q) 0 0 s 0 [(0, .ref (kB G + 182)), (1, .int p1), (2, .int p2)] [] := by
  unfold w_X2_isSo at h
  refine r_aload_n X 0 dX2_isSo_0 rfl rfl ?_
  refine r_iload_n X 1 dX2_isSo_1 rfl rfl ?_
  refine r_ci X (r_okVL (As := [.int p1]) (rest := []) X (m_X2_isJudge (xl x) G X.2.2.2.2.1 hph p1 s _ h) (cl_X2_328 X ⟨(Nat.le_of_ble_eq_true rfl), (Nat.le_of_ble_eq_true rfl)⟩) hph 2 ly_182 rfl rfl rfl rfl (Nat.le_of_ble_eq_true rfl) dX2_isSo_2 ⟨Nat.le_of_ble_eq_true rfl, Nat.le_of_ble_eq_true rfl⟩) (fun r2 s1 h => ?_)
  obtain ⟨z3, h⟩ := h
  refine r_if_eq X 33 dX2_isSo_5 (by decide) (fun c4 => ?_) (fun c4 => ?_)
  · replace h := h.1 c4
    refine r_iconst (v := (-1)) X dX2_isSo_33 rfl ?_
    exact r_iret X h (Nat.le_of_ble_eq_true rfl) (Nat.le_of_ble_eq_true rfl) dX2_isSo_34
  · replace h := h.2 c4
    refine r_aload_n X 0 dX2_isSo_8 rfl rfl ?_
    refine r_iload_n X 2 dX2_isSo_9 rfl rfl ?_
    refine r_ci X (r_okVL (As := [.int p2]) (rest := []) X (m_X2_isHeart (xl x) G X.2.2.2.2.1 hph p2 s1 _ h) (cl_X2_88 X ⟨(Nat.le_of_ble_eq_true rfl), (Nat.le_of_ble_eq_true rfl)⟩) hph 2 ly_182 rfl rfl rfl rfl (Nat.le_of_ble_eq_true rfl) dX2_isSo_10 ⟨Nat.le_of_ble_eq_true rfl, Nat.le_of_ble_eq_true rfl⟩) (fun r6 s5 h => ?_)
    obtain ⟨z7, h⟩ := h
    refine r_if_eq X 33 dX2_isSo_13 (by decide) (fun c8 => ?_) (fun c8 => ?_)
    · replace h := h.1 c8
      refine r_iconst (v := (-1)) X dX2_isSo_33 rfl ?_
      exact r_iret X h (Nat.le_of_ble_eq_true rfl) (Nat.le_of_ble_eq_true rfl) dX2_isSo_34
    · replace h := h.2 c8
      refine r_aload_n X 0 dX2_isSo_16 rfl rfl ?_
      refine r_iload_n X 1 dX2_isSo_17 rfl rfl ?_
      refine r_iload_n X 2 dX2_isSo_18 rfl rfl ?_
      refine r_ci X (r_okVL (As := [.int p1, .int p2]) (rest := []) X (m_X2_isSoOf (xl x) G X.2.2.2.2.1 hph p1 p2 s5 _ h) (cl_X2_306 X ⟨(Nat.le_of_ble_eq_true rfl), (Nat.le_of_ble_eq_true rfl)⟩) hph 2 ly_182 rfl rfl rfl rfl (Nat.le_of_ble_eq_true rfl) dX2_isSo_19 ⟨Nat.le_of_ble_eq_true rfl, Nat.le_of_ble_eq_true rfl⟩) (fun r10 s9 h => ?_)
      obtain ⟨z11, h⟩ := h
      have hJ : WB x G 3 (QfI x G 0 0 Q) 0 0 s9 34 [(0, .ref (kB G + 182)), (1, .int p1), (2, .int p2)] [.int (if r10 = 0 then 0 else 1 : Int32)] := by
        exact r_iret X h (Nat.le_of_ble_eq_true rfl) (Nat.le_of_ble_eq_true rfl) dX2_isSo_34
      refine r_if_eq X 29 dX2_isSo_22 (by decide) (fun c12 => ?_) (fun c12 => ?_)
      · rw [if_pos c12] at hJ
        refine r_iconst (v := 0) X dX2_isSo_29 rfl ?_
        refine r_goto X 34 dX2_isSo_30 (by decide) ?_
        exact hJ
      · rw [if_neg c12] at hJ
        refine r_iconst (v := 1) X dX2_isSo_25 rfl ?_
        refine r_goto X 34 dX2_isSo_26 (by decide) ?_
        exact hJ
theorem m_X2_isSo (l : Launch) (G : GT) (g : GK G) (hph : kP G = 1) (p1 : Int32) (p2 : Int32) (s : PS) (Q : Int32 → PS → Prop) (h : w_X2_isSo G p1 p2 s Q) : Met l yX2_isSo (ws_ yX2_isSo cX2_isSo 3 (some .int)) rm_X2_isSo (va_Pc [.ref (kB G + 182), .int p1, .int p2] (Wr G s)) (va_Qi Q (fun u t => Wr G u t) (kF G)) 0 0 (kF G) := by
  refine Met.ofW (cc := cX2_isSo) (maxL := 3) (ret := (some .int)) (by decide) rfl ?_
  intro p e s0 m args below meth c s₁ B hml hv
  obtain ⟨rfl, hw⟩ := hv
  exact wb_of [.ref (kB G + 182), .int p1, .int p2] (Nat.le_of_ble_eq_true rfl) hw.1 rfl (e_X2_isSo (cx_of g B hml rfl hw) hph p1 p2 s Q h)
theorem e_X2_book {x : CT} {G : GT} (X : Cx x G cX2_book 4 RX2 (some .int) rm_X2_book) (hph : kP G = 1) (p1 : Int32) (p2 : Int32) (s : PS) (Q : Int32 → PS → Prop) (h : w_X2_book G p1 p2 s Q) : WB x G 4 (QfI x G 0 0 Q) 0 0 s 0 [(0, .ref (kB G + 182)), (1, .int p1), (2, .int p2)] [] := by
  unfold w_X2_book at h
  refine r_aload_n X 0 dX2_book_0 rfl rfl ?_
  refine gr_X2_7 X hph 13 182 183 ly_182 rfl rfl dX2_book_1 ?_
  refine r_bipush (v := 11) X dX2_book_4 rfl ?_
  refine r_ialdL X hph 183 5544 ly_183 tn_11 il_11_5544 dX2_book_6 ?_
  refine r_bipush (v := 30) X dX2_book_7 rfl ?_
  have hJ : WB x G 4 (QfI x G 0 0 Q) 0 0 s 24 [(0, .ref (kB G + 182)), (1, .int p1), (2, .int p2)] [.int (if 30 ≤ (gI s (kB G + 183) 11) then 30 else (gI s (kB G + 183) 11) : Int32)] := by
    refine r_nmI (fun y2 e3 => ?_)
    replace h := h y2 e3
    refine r_istore_n (lv' := [(3, .int y2), (0, .ref (kB G + 182)), (1, .int p1), (2, .int p2)]) X dX2_book_24 rfl (Nat.le_of_ble_eq_true rfl) rfl ?_
    refine r_iload_n X 2 dX2_book_25 rfl rfl ?_
    refine r_iconst (v := (-1)) X dX2_book_26 rfl ?_
    refine r_ic_ne X 32 dX2_book_27 (by decide) (fun c4 => ?_) (fun c4 => ?_)
    · replace h := h.2 c4
      refine r_iload_n X 2 dX2_book_32 rfl rfl ?_
      refine r_iconst (v := 0) X dX2_book_33 rfl ?_
      refine r_iload_n X 0 dX2_book_34 rfl rfl ?_
      refine r_iconst (v := 1) X dX2_book_35 rfl ?_
      refine r_isub X dX2_book_36 ?_
      refine r_ci X (r_okS (As := [.int p1, .int 0, .int (y2 - 1)]) (rest := []) X (m_X2_isIn (xl x) G X.2.2.2.2.1 p1 0 (y2 - 1) s _ h) (cl_X2_80 X ⟨(Nat.le_of_ble_eq_true rfl), (Nat.le_of_ble_eq_true rfl)⟩) rfl rfl (Nat.le_of_ble_eq_true rfl) dX2_book_37 ⟨Nat.le_of_ble_eq_true rfl, Nat.le_of_ble_eq_true rfl⟩) (fun r6 s5 h => ?_)
      obtain ⟨z7, h⟩ := h
      refine r_if_eq X 52 dX2_book_40 (by decide) (fun c8 => ?_) (fun c8 => ?_)
      · replace h := h.1 c8
        refine r_ldc_w X q1658 dX2_book_52 ?_
        exact r_iret X h (Nat.le_of_ble_eq_true rfl) (Nat.le_of_ble_eq_true rfl) dX2_book_55
      · replace h := h.2 c8
        refine r_iload_n X 3 dX2_book_43 rfl rfl ?_
        refine r_iconst (v := 0) X dX2_book_44 rfl ?_
        refine r_iconst (v := 4) X dX2_book_45 rfl ?_
        refine r_ci X (r_okS (As := [.int p2, .int 0, .int 4]) (rest := []) X (m_X2_isIn (xl x) G X.2.2.2.2.1 p2 0 4 s5 _ h) (cl_X2_80 X ⟨(Nat.le_of_ble_eq_true rfl), (Nat.le_of_ble_eq_true rfl)⟩) rfl rfl (Nat.le_of_ble_eq_true rfl) dX2_book_46 ⟨Nat.le_of_ble_eq_true rfl, Nat.le_of_ble_eq_true rfl⟩) (fun r10 s9 h => ?_)
        obtain ⟨z11, h⟩ := h
        refine r_if_ne X 56 dX2_book_49 (by decide) (fun c12 => ?_) (fun c12 => ?_)
        · replace h := h.2 c12
          refine r_aload_n X 1 dX2_book_56 rfl rfl ?_
          refine gr_X2_7 X hph 13 182 183 ly_182 rfl rfl dX2_book_57 ?_
          refine r_sipush (v := 1704) X dX2_book_60 rfl ?_
          refine r_iconst (v := 5) X dX2_book_63 rfl ?_
          refine r_aload_n X 1 dX2_book_64 rfl rfl ?_
          refine gr_X2_7 X hph 13 182 183 ly_182 rfl rfl dX2_book_65 ?_
          refine r_bipush (v := 11) X dX2_book_68 rfl ?_
          refine r_ialdL X hph 183 5544 ly_183 tn_11 il_11_5544 dX2_book_70 ?_
          refine r_iload_n X 0 dX2_book_71 rfl rfl ?_
          refine r_isub X dX2_book_72 ?_
          refine r_iload_n X 2 dX2_book_73 rfl rfl ?_
          refine r_iadd X dX2_book_74 ?_
          refine r_sipush (v := 768) X dX2_book_75 rfl ?_
          refine r_irem X dX2_book_78 (by decide) ?_
          refine r_imul X dX2_book_79 ?_
          refine r_iadd X dX2_book_80 ?_
          refine r_iload_n X 3 dX2_book_81 rfl rfl ?_
          refine r_iadd X dX2_book_82 ?_
          obtain ⟨g13, h⟩ := h
          refine r_ialdL X hph 183 5544 ly_183 rfl g13 dX2_book_83 ?_
          exact r_iret X h (Nat.le_of_ble_eq_true rfl) (Nat.le_of_ble_eq_true rfl) dX2_book_84
        · replace h := h.1 c12
          refine r_ldc_w X q1658 dX2_book_52 ?_
          exact r_iret X h (Nat.le_of_ble_eq_true rfl) (Nat.le_of_ble_eq_true rfl) dX2_book_55
    · replace h := h.1 c4
      refine r_iload_n X 0 dX2_book_30 rfl rfl ?_
      exact r_iret X h (Nat.le_of_ble_eq_true rfl) (Nat.le_of_ble_eq_true rfl) dX2_book_31
  refine r_ic_ge X 22 dX2_book_9 (by decide) (fun c1 => ?_) (fun c1 => ?_)
  · rw [if_pos c1] at hJ
    refine r_bipush (v := 30) X dX2_book_22 rfl ?_
    exact hJ
  · rw [if_neg c1] at hJ
    refine r_aload_n X 0 dX2_book_12 rfl rfl ?_
    refine gr_X2_7 X hph 13 182 183 ly_182 rfl rfl dX2_book_13 ?_
    refine r_bipush (v := 11) X dX2_book_16 rfl ?_
    refine r_ialdL X hph 183 5544 ly_183 tn_11 il_11_5544 dX2_book_18 ?_
    refine r_goto X 24 dX2_book_19 (by decide) ?_
    exact hJ
theorem m_X2_book (l : Launch) (G : GT) (g : GK G) (hph : kP G = 1) (p1 : Int32) (p2 : Int32) (s : PS) (Q : Int32 → PS → Prop) (h : w_X2_book G p1 p2 s Q) : Met l yX2_book (ws_ yX2_book cX2_book 4 (some .int)) rm_X2_book (va_Pc [.ref (kB G + 182), .int p1, .int p2] (Wr G s)) (va_Qi Q (fun u t => Wr G u t) (kF G)) 0 0 (kF G) := by
  refine Met.ofW (cc := cX2_book) (maxL := 4) (ret := (some .int)) (by decide) rfl ?_
  intro p e s0 m args below meth c s₁ B hml hv
  obtain ⟨rfl, hw⟩ := hv
  exact wb_of [.ref (kB G + 182), .int p1, .int p2] (Nat.le_of_ble_eq_true rfl) hw.1 rfl (e_X2_book (cx_of g B hml rfl hw) hph p1 p2 s Q h)
theorem e_X2_isFew {x : CT} {G : GT} (X : Cx x G cX2_isFew 3 RX2 (some .boolean) rm_X2_isFew) (hph : kP G = 1) (p1 : Int32) (p2 : Int32) (s : PS) (Q : Int32 → PS → Prop) (h : w_X2_isFew G p1 p2 s Q) : WB x G 3 (QfI x G 0 0 (fun r u => (r = 0 ∨ r = 1) ∧ Q r u)) 0 0 s 0 [(0, .ref (kB G + 182)), (1, .int p1), (2, .int p2)] [] := by
  unfold w_X2_isFew at h
  refine r_aload_n X 0 dX2_isFew_0 rfl rfl ?_
  refine r_iload_n X 1 dX2_isFew_1 rfl rfl ?_
  refine r_ci X (r_okVL (As := [.int p1]) (rest := []) X (m_X2_isHeart (xl x) G X.2.2.2.2.1 hph p1 s _ h) (cl_X2_88 X ⟨(Nat.le_of_ble_eq_true rfl), (Nat.le_of_ble_eq_true rfl)⟩) hph 2 ly_182 rfl rfl rfl rfl (Nat.le_of_ble_eq_true rfl) dX2_isFew_2 ⟨Nat.le_of_ble_eq_true rfl, Nat.le_of_ble_eq_true rfl⟩) (fun r2 s1 h => ?_)
  obtain ⟨z3, h⟩ := h
  refine r_if_eq X 24 dX2_isFew_5 (by decide) (fun c4 => ?_) (fun c4 => ?_)
  · replace h := h.1 c4
    refine r_iconst (v := 0) X dX2_isFew_24 rfl ?_
    exact r_zret X (Or.inl rfl) h (Nat.le_of_ble_eq_true rfl) (Nat.le_of_ble_eq_true rfl) dX2_isFew_25
  · replace h := h.2 c4
    refine r_aload_n X 0 dX2_isFew_8 rfl rfl ?_
    refine r_iload_n X 1 dX2_isFew_9 rfl rfl ?_
    refine r_ci X (r_okVL (As := [.int p1]) (rest := []) X (m_X2_deedsOf (xl x) G X.2.2.2.2.1 hph p1 s1 _ h) (cl_X2_291 X ⟨(Nat.le_of_ble_eq_true rfl), (Nat.le_of_ble_eq_true rfl)⟩) hph 2 ly_182 rfl rfl rfl rfl (Nat.le_of_ble_eq_true rfl) dX2_isFew_10 ⟨Nat.le_of_ble_eq_true rfl, Nat.le_of_ble_eq_true rfl⟩) (fun r6 s5 h => ?_)
    refine r_ci X (r_okS (As := [.int r6]) (rest := []) X (m_X2_bits (xl x) G X.2.2.2.2.1 r6 s5 _ h) (cl_X2_294 X ⟨(Nat.le_of_ble_eq_true rfl), (Nat.le_of_ble_eq_true rfl)⟩) rfl rfl (Nat.le_of_ble_eq_true rfl) dX2_isFew_13 ⟨Nat.le_of_ble_eq_true rfl, Nat.le_of_ble_eq_true rfl⟩) (fun r8 s7 h => ?_)
    refine r_iload_n X 2 dX2_isFew_16 rfl rfl ?_
    have hJ : WB x G 3 (QfI x G 0 0 (fun r u => (r = 0 ∨ r = 1) ∧ Q r u)) 0 0 s7 25 [(0, .ref (kB G + 182)), (1, .int p1), (2, .int p2)] [.int (if p2 < r8 then 0 else 1 : Int32)] := by
      exact r_zret X (by (repeat' split) <;> first | exact Or.inl rfl | exact Or.inr rfl) h (Nat.le_of_ble_eq_true rfl) (Nat.le_of_ble_eq_true rfl) dX2_isFew_25
    refine r_ic_gt X 24 dX2_isFew_17 (by decide) (fun c9 => ?_) (fun c9 => ?_)
    · rw [if_pos c9] at hJ
      refine r_iconst (v := 0) X dX2_isFew_24 rfl ?_
      exact hJ
    · rw [if_neg c9] at hJ
      refine r_iconst (v := 1) X dX2_isFew_20 rfl ?_
      refine r_goto X 25 dX2_isFew_21 (by decide) ?_
      exact hJ
theorem m_X2_isFew (l : Launch) (G : GT) (g : GK G) (hph : kP G = 1) (p1 : Int32) (p2 : Int32) (s : PS) (Q : Int32 → PS → Prop) (h : w_X2_isFew G p1 p2 s Q) : Met l yX2_isFew (ws_ yX2_isFew cX2_isFew 3 (some .boolean)) rm_X2_isFew (va_Pc [.ref (kB G + 182), .int p1, .int p2] (Wr G s)) (va_Qi (fun r u => (r = 0 ∨ r = 1) ∧ Q r u) (fun u t => Wr G u t) (kF G)) 0 0 (kF G) := by
  refine Met.ofW (cc := cX2_isFew) (maxL := 3) (ret := (some .boolean)) (by decide) rfl ?_
  intro p e s0 m args below meth c s₁ B hml hv
  obtain ⟨rfl, hw⟩ := hv
  exact wb_of [.ref (kB G + 182), .int p1, .int p2] (Nat.le_of_ble_eq_true rfl) hw.1 rfl (e_X2_isFew (cx_of g B hml rfl hw) hph p1 p2 s Q h)
theorem tl_X2_setAside_2 {x : CT} {G : GT} (X : Cx x G cX2_setAside 2 RX2 none rm_X2_setAside) (hph : kP G = 1) (Q : PS → Prop) : ∀ (n : Nat) (v1 : Int32) (s : PS) (h : l_X2_setAside_2 G Q n v1 s), WB x G 2 (QfV x G 0 0 Q) 0 0 s 2 [(0, .ref (kB G + 182)), (1, .int v1)] [] := by
  intro n
  induction n with
  | zero =>
    intro v1 s h
    exact False.elim h
  | succ n ih =>
    intro v1 s h
    unfold l_X2_setAside_2 at h
    refine r_iload_n X 1 dX2_setAside_2 rfl rfl ?_
    refine r_bipush (v := 6) X dX2_setAside_3 rfl ?_
    refine r_ic_ge X 30 dX2_setAside_5 (by decide) (fun c1 => ?_) (fun c1 => ?_)
    · replace h := h.1 c1
      exact r_vret X h (Nat.le_of_ble_eq_true rfl) (Nat.le_of_ble_eq_true rfl) dX2_setAside_30
    · replace h := h.2 c1
      refine r_aload_n X 0 dX2_setAside_8 rfl rfl ?_
      refine gr_X2_42 X hph 13 182 191 ly_182 rfl rfl dX2_setAside_9 ?_
      refine r_iload_n X 1 dX2_setAside_12 rfl rfl ?_
      refine r_aload_n X 0 dX2_setAside_13 rfl rfl ?_
      refine gr_X2_7 X hph 13 182 183 ly_182 rfl rfl dX2_setAside_14 ?_
      refine r_sipush (v := 242) X dX2_setAside_17 rfl ?_
      refine r_iload_n X 1 dX2_setAside_20 rfl rfl ?_
      refine r_iadd X dX2_setAside_21 ?_
      obtain ⟨g2, h⟩ := h
      refine r_ialdL X hph 183 5544 ly_183 rfl g2 dX2_setAside_22 ?_
      obtain ⟨g3, h⟩ := h
      refine r_iastL X hph 191 6 ly_191 rfl g3 dX2_setAside_23 (fun s4 e5 => ?_)
      replace h := h s4 e5
      refine r_iinc (lv' := [(1, .int (v1 + 1)), (0, .ref (kB G + 182))]) X 1 dX2_setAside_24 rfl rfl (Nat.le_of_ble_eq_true rfl) rfl ?_
      refine r_goto X 2 dX2_setAside_27 (by decide) ?_
      refine r_sub [1, 0] rfl ?_
      exact ih (v1 + 1) s4 h
theorem e_X2_setAside {x : CT} {G : GT} (X : Cx x G cX2_setAside 2 RX2 none rm_X2_setAside) (hph : kP G = 1) (s : PS) (Q : PS → Prop) (h : w_X2_setAside G s Q) : WB x G 2 (QfV x G 0 0 Q) 0 0 s 0 [(0, .ref (kB G + 182))] [] := by
  unfold w_X2_setAside at h
  refine r_iconst (v := 0) X dX2_setAside_0 rfl ?_
  refine r_istore_n (lv' := [(1, .int 0), (0, .ref (kB G + 182))]) X dX2_setAside_1 rfl (Nat.le_of_ble_eq_true rfl) rfl ?_
  refine r_sub [1, 0] rfl ?_
  obtain ⟨n1, h⟩ := h
  exact tl_X2_setAside_2 X hph Q n1 0 s h
theorem m_X2_setAside (l : Launch) (G : GT) (g : GK G) (hph : kP G = 1) (s : PS) (Q : PS → Prop) (h : w_X2_setAside G s Q) : Met l yX2_setAside (ws_ yX2_setAside cX2_setAside 2 none) rm_X2_setAside (va_Pc [.ref (kB G + 182)] (Wr G s)) (va_Qv Q (fun u t => Wr G u t) (kF G)) 0 0 (kF G) := by
  refine Met.ofW (cc := cX2_setAside) (maxL := 2) (ret := none) (by decide) rfl ?_
  intro p e s0 m args below meth c s₁ B hml hv
  obtain ⟨rfl, hw⟩ := hv
  exact wb_of [.ref (kB G + 182)] (Nat.le_of_ble_eq_true rfl) hw.1 rfl (e_X2_setAside (cx_of g B hml rfl hw) hph s Q h)
theorem tl_X2_endOf_8 {x : CT} {G : GT} (X : Cx x G cX2_endOf 4 RX2 (some .int) rm_X2_endOf) (hph : kP G = 1) (Q : Int32 → PS → Prop) (v2 : Int32) : ∀ (n : Nat) (v3 : Int32) (s : PS) (h : l_X2_endOf_8 G Q v2 n v3 s), WB x G 4 (QfI x G 0 0 Q) 0 0 s 8 [(0, .ref (kB G + 182)), (2, .int v2), (3, .int v3)] [] := by
  intro n
  induction n with
  | zero =>
    intro v3 s h
    exact False.elim h
  | succ n ih =>
    intro v3 s h
    unfold l_X2_endOf_8 at h
    refine r_iload_n X 2 dX2_endOf_8 rfl rfl ?_
    refine r_aload_n X 0 dX2_endOf_9 rfl rfl ?_
    refine gl_X2_367 X hph 182 ly_182 dX2_endOf_10 ?_
    refine r_ic_ge X 33 dX2_endOf_13 (by decide) (fun c1 => ?_) (fun c1 => ?_)
    · replace h := h.1 c1
      refine r_aload_n X 0 dX2_endOf_33 rfl rfl ?_
      refine gr_X2_7 X hph 13 182 183 ly_182 rfl rfl dX2_endOf_34 ?_
      refine r_sipush (v := 244) X dX2_endOf_37 rfl ?_
      refine r_ialdL X hph 183 5544 ly_183 tn_244 il_244_5544 dX2_endOf_40 ?_
      exact r_iret X h (Nat.le_of_ble_eq_true rfl) (Nat.le_of_ble_eq_true rfl) dX2_endOf_41
    · replace h := h.2 c1
      refine r_aload_n X 0 dX2_endOf_16 rfl rfl ?_
      refine r_aload_n X 0 dX2_endOf_17 rfl rfl ?_
      refine gr_X2_39 X hph 13 182 190 ly_182 rfl rfl dX2_endOf_18 ?_
      refine r_iload_n X 2 dX2_endOf_21 rfl rfl ?_
      obtain ⟨g2, h⟩ := h
      refine r_ialdL X hph 190 24 ly_190 rfl g2 dX2_endOf_22 ?_
      refine r_iload_n X 1 dX2_endOf_23 rfl rfl ?_
      refine r_cv X (r_okVL (As := [.int (gI s (kB G + 190) v3.toNatClampNeg), .int v2]) (rest := []) X (m_X2_layNow (xl x) G X.2.2.2.2.1 hph (gI s (kB G + 190) v3.toNatClampNeg) v2 s _ h) (cl_X2_325 X ⟨(Nat.le_of_ble_eq_true rfl), (Nat.le_of_ble_eq_true rfl)⟩) hph 2 ly_182 rfl rfl rfl rfl (Nat.le_of_ble_eq_true rfl) dX2_endOf_24 ⟨Nat.le_of_ble_eq_true rfl, Nat.le_of_ble_eq_true rfl⟩) (fun s3 h => ?_)
      refine r_iinc (lv' := [(3, .int (v3 + 1)), (0, .ref (kB G + 182)), (2, .int v2)]) X 2 dX2_endOf_27 rfl rfl (Nat.le_of_ble_eq_true rfl) rfl ?_
      refine r_goto X 8 dX2_endOf_30 (by decide) ?_
      refine r_sub [1, 2, 0] rfl ?_
      exact ih (v3 + 1) s3 h
theorem e_X2_endOf {x : CT} {G : GT} (X : Cx x G cX2_endOf 4 RX2 (some .int) rm_X2_endOf) (hph : kP G = 1) (p1 : Int32) (p2 : Int32) (s : PS) (Q : Int32 → PS → Prop) (h : w_X2_endOf G p1 p2 s Q) : WB x G 4 (QfI x G 0 0 Q) 0 0 s 0 [(0, .ref (kB G + 182)), (1, .int p1), (2, .int p2)] [] := by
  unfold w_X2_endOf at h
  refine r_aload_n X 0 dX2_endOf_0 rfl rfl ?_
  refine r_iload_n X 1 dX2_endOf_1 rfl rfl ?_
  refine r_iload_n X 2 dX2_endOf_2 rfl rfl ?_
  refine r_cv X (r_okVL (As := [.int p1, .int p2]) (rest := []) X (m_X2_weighNow (xl x) G X.2.2.2.2.1 hph p1 p2 s _ h) (cl_X2_322 X ⟨(Nat.le_of_ble_eq_true rfl), (Nat.le_of_ble_eq_true rfl)⟩) hph 2 ly_182 rfl rfl rfl rfl (Nat.le_of_ble_eq_true rfl) dX2_endOf_3 ⟨Nat.le_of_ble_eq_true rfl, Nat.le_of_ble_eq_true rfl⟩) (fun s1 h => ?_)
  refine r_iconst (v := 0) X dX2_endOf_6 rfl ?_
  refine r_istore_n (lv' := [(3, .int 0), (0, .ref (kB G + 182)), (1, .int p1), (2, .int p2)]) X dX2_endOf_7 rfl (Nat.le_of_ble_eq_true rfl) rfl ?_
  refine r_sub [1, 3, 0] rfl ?_
  obtain ⟨n2, h⟩ := h
  exact tl_X2_endOf_8 X hph Q p2 n2 0 s1 h
theorem m_X2_endOf (l : Launch) (G : GT) (g : GK G) (hph : kP G = 1) (p1 : Int32) (p2 : Int32) (s : PS) (Q : Int32 → PS → Prop) (h : w_X2_endOf G p1 p2 s Q) : Met l yX2_endOf (ws_ yX2_endOf cX2_endOf 4 (some .int)) rm_X2_endOf (va_Pc [.ref (kB G + 182), .int p1, .int p2] (Wr G s)) (va_Qi Q (fun u t => Wr G u t) (kF G)) 0 0 (kF G) := by
  refine Met.ofW (cc := cX2_endOf) (maxL := 4) (ret := (some .int)) (by decide) rfl ?_
  intro p e s0 m args below meth c s₁ B hml hv
  obtain ⟨rfl, hw⟩ := hv
  exact wb_of [.ref (kB G + 182), .int p1, .int p2] (Nat.le_of_ble_eq_true rfl) hw.1 rfl (e_X2_endOf (cx_of g B hml rfl hw) hph p1 p2 s Q h)
theorem tl_X2_takeRow_2 {x : CT} {G : GT} (X : Cx x G cX2_takeRow 2 RX2 none rm_X2_takeRow) (hph : kP G = 1) (Q : PS → Prop) : ∀ (n : Nat) (v1 : Int32) (s : PS) (h : l_X2_takeRow_2 G Q n v1 s), WB x G 2 (QfV x G 0 0 Q) 0 0 s 2 [(0, .ref (kB G + 182)), (1, .int v1)] [] := by
  intro n
  induction n with
  | zero =>
    intro v1 s h
    exact False.elim h
  | succ n ih =>
    intro v1 s h
    unfold l_X2_takeRow_2 at h
    refine r_iload_n X 1 dX2_takeRow_2 rfl rfl ?_
    refine r_aload_n X 0 dX2_takeRow_3 rfl rfl ?_
    refine gl_X2_367 X hph 182 ly_182 dX2_takeRow_4 ?_
    refine r_ic_ge X 28 dX2_takeRow_7 (by decide) (fun c1 => ?_) (fun c1 => ?_)
    · replace h := h.1 c1
      exact r_vret X h (Nat.le_of_ble_eq_true rfl) (Nat.le_of_ble_eq_true rfl) dX2_takeRow_28
    · replace h := h.2 c1
      refine r_aload_n X 0 dX2_takeRow_10 rfl rfl ?_
      refine gr_X2_45 X hph 13 182 192 ly_182 rfl rfl dX2_takeRow_11 ?_
      refine r_iload_n X 1 dX2_takeRow_14 rfl rfl ?_
      refine r_aload_n X 0 dX2_takeRow_15 rfl rfl ?_
      refine gr_X2_39 X hph 13 182 190 ly_182 rfl rfl dX2_takeRow_16 ?_
      refine r_iload_n X 1 dX2_takeRow_19 rfl rfl ?_
      obtain ⟨g2, h⟩ := h
      refine r_ialdL X hph 190 24 ly_190 rfl g2 dX2_takeRow_20 ?_
      refine r_iastL X hph 192 24 ly_192 rfl g2 dX2_takeRow_21 (fun s3 e4 => ?_)
      replace h := h s3 e4
      refine r_iinc (lv' := [(1, .int (v1 + 1)), (0, .ref (kB G + 182))]) X 1 dX2_takeRow_22 rfl rfl (Nat.le_of_ble_eq_true rfl) rfl ?_
      refine r_goto X 2 dX2_takeRow_25 (by decide) ?_
      refine r_sub [1, 0] rfl ?_
      exact ih (v1 + 1) s3 h
theorem e_X2_takeRow {x : CT} {G : GT} (X : Cx x G cX2_takeRow 2 RX2 none rm_X2_takeRow) (hph : kP G = 1) (s : PS) (Q : PS → Prop) (h : w_X2_takeRow G s Q) : WB x G 2 (QfV x G 0 0 Q) 0 0 s 0 [(0, .ref (kB G + 182))] [] := by
  unfold w_X2_takeRow at h
  refine r_iconst (v := 0) X dX2_takeRow_0 rfl ?_
  refine r_istore_n (lv' := [(1, .int 0), (0, .ref (kB G + 182))]) X dX2_takeRow_1 rfl (Nat.le_of_ble_eq_true rfl) rfl ?_
  refine r_sub [1, 0] rfl ?_
  obtain ⟨n1, h⟩ := h
  exact tl_X2_takeRow_2 X hph Q n1 0 s h
theorem m_X2_takeRow (l : Launch) (G : GT) (g : GK G) (hph : kP G = 1) (s : PS) (Q : PS → Prop) (h : w_X2_takeRow G s Q) : Met l yX2_takeRow (ws_ yX2_takeRow cX2_takeRow 2 none) rm_X2_takeRow (va_Pc [.ref (kB G + 182)] (Wr G s)) (va_Qv Q (fun u t => Wr G u t) (kF G)) 0 0 (kF G) := by
  refine Met.ofW (cc := cX2_takeRow) (maxL := 2) (ret := none) (by decide) rfl ?_
  intro p e s0 m args below meth c s₁ B hml hv
  obtain ⟨rfl, hw⟩ := hv
  exact wb_of [.ref (kB G + 182)] (Nat.le_of_ble_eq_true rfl) hw.1 rfl (e_X2_takeRow (cx_of g B hml rfl hw) hph s Q h)
theorem e_X2_exchange {x : CT} {G : GT} (X : Cx x G cX2_exchange 4 RX2 none rm_X2_exchange) (hph : kP G = 1) (p1 : Int32) (p2 : Int32) (s : PS) (Q : PS → Prop) (h : w_X2_exchange G p1 p2 s Q) : WB x G 4 (QfV x G 0 0 Q) 0 0 s 0 [(0, .ref (kB G + 182)), (1, .int p1), (2, .int p2)] [] := by
  unfold w_X2_exchange at h
  refine r_aload_n X 0 dX2_exchange_0 rfl rfl ?_
  refine gr_X2_39 X hph 13 182 190 ly_182 rfl rfl dX2_exchange_1 ?_
  refine r_iload_n X 1 dX2_exchange_4 rfl rfl ?_
  obtain ⟨g1, h⟩ := h
  refine r_ialdL X hph 190 24 ly_190 rfl g1 dX2_exchange_5 ?_
  refine r_nmI (fun y2 e3 => ?_)
  replace h := h y2 e3
  refine r_istore_n (lv' := [(3, .int y2), (0, .ref (kB G + 182)), (1, .int p1), (2, .int p2)]) X dX2_exchange_6 rfl (Nat.le_of_ble_eq_true rfl) rfl ?_
  refine r_aload_n X 1 dX2_exchange_7 rfl rfl ?_
  refine gr_X2_39 X hph 13 182 190 ly_182 rfl rfl dX2_exchange_8 ?_
  refine r_iload_n X 2 dX2_exchange_11 rfl rfl ?_
  refine r_aload_n X 1 dX2_exchange_12 rfl rfl ?_
  refine gr_X2_39 X hph 13 182 190 ly_182 rfl rfl dX2_exchange_13 ?_
  refine r_iload_n X 3 dX2_exchange_16 rfl rfl ?_
  obtain ⟨g4, h⟩ := h
  refine r_ialdL X hph 190 24 ly_190 rfl g4 dX2_exchange_17 ?_
  refine r_iastL X hph 190 24 ly_190 rfl g1 dX2_exchange_18 (fun s5 e6 => ?_)
  replace h := h s5 e6
  refine r_aload_n X 1 dX2_exchange_19 rfl rfl ?_
  refine gr_X2_39 X hph 13 182 190 ly_182 rfl rfl dX2_exchange_20 ?_
  refine r_iload_n X 3 dX2_exchange_23 rfl rfl ?_
  refine r_iload_n X 0 dX2_exchange_24 rfl rfl ?_
  refine r_iastL X hph 190 24 ly_190 rfl g4 dX2_exchange_25 (fun s7 e8 => ?_)
  replace h := h s7 e8
  exact r_vret X h (Nat.le_of_ble_eq_true rfl) (Nat.le_of_ble_eq_true rfl) dX2_exchange_26
theorem m_X2_exchange (l : Launch) (G : GT) (g : GK G) (hph : kP G = 1) (p1 : Int32) (p2 : Int32) (s : PS) (Q : PS → Prop) (h : w_X2_exchange G p1 p2 s Q) : Met l yX2_exchange (ws_ yX2_exchange cX2_exchange 4 none) rm_X2_exchange (va_Pc [.ref (kB G + 182), .int p1, .int p2] (Wr G s)) (va_Qv Q (fun u t => Wr G u t) (kF G)) 0 0 (kF G) := by
  refine Met.ofW (cc := cX2_exchange) (maxL := 4) (ret := none) (by decide) rfl ?_
  intro p e s0 m args below meth c s₁ B hml hv
  obtain ⟨rfl, hw⟩ := hv
  exact wb_of [.ref (kB G + 182), .int p1, .int p2] (Nat.le_of_ble_eq_true rfl) hw.1 rfl (e_X2_exchange (cx_of g B hml rfl hw) hph p1 p2 s Q h)
theorem tl_X2_nextRow_86 {x : CT} {G : GT} (X : Cx x G cX2_nextRow 5 RX2 (some .boolean) rm_X2_nextRow) (hph : kP G = 1) (Q : Int32 → PS → Prop) : ∀ (n : Nat) (v3 : Int32) (v4 : Int32) (s : PS) (h : l_X2_nextRow_86 G Q n v3 v4 s), WB x G 5 (QfI x G 0 0 (fun r u => (r = 0 ∨ r = 1) ∧ Q r u)) 0 0 s 86 [(0, .ref (kB G + 182)), (3, .int v3), (4, .int v4)] [] := by
  intro n
  induction n with
  | zero =>
    intro v3 v4 s h
    exact False.elim h
  | succ n ih =>
    intro v3 v4 s h
    unfold l_X2_nextRow_86 at h
    refine r_iload_n X 1 dX2_nextRow_86 rfl rfl ?_
    refine r_iload X 2 dX2_nextRow_87 rfl ?_
    refine r_ic_ge X 108 dX2_nextRow_89 (by decide) (fun c1 => ?_) (fun c1 => ?_)
    · replace h := h.1 c1
      refine r_iconst (v := 1) X dX2_nextRow_108 rfl ?_
      exact r_zret X (Or.inr rfl) h (Nat.le_of_ble_eq_true rfl) (Nat.le_of_ble_eq_true rfl) dX2_nextRow_109
    · replace h := h.2 c1
      refine r_aload_n X 0 dX2_nextRow_92 rfl rfl ?_
      refine r_iload_n X 1 dX2_nextRow_93 rfl rfl ?_
      refine r_iload X 2 dX2_nextRow_94 rfl ?_
      refine r_cv X (r_okVL (As := [.int v3, .int v4]) (rest := []) X (m_X2_exchange (xl x) G X.2.2.2.2.1 hph v3 v4 s _ h) (cl_X2_385 X ⟨(Nat.le_of_ble_eq_true rfl), (Nat.le_of_ble_eq_true rfl)⟩) hph 2 ly_182 rfl rfl rfl rfl (Nat.le_of_ble_eq_true rfl) dX2_nextRow_96 ⟨Nat.le_of_ble_eq_true rfl, Nat.le_of_ble_eq_true rfl⟩) (fun s2 h => ?_)
      refine r_iinc (lv' := [(3, .int (v3 + 1)), (0, .ref (kB G + 182)), (4, .int v4)]) X 1 dX2_nextRow_99 rfl rfl (Nat.le_of_ble_eq_true rfl) rfl ?_
      refine r_iinc (lv' := [(4, .int (v4 + (-1))), (3, .int (v3 + 1)), (0, .ref (kB G + 182))]) X 2 dX2_nextRow_102 rfl rfl (Nat.le_of_ble_eq_true rfl) rfl ?_
      refine r_goto X 86 dX2_nextRow_105 (by decide) ?_
      refine r_sub [2, 1, 0] rfl ?_
      exact ih (v3 + 1) (v4 + (-1)) s2 h
theorem tl_X2_nextRow_47 {x : CT} {G : GT} (X : Cx x G cX2_nextRow 5 RX2 (some .boolean) rm_X2_nextRow) (hph : kP G = 1) (Q : Int32 → PS → Prop) (v1 : Int32) : ∀ (n : Nat) (v2 : Int32) (s : PS) (h : l_X2_nextRow_47 G Q v1 n v2 s), WB x G 5 (QfI x G 0 0 (fun r u => (r = 0 ∨ r = 1) ∧ Q r u)) 0 0 s 47 [(0, .ref (kB G + 182)), (1, .int v1), (2, .int v2)] [] := by
  intro n
  induction n with
  | zero =>
    intro v2 s h
    exact False.elim h
  | succ n ih =>
    intro v2 s h
    unfold l_X2_nextRow_47 at h
    refine r_aload_n X 0 dX2_nextRow_47 rfl rfl ?_
    refine gr_X2_39 X hph 13 182 190 ly_182 rfl rfl dX2_nextRow_48 ?_
    refine r_iload_n X 2 dX2_nextRow_51 rfl rfl ?_
    obtain ⟨g1, h⟩ := h
    refine r_ialdL X hph 190 24 ly_190 rfl g1 dX2_nextRow_52 ?_
    refine r_aload_n X 0 dX2_nextRow_53 rfl rfl ?_
    refine gr_X2_39 X hph 13 182 190 ly_182 rfl rfl dX2_nextRow_54 ?_
    refine r_iload_n X 1 dX2_nextRow_57 rfl rfl ?_
    obtain ⟨g2, h⟩ := h
    refine r_ialdL X hph 190 24 ly_190 rfl g2 dX2_nextRow_58 ?_
    refine r_ic_ge X 68 dX2_nextRow_59 (by decide) (fun c3 => ?_) (fun c3 => ?_)
    · replace h := h.1 c3
      refine r_aload_n X 0 dX2_nextRow_68 rfl rfl ?_
      refine r_iload_n X 1 dX2_nextRow_69 rfl rfl ?_
      refine r_iload_n X 2 dX2_nextRow_70 rfl rfl ?_
      refine r_cv X (r_okVL (As := [.int v1, .int v2]) (rest := []) X (m_X2_exchange (xl x) G X.2.2.2.2.1 hph v1 v2 s _ h) (cl_X2_385 X ⟨(Nat.le_of_ble_eq_true rfl), (Nat.le_of_ble_eq_true rfl)⟩) hph 2 ly_182 rfl rfl rfl rfl (Nat.le_of_ble_eq_true rfl) dX2_nextRow_71 ⟨Nat.le_of_ble_eq_true rfl, Nat.le_of_ble_eq_true rfl⟩) (fun s4 h => ?_)
      refine r_iload_n X 1 dX2_nextRow_74 rfl rfl ?_
      refine r_iconst (v := 1) X dX2_nextRow_75 rfl ?_
      refine r_iadd X dX2_nextRow_76 ?_
      refine r_nmI (fun y5 e6 => ?_)
      replace h := h y5 e6
      refine r_istore_n (lv' := [(3, .int y5), (0, .ref (kB G + 182)), (1, .int v1), (2, .int v2)]) X dX2_nextRow_77 rfl (Nat.le_of_ble_eq_true rfl) rfl ?_
      refine r_aload_n X 1 dX2_nextRow_78 rfl rfl ?_
      refine gl_X2_367 X hph 182 ly_182 dX2_nextRow_79 ?_
      refine r_iconst (v := 1) X dX2_nextRow_82 rfl ?_
      refine r_isub X dX2_nextRow_83 ?_
      refine r_nmI (fun y7 e8 => ?_)
      replace h := h y7 e8
      refine r_istore (lv' := [(4, .int y7), (3, .int y5), (0, .ref (kB G + 182)), (1, .int v1), (2, .int v2)]) X dX2_nextRow_84 (Nat.le_of_ble_eq_true rfl) rfl ?_
      refine r_sub [2, 1, 0] rfl ?_
      obtain ⟨n9, h⟩ := h
      exact tl_X2_nextRow_86 X hph Q n9 y5 y7 s4 h
    · replace h := h.2 c3
      refine r_iinc (lv' := [(2, .int (v2 + (-1))), (0, .ref (kB G + 182)), (1, .int v1)]) X 2 dX2_nextRow_62 rfl rfl (Nat.le_of_ble_eq_true rfl) rfl ?_
      refine r_goto X 47 dX2_nextRow_65 (by decide) ?_
      refine r_sub [1, 2, 0] rfl ?_
      exact ih (v2 + (-1)) s h
theorem tb_X2_nextRow_34 {x : CT} {G : GT} (X : Cx x G cX2_nextRow 5 RX2 (some .boolean) rm_X2_nextRow) (hph : kP G = 1) (Q : Int32 → PS → Prop) (v1 : Int32) (s : PS) (h : b_X2_nextRow_34 G Q v1 s) : WB x G 5 (QfI x G 0 0 (fun r u => (r = 0 ∨ r = 1) ∧ Q r u)) 0 0 s 34 [(0, .ref (kB G + 182)), (1, .int v1)] [] := by
  unfold b_X2_nextRow_34 at h
  refine r_iload_n X 1 dX2_nextRow_34 rfl rfl ?_
  refine r_if_ge X 40 dX2_nextRow_35 (by decide) (fun c1 => ?_) (fun c1 => ?_)
  · replace h := h.1 c1
    refine r_aload_n X 0 dX2_nextRow_40 rfl rfl ?_
    refine gl_X2_367 X hph 182 ly_182 dX2_nextRow_41 ?_
    refine r_iconst (v := 1) X dX2_nextRow_44 rfl ?_
    refine r_isub X dX2_nextRow_45 ?_
    refine r_nmI (fun y2 e3 => ?_)
    replace h := h y2 e3
    refine r_istore_n (lv' := [(2, .int y2), (0, .ref (kB G + 182)), (1, .int v1)]) X dX2_nextRow_46 rfl (Nat.le_of_ble_eq_true rfl) rfl ?_
    refine r_sub [1, 2, 0] rfl ?_
    obtain ⟨n4, h⟩ := h
    exact tl_X2_nextRow_47 X hph Q v1 n4 y2 s h
  · replace h := h.2 c1
    refine r_iconst (v := 0) X dX2_nextRow_38 rfl ?_
    exact r_zret X (Or.inl rfl) h (Nat.le_of_ble_eq_true rfl) (Nat.le_of_ble_eq_true rfl) dX2_nextRow_39
theorem tl_X2_nextRow_7 {x : CT} {G : GT} (X : Cx x G cX2_nextRow 5 RX2 (some .boolean) rm_X2_nextRow) (hph : kP G = 1) (Q : Int32 → PS → Prop) : ∀ (n : Nat) (v1 : Int32) (s : PS) (h : l_X2_nextRow_7 G Q n v1 s), WB x G 5 (QfI x G 0 0 (fun r u => (r = 0 ∨ r = 1) ∧ Q r u)) 0 0 s 7 [(0, .ref (kB G + 182)), (1, .int v1)] [] := by
  intro n
  induction n with
  | zero =>
    intro v1 s h
    exact False.elim h
  | succ n ih =>
    intro v1 s h
    unfold l_X2_nextRow_7 at h
    refine r_iload_n X 1 dX2_nextRow_7 rfl rfl ?_
    refine r_if_lt X 34 dX2_nextRow_8 (by decide) (fun c1 => ?_) (fun c1 => ?_)
    · replace h := h.1 c1
      exact tb_X2_nextRow_34 X hph Q v1 s h
    · replace h := h.2 c1
      refine r_aload_n X 0 dX2_nextRow_11 rfl rfl ?_
      refine gr_X2_39 X hph 13 182 190 ly_182 rfl rfl dX2_nextRow_12 ?_
      refine r_iload_n X 1 dX2_nextRow_15 rfl rfl ?_
      obtain ⟨g2, h⟩ := h
      refine r_ialdL X hph 190 24 ly_190 rfl g2 dX2_nextRow_16 ?_
      refine r_aload_n X 0 dX2_nextRow_17 rfl rfl ?_
      refine gr_X2_39 X hph 13 182 190 ly_182 rfl rfl dX2_nextRow_18 ?_
      refine r_iload_n X 1 dX2_nextRow_21 rfl rfl ?_
      refine r_iconst (v := 1) X dX2_nextRow_22 rfl ?_
      refine r_iadd X dX2_nextRow_23 ?_
      obtain ⟨g3, h⟩ := h
      refine r_ialdL X hph 190 24 ly_190 rfl g3 dX2_nextRow_24 ?_
      refine r_ic_le X 34 dX2_nextRow_25 (by decide) (fun c4 => ?_) (fun c4 => ?_)
      · replace h := h.1 c4
        exact tb_X2_nextRow_34 X hph Q v1 s h
      · replace h := h.2 c4
        refine r_iinc (lv' := [(1, .int (v1 + (-1))), (0, .ref (kB G + 182))]) X 1 dX2_nextRow_28 rfl rfl (Nat.le_of_ble_eq_true rfl) rfl ?_
        refine r_goto X 7 dX2_nextRow_31 (by decide) ?_
        refine r_sub [1, 0] rfl ?_
        exact ih (v1 + (-1)) s h
theorem e_X2_nextRow {x : CT} {G : GT} (X : Cx x G cX2_nextRow 5 RX2 (some .boolean) rm_X2_nextRow) (hph : kP G = 1) (s : PS) (Q : Int32 → PS → Prop) (h : w_X2_nextRow G s Q) : WB x G 5 (QfI x G 0 0 (fun r u => (r = 0 ∨ r = 1) ∧ Q r u)) 0 0 s 0 [(0, .ref (kB G + 182))] [] := by
  unfold w_X2_nextRow at h
  refine r_aload_n X 0 dX2_nextRow_0 rfl rfl ?_
  refine gl_X2_367 X hph 182 ly_182 dX2_nextRow_1 ?_
  refine r_iconst (v := 2) X dX2_nextRow_4 rfl ?_
  refine r_isub X dX2_nextRow_5 ?_
  refine r_nmI (fun y1 e2 => ?_)
  replace h := h y1 e2
  refine r_istore_n (lv' := [(1, .int y1), (0, .ref (kB G + 182))]) X dX2_nextRow_6 rfl (Nat.le_of_ble_eq_true rfl) rfl ?_
  refine r_sub [1, 0] rfl ?_
  obtain ⟨n3, h⟩ := h
  exact tl_X2_nextRow_7 X hph Q n3 y1 s h
theorem m_X2_nextRow (l : Launch) (G : GT) (g : GK G) (hph : kP G = 1) (s : PS) (Q : Int32 → PS → Prop) (h : w_X2_nextRow G s Q) : Met l yX2_nextRow (ws_ yX2_nextRow cX2_nextRow 5 (some .boolean)) rm_X2_nextRow (va_Pc [.ref (kB G + 182)] (Wr G s)) (va_Qi (fun r u => (r = 0 ∨ r = 1) ∧ Q r u) (fun u t => Wr G u t) (kF G)) 0 0 (kF G) := by
  refine Met.ofW (cc := cX2_nextRow) (maxL := 5) (ret := (some .boolean)) (by decide) rfl ?_
  intro p e s0 m args below meth c s₁ B hml hv
  obtain ⟨rfl, hw⟩ := hv
  exact wb_of [.ref (kB G + 182)] (Nat.le_of_ble_eq_true rfl) hw.1 rfl (e_X2_nextRow (cx_of g B hml rfl hw) hph s Q h)
theorem tl_X2_putBack_2 {x : CT} {G : GT} (X : Cx x G cX2_putBack 2 RX2 none rm_X2_putBack) (hph : kP G = 1) (Q : PS → Prop) : ∀ (n : Nat) (v1 : Int32) (s : PS) (h : l_X2_putBack_2 G Q n v1 s), WB x G 2 (QfV x G 0 0 Q) 0 0 s 2 [(0, .ref (kB G + 182)), (1, .int v1)] [] := by
  intro n
  induction n with
  | zero =>
    intro v1 s h
    exact False.elim h
  | succ n ih =>
    intro v1 s h
    unfold l_X2_putBack_2 at h
    refine r_iload_n X 1 dX2_putBack_2 rfl rfl ?_
    refine r_bipush (v := 6) X dX2_putBack_3 rfl ?_
    refine r_ic_ge X 30 dX2_putBack_5 (by decide) (fun c1 => ?_) (fun c1 => ?_)
    · replace h := h.1 c1
      exact r_vret X h (Nat.le_of_ble_eq_true rfl) (Nat.le_of_ble_eq_true rfl) dX2_putBack_30
    · replace h := h.2 c1
      refine r_aload_n X 0 dX2_putBack_8 rfl rfl ?_
      refine gr_X2_7 X hph 13 182 183 ly_182 rfl rfl dX2_putBack_9 ?_
      refine r_sipush (v := 242) X dX2_putBack_12 rfl ?_
      refine r_iload_n X 1 dX2_putBack_15 rfl rfl ?_
      refine r_iadd X dX2_putBack_16 ?_
      refine r_aload_n X 0 dX2_putBack_17 rfl rfl ?_
      refine gr_X2_42 X hph 13 182 191 ly_182 rfl rfl dX2_putBack_18 ?_
      refine r_iload_n X 1 dX2_putBack_21 rfl rfl ?_
      obtain ⟨g2, h⟩ := h
      refine r_ialdL X hph 191 6 ly_191 rfl g2 dX2_putBack_22 ?_
      obtain ⟨g3, h⟩ := h
      refine r_iastL X hph 183 5544 ly_183 rfl g3 dX2_putBack_23 (fun s4 e5 => ?_)
      replace h := h s4 e5
      refine r_iinc (lv' := [(1, .int (v1 + 1)), (0, .ref (kB G + 182))]) X 1 dX2_putBack_24 rfl rfl (Nat.le_of_ble_eq_true rfl) rfl ?_
      refine r_goto X 2 dX2_putBack_27 (by decide) ?_
      refine r_sub [1, 0] rfl ?_
      exact ih (v1 + 1) s4 h
theorem e_X2_putBack {x : CT} {G : GT} (X : Cx x G cX2_putBack 2 RX2 none rm_X2_putBack) (hph : kP G = 1) (s : PS) (Q : PS → Prop) (h : w_X2_putBack G s Q) : WB x G 2 (QfV x G 0 0 Q) 0 0 s 0 [(0, .ref (kB G + 182))] [] := by
  unfold w_X2_putBack at h
  refine r_iconst (v := 0) X dX2_putBack_0 rfl ?_
  refine r_istore_n (lv' := [(1, .int 0), (0, .ref (kB G + 182))]) X dX2_putBack_1 rfl (Nat.le_of_ble_eq_true rfl) rfl ?_
  refine r_sub [1, 0] rfl ?_
  obtain ⟨n1, h⟩ := h
  exact tl_X2_putBack_2 X hph Q n1 0 s h
theorem m_X2_putBack (l : Launch) (G : GT) (g : GK G) (hph : kP G = 1) (s : PS) (Q : PS → Prop) (h : w_X2_putBack G s Q) : Met l yX2_putBack (ws_ yX2_putBack cX2_putBack 2 none) rm_X2_putBack (va_Pc [.ref (kB G + 182)] (Wr G s)) (va_Qv Q (fun u t => Wr G u t) (kF G)) 0 0 (kF G) := by
  refine Met.ofW (cc := cX2_putBack) (maxL := 2) (ret := none) (by decide) rfl ?_
  intro p e s0 m args below meth c s₁ B hml hv
  obtain ⟨rfl, hw⟩ := hv
  exact wb_of [.ref (kB G + 182)] (Nat.le_of_ble_eq_true rfl) hw.1 rfl (e_X2_putBack (cx_of g B hml rfl hw) hph s Q h)
theorem tb_X2_lightest_89 {x : CT} {G : GT} (X : Cx x G cX2_lightest 6 RX2 (some .int) rm_X2_lightest) (hph : kP G = 1) (Q : Int32 → PS → Prop) (K45 : Int32 → PS → Prop) (v1 : Int32) (v2 : Int32) (v3 : Int32) (v5 : Int32) (s : PS) (hK45 : ∀ (v4' : Int32) (s' : PS), K45 v4' s' → WB x G 6 (QfI x G 0 0 Q) 0 0 s' 45 [(0, .ref (kB G + 182)), (1, .int v1), (2, .int v2), (3, .int v3), (4, .int v4')] []) (h : b_X2_lightest_89 G Q K45 v1 v2 v3 v5 s) : WB x G 6 (QfI x G 0 0 Q) 0 0 s 89 [(0, .ref (kB G + 182)), (1, .int v1), (2, .int v2), (3, .int v3), (5, .int v5)] [] := by
  unfold b_X2_lightest_89 at h
  refine r_iload X 4 dX2_lightest_89 rfl ?_
  refine r_istore (lv' := [(4, .int v5), (0, .ref (kB G + 182)), (1, .int v1), (2, .int v2), (3, .int v3), (5, .int v5)]) X dX2_lightest_91 (Nat.le_of_ble_eq_true rfl) rfl ?_
  refine r_aload_n X 1 dX2_lightest_93 rfl rfl ?_
  refine r_cv X (r_okVL (As := []) (rest := []) X (m_X2_takeRow (xl x) G X.2.2.2.2.1 hph s _ h) (cl_X2_397 X ⟨(Nat.le_of_ble_eq_true rfl), (Nat.le_of_ble_eq_true rfl)⟩) hph 2 ly_182 rfl rfl rfl rfl (Nat.le_of_ble_eq_true rfl) dX2_lightest_94 ⟨Nat.le_of_ble_eq_true rfl, Nat.le_of_ble_eq_true rfl⟩) (fun s1 h => ?_)
  refine r_goto X 45 dX2_lightest_97 (by decide) ?_
  refine r_sub [1, 2, 3, 4, 0] rfl ?_
  exact hK45 v5 s1 h
theorem tl_X2_lightest_45 {x : CT} {G : GT} (X : Cx x G cX2_lightest 6 RX2 (some .int) rm_X2_lightest) (hph : kP G = 1) (Q : Int32 → PS → Prop) (v1 : Int32) (v2 : Int32) (v3 : Int32) : ∀ (n : Nat) (v4 : Int32) (s : PS) (h : l_X2_lightest_45 G Q v1 v2 v3 n v4 s), WB x G 6 (QfI x G 0 0 Q) 0 0 s 45 [(0, .ref (kB G + 182)), (1, .int v1), (2, .int v2), (3, .int v3), (4, .int v4)] [] := by
  intro n
  induction n with
  | zero =>
    intro v4 s h
    exact False.elim h
  | succ n ih =>
    intro v4 s h
    unfold l_X2_lightest_45 at h
    refine r_aload_n X 0 dX2_lightest_45 rfl rfl ?_
    refine r_ci X (r_okVL (As := []) (rest := []) X (m_X2_nextRow (xl x) G X.2.2.2.2.1 hph s _ h) (cl_X2_400 X ⟨(Nat.le_of_ble_eq_true rfl), (Nat.le_of_ble_eq_true rfl)⟩) hph 2 ly_182 rfl rfl rfl rfl (Nat.le_of_ble_eq_true rfl) dX2_lightest_46 ⟨Nat.le_of_ble_eq_true rfl, Nat.le_of_ble_eq_true rfl⟩) (fun r2 s1 h => ?_)
    obtain ⟨z3, h⟩ := h
    refine r_if_eq X 100 dX2_lightest_49 (by decide) (fun c4 => ?_) (fun c4 => ?_)
    · replace h := h.1 c4
      refine r_aload_n X 0 dX2_lightest_100 rfl rfl ?_
      refine r_cv X (r_okVL (As := []) (rest := []) X (m_X2_putBack (xl x) G X.2.2.2.2.1 hph s1 _ h) (cl_X2_404 X ⟨(Nat.le_of_ble_eq_true rfl), (Nat.le_of_ble_eq_true rfl)⟩) hph 2 ly_182 rfl rfl rfl rfl (Nat.le_of_ble_eq_true rfl) dX2_lightest_101 ⟨Nat.le_of_ble_eq_true rfl, Nat.le_of_ble_eq_true rfl⟩) (fun s5 h => ?_)
      refine r_iload_n X 3 dX2_lightest_104 rfl rfl ?_
      refine r_iconst (v := (-1)) X dX2_lightest_105 rfl ?_
      refine r_ic_ne X 114 dX2_lightest_106 (by decide) (fun c6 => ?_) (fun c6 => ?_)
      · replace h := h.2 c6
        refine r_iload_n X 3 dX2_lightest_114 rfl rfl ?_
        refine r_aload_n X 0 dX2_lightest_115 rfl rfl ?_
        refine gl_X2_367 X hph 182 ly_182 dX2_lightest_116 ?_
        refine r_ic_ge X 131 dX2_lightest_119 (by decide) (fun c7 => ?_) (fun c7 => ?_)
        · replace h := h.1 c7
          refine r_ldc_w X q1658 dX2_lightest_131 ?_
          exact r_iret X h (Nat.le_of_ble_eq_true rfl) (Nat.le_of_ble_eq_true rfl) dX2_lightest_134
        · replace h := h.2 c7
          refine r_aload_n X 0 dX2_lightest_122 rfl rfl ?_
          refine gr_X2_45 X hph 13 182 192 ly_182 rfl rfl dX2_lightest_123 ?_
          refine r_iload_n X 3 dX2_lightest_126 rfl rfl ?_
          obtain ⟨g8, h⟩ := h
          refine r_ialdL X hph 192 24 ly_192 rfl g8 dX2_lightest_127 ?_
          refine r_goto X 134 dX2_lightest_128 (by decide) ?_
          exact r_iret X h (Nat.le_of_ble_eq_true rfl) (Nat.le_of_ble_eq_true rfl) dX2_lightest_134
      · replace h := h.1 c6
        refine r_iload X 4 dX2_lightest_109 rfl ?_
        refine r_goto X 134 dX2_lightest_111 (by decide) ?_
        exact r_iret X h (Nat.le_of_ble_eq_true rfl) (Nat.le_of_ble_eq_true rfl) dX2_lightest_134
    · replace h := h.2 c4
      refine r_aload_n X 0 dX2_lightest_52 rfl rfl ?_
      refine r_iload_n X 1 dX2_lightest_53 rfl rfl ?_
      refine r_aload_n X 0 dX2_lightest_54 rfl rfl ?_
      refine gr_X2_7 X hph 13 182 183 ly_182 rfl rfl dX2_lightest_55 ?_
      refine r_iconst (v := 3) X dX2_lightest_58 rfl ?_
      refine r_ialdL X hph 183 5544 ly_183 tn_3 il_3_5544 dX2_lightest_59 ?_
      refine r_ci X (r_okVL (As := [.int v1, .int (gI s1 (kB G + 183) 3)]) (rest := []) X (m_X2_endOf (xl x) G X.2.2.2.2.1 hph v1 (gI s1 (kB G + 183) 3) s1 _ h) (cl_X2_394 X ⟨(Nat.le_of_ble_eq_true rfl), (Nat.le_of_ble_eq_true rfl)⟩) hph 2 ly_182 rfl rfl rfl rfl (Nat.le_of_ble_eq_true rfl) dX2_lightest_60 ⟨Nat.le_of_ble_eq_true rfl, Nat.le_of_ble_eq_true rfl⟩) (fun r10 s9 h => ?_)
      refine r_istore (lv' := [(5, .int r10), (0, .ref (kB G + 182)), (1, .int v1), (2, .int v2), (3, .int v3), (4, .int v4)]) X dX2_lightest_63 (Nat.le_of_ble_eq_true rfl) rfl ?_
      refine r_iload_n X 3 dX2_lightest_65 rfl rfl ?_
      refine r_if_eq X 79 dX2_lightest_66 (by decide) (fun c11 => ?_) (fun c11 => ?_)
      · replace h := h.1 c11
        refine r_iload X 0 dX2_lightest_79 rfl ?_
        refine r_iload X 5 dX2_lightest_81 rfl ?_
        refine r_ic_lt X 89 dX2_lightest_83 (by decide) (fun c12 => ?_) (fun c12 => ?_)
        · replace h := h.1 c12
          refine r_sub [1, 2, 3, 4, 0] rfl ?_
          exact tb_X2_lightest_89 X hph Q (l_X2_lightest_45 G Q v1 v2 v3 n) v1 v2 v3 r10 s9 ih h
        · replace h := h.2 c12
          refine r_goto X 45 dX2_lightest_86 (by decide) ?_
          refine r_sub [1, 2, 3, 4, 5] rfl ?_
          exact ih v4 s9 h
      · replace h := h.2 c11
        refine r_iload X 0 dX2_lightest_69 rfl ?_
        refine r_iload X 5 dX2_lightest_71 rfl ?_
        refine r_ic_gt X 89 dX2_lightest_73 (by decide) (fun c13 => ?_) (fun c13 => ?_)
        · replace h := h.1 c13
          refine r_sub [1, 2, 3, 4, 0] rfl ?_
          exact tb_X2_lightest_89 X hph Q (l_X2_lightest_45 G Q v1 v2 v3 n) v1 v2 v3 r10 s9 ih h
        · replace h := h.2 c13
          refine r_goto X 45 dX2_lightest_76 (by decide) ?_
          refine r_sub [1, 2, 3, 4, 5] rfl ?_
          exact ih v4 s9 h
theorem e_X2_lightest {x : CT} {G : GT} (X : Cx x G cX2_lightest 6 RX2 (some .int) rm_X2_lightest) (hph : kP G = 1) (p1 : Int32) (p2 : Int32) (p3 : Int32) (s : PS) (Q : Int32 → PS → Prop) (h : w_X2_lightest G p1 p2 p3 s Q) : WB x G 6 (QfI x G 0 0 Q) 0 0 s 0 [(0, .ref (kB G + 182)), (1, .int p1), (2, .int p2), (3, .int p3)] [] := by
  unfold w_X2_lightest at h
  refine r_aload_n X 0 dX2_lightest_0 rfl rfl ?_
  refine r_iload_n X 1 dX2_lightest_1 rfl rfl ?_
  refine r_bipush (v := 7) X dX2_lightest_2 rfl ?_
  refine r_ci X (r_okVL (As := [.int p1, .int 7]) (rest := []) X (m_X2_isFew (xl x) G X.2.2.2.2.1 hph p1 7 s _ h) (cl_X2_388 X ⟨(Nat.le_of_ble_eq_true rfl), (Nat.le_of_ble_eq_true rfl)⟩) hph 2 ly_182 rfl rfl rfl rfl (Nat.le_of_ble_eq_true rfl) dX2_lightest_4 ⟨Nat.le_of_ble_eq_true rfl, Nat.le_of_ble_eq_true rfl⟩) (fun r2 s1 h => ?_)
  obtain ⟨z3, h⟩ := h
  refine r_if_eq X 15 dX2_lightest_7 (by decide) (fun c4 => ?_) (fun c4 => ?_)
  · replace h := h.1 c4
    refine r_ldc_w X q1658 dX2_lightest_15 ?_
    exact r_iret X h (Nat.le_of_ble_eq_true rfl) (Nat.le_of_ble_eq_true rfl) dX2_lightest_18
  · replace h := h.2 c4
    refine r_iload_n X 3 dX2_lightest_10 rfl rfl ?_
    refine r_iconst (v := (-1)) X dX2_lightest_11 rfl ?_
    refine r_ic_ge X 19 dX2_lightest_12 (by decide) (fun c5 => ?_) (fun c5 => ?_)
    · replace h := h.1 c5
      refine r_aload_n X 0 dX2_lightest_19 rfl rfl ?_
      refine r_cv X (r_okVL (As := []) (rest := []) X (m_X2_setAside (xl x) G X.2.2.2.2.1 hph s1 _ h) (cl_X2_391 X ⟨(Nat.le_of_ble_eq_true rfl), (Nat.le_of_ble_eq_true rfl)⟩) hph 2 ly_182 rfl rfl rfl rfl (Nat.le_of_ble_eq_true rfl) dX2_lightest_20 ⟨Nat.le_of_ble_eq_true rfl, Nat.le_of_ble_eq_true rfl⟩) (fun s6 h => ?_)
      refine r_aload_n X 0 dX2_lightest_23 rfl rfl ?_
      refine r_iload_n X 1 dX2_lightest_24 rfl rfl ?_
      refine r_cv X (r_okVL (As := [.int p1]) (rest := []) X (m_X2_layRow (xl x) G X.2.2.2.2.1 hph p1 s6 _ h) (cl_X2_373 X ⟨(Nat.le_of_ble_eq_true rfl), (Nat.le_of_ble_eq_true rfl)⟩) hph 2 ly_182 rfl rfl rfl rfl (Nat.le_of_ble_eq_true rfl) dX2_lightest_25 ⟨Nat.le_of_ble_eq_true rfl, Nat.le_of_ble_eq_true rfl⟩) (fun s7 h => ?_)
      refine r_aload_n X 0 dX2_lightest_28 rfl rfl ?_
      refine r_iload_n X 1 dX2_lightest_29 rfl rfl ?_
      refine r_aload_n X 0 dX2_lightest_30 rfl rfl ?_
      refine gr_X2_7 X hph 13 182 183 ly_182 rfl rfl dX2_lightest_31 ?_
      refine r_iconst (v := 3) X dX2_lightest_34 rfl ?_
      refine r_ialdL X hph 183 5544 ly_183 tn_3 il_3_5544 dX2_lightest_35 ?_
      refine r_ci X (r_okVL (As := [.int p1, .int (gI s7 (kB G + 183) 3)]) (rest := []) X (m_X2_endOf (xl x) G X.2.2.2.2.1 hph p1 (gI s7 (kB G + 183) 3) s7 _ h) (cl_X2_394 X ⟨(Nat.le_of_ble_eq_true rfl), (Nat.le_of_ble_eq_true rfl)⟩) hph 2 ly_182 rfl rfl rfl rfl (Nat.le_of_ble_eq_true rfl) dX2_lightest_36 ⟨Nat.le_of_ble_eq_true rfl, Nat.le_of_ble_eq_true rfl⟩) (fun r9 s8 h => ?_)
      refine r_istore (lv' := [(4, .int r9), (0, .ref (kB G + 182)), (1, .int p1), (2, .int p2), (3, .int p3)]) X dX2_lightest_39 (Nat.le_of_ble_eq_true rfl) rfl ?_
      refine r_aload_n X 1 dX2_lightest_41 rfl rfl ?_
      refine r_cv X (r_okVL (As := []) (rest := []) X (m_X2_takeRow (xl x) G X.2.2.2.2.1 hph s8 _ h) (cl_X2_397 X ⟨(Nat.le_of_ble_eq_true rfl), (Nat.le_of_ble_eq_true rfl)⟩) hph 2 ly_182 rfl rfl rfl rfl (Nat.le_of_ble_eq_true rfl) dX2_lightest_42 ⟨Nat.le_of_ble_eq_true rfl, Nat.le_of_ble_eq_true rfl⟩) (fun s10 h => ?_)
      refine r_sub [1, 2, 3, 4, 0] rfl ?_
      obtain ⟨n11, h⟩ := h
      exact tl_X2_lightest_45 X hph Q p1 p2 p3 n11 r9 s10 h
    · replace h := h.2 c5
      refine r_ldc_w X q1658 dX2_lightest_15 ?_
      exact r_iret X h (Nat.le_of_ble_eq_true rfl) (Nat.le_of_ble_eq_true rfl) dX2_lightest_18
theorem m_X2_lightest (l : Launch) (G : GT) (g : GK G) (hph : kP G = 1) (p1 : Int32) (p2 : Int32) (p3 : Int32) (s : PS) (Q : Int32 → PS → Prop) (h : w_X2_lightest G p1 p2 p3 s Q) : Met l yX2_lightest (ws_ yX2_lightest cX2_lightest 6 (some .int)) rm_X2_lightest (va_Pc [.ref (kB G + 182), .int p1, .int p2, .int p3] (Wr G s)) (va_Qi Q (fun u t => Wr G u t) (kF G)) 0 0 (kF G) := by
  refine Met.ofW (cc := cX2_lightest) (maxL := 6) (ret := (some .int)) (by decide) rfl ?_
  intro p e s0 m args below meth c s₁ B hml hv
  obtain ⟨rfl, hw⟩ := hv
  exact wb_of [.ref (kB G + 182), .int p1, .int p2, .int p3] (Nat.le_of_ble_eq_true rfl) hw.1 rfl (e_X2_lightest (cx_of g B hml rfl hw) hph p1 p2 p3 s Q h)
theorem tb_X2_passing_80 {x : CT} {G : GT} (X : Cx x G cX2_passing 6 RX2 (some .int) rm_X2_passing) (hph : kP G = 1) (Q : Int32 → PS → Prop) (K32 : Int32 → Int32 → PS → Prop) (v1 : Int32) (v2 : Int32) (t0 : Int32) (s : PS) (hK32 : ∀ (v3' : Int32) (v4' : Int32) (s' : PS), K32 v3' v4' s' → WB x G 6 (QfI x G 0 0 Q) 0 0 s' 32 [(0, .ref (kB G + 182)), (1, .int v1), (2, .int v2), (3, .int v3'), (4, .int v4')] []) (h : b_X2_passing_80 G Q K32 v1 v2 t0 s) : WB x G 6 (QfI x G 0 0 Q) 0 0 s 80 [(0, .ref (kB G + 182)), (1, .int v1), (2, .int v2)] [.int t0] := by
  unfold b_X2_passing_80 at h
  refine r_istore (lv' := [(4, .int t0), (0, .ref (kB G + 182)), (1, .int v1), (2, .int v2)]) X dX2_passing_80 (Nat.le_of_ble_eq_true rfl) rfl ?_
  refine r_iload X 0 dX2_passing_82 rfl ?_
  refine r_if_ne X 98 dX2_passing_84 (by decide) (fun c1 => ?_) (fun c1 => ?_)
  · replace h := h.2 c1
    refine r_iconst (v := 0) X dX2_passing_98 rfl ?_
    refine r_istore_n (lv' := [(3, .int 0), (4, .int t0), (0, .ref (kB G + 182)), (1, .int v1), (2, .int v2)]) X dX2_passing_99 rfl (Nat.le_of_ble_eq_true rfl) rfl ?_
    refine r_goto X 32 dX2_passing_100 (by decide) ?_
    refine r_sub [2, 3, 4, 0, 1] rfl ?_
    exact hK32 0 t0 s h
  · replace h := h.1 c1
    refine r_aload_n X 1 dX2_passing_87 rfl rfl ?_
    refine r_ci X (r_okVL (As := []) (rest := []) X (m_X2_nextRow (xl x) G X.2.2.2.2.1 hph s _ h) (cl_X2_400 X ⟨(Nat.le_of_ble_eq_true rfl), (Nat.le_of_ble_eq_true rfl)⟩) hph 2 ly_182 rfl rfl rfl rfl (Nat.le_of_ble_eq_true rfl) dX2_passing_88 ⟨Nat.le_of_ble_eq_true rfl, Nat.le_of_ble_eq_true rfl⟩) (fun r3 s2 h => ?_)
    obtain ⟨z4, h⟩ := h
    have hJ : WB x G 6 (QfI x G 0 0 Q) 0 0 s2 99 [(4, .int t0), (0, .ref (kB G + 182)), (1, .int v1), (2, .int v2)] [.int (if r3 = 0 then 0 else 1 : Int32)] := by
      refine r_nmI (fun y6 e7 => ?_)
      replace h := h y6 e7
      refine r_istore_n (lv' := [(3, .int y6), (4, .int t0), (0, .ref (kB G + 182)), (1, .int v1), (2, .int v2)]) X dX2_passing_99 rfl (Nat.le_of_ble_eq_true rfl) rfl ?_
      refine r_goto X 32 dX2_passing_100 (by decide) ?_
      refine r_sub [2, 3, 4, 0, 1] rfl ?_
      exact hK32 y6 t0 s2 h
    refine r_if_eq X 98 dX2_passing_91 (by decide) (fun c5 => ?_) (fun c5 => ?_)
    · rw [if_pos c5] at hJ
      refine r_iconst (v := 0) X dX2_passing_98 rfl ?_
      exact hJ
    · rw [if_neg c5] at hJ
      refine r_iconst (v := 1) X dX2_passing_94 rfl ?_
      refine r_goto X 99 dX2_passing_95 (by decide) ?_
      exact hJ
theorem tb_X2_passing_79 {x : CT} {G : GT} (X : Cx x G cX2_passing 6 RX2 (some .int) rm_X2_passing) (hph : kP G = 1) (Q : Int32 → PS → Prop) (K32 : Int32 → Int32 → PS → Prop) (v1 : Int32) (v2 : Int32) (s : PS) (hK32 : ∀ (v3' : Int32) (v4' : Int32) (s' : PS), K32 v3' v4' s' → WB x G 6 (QfI x G 0 0 Q) 0 0 s' 32 [(0, .ref (kB G + 182)), (1, .int v1), (2, .int v2), (3, .int v3'), (4, .int v4')] []) (h : b_X2_passing_79 G Q K32 v1 v2 s) : WB x G 6 (QfI x G 0 0 Q) 0 0 s 79 [(0, .ref (kB G + 182)), (1, .int v1), (2, .int v2)] [] := by
  unfold b_X2_passing_79 at h
  refine r_iconst (v := 0) X dX2_passing_79 rfl ?_
  exact tb_X2_passing_80 X hph Q K32 v1 v2 0 s hK32 h
theorem tb_X2_passing_103 {x : CT} {G : GT} (X : Cx x G cX2_passing 6 RX2 (some .int) rm_X2_passing) (hph : kP G = 1) (Q : Int32 → PS → Prop) (v2 : Int32) (v4 : Int32) (s : PS) (h : b_X2_passing_103 G Q v2 v4 s) : WB x G 6 (QfI x G 0 0 Q) 0 0 s 103 [(0, .ref (kB G + 182)), (2, .int v2), (4, .int v4)] [] := by
  unfold b_X2_passing_103 at h
  refine r_aload_n X 0 dX2_passing_103 rfl rfl ?_
  refine r_cv X (r_okVL (As := []) (rest := []) X (m_X2_putBack (xl x) G X.2.2.2.2.1 hph s _ h) (cl_X2_404 X ⟨(Nat.le_of_ble_eq_true rfl), (Nat.le_of_ble_eq_true rfl)⟩) hph 2 ly_182 rfl rfl rfl rfl (Nat.le_of_ble_eq_true rfl) dX2_passing_104 ⟨Nat.le_of_ble_eq_true rfl, Nat.le_of_ble_eq_true rfl⟩) (fun s1 h => ?_)
  refine r_iload_n X 1 dX2_passing_107 rfl rfl ?_
  refine r_iconst (v := (-1)) X dX2_passing_108 rfl ?_
  refine r_ic_ne X 123 dX2_passing_109 (by decide) (fun c2 => ?_) (fun c2 => ?_)
  · replace h := h.2 c2
    refine r_iload X 2 dX2_passing_123 rfl ?_
    refine r_if_eq X 145 dX2_passing_125 (by decide) (fun c4 => ?_) (fun c4 => ?_)
    · replace h := h.1 c4
      refine r_bipush (v := (-2)) X dX2_passing_145 rfl ?_
      exact r_iret X h (Nat.le_of_ble_eq_true rfl) (Nat.le_of_ble_eq_true rfl) dX2_passing_147
    · replace h := h.2 c4
      refine r_iload_n X 1 dX2_passing_128 rfl rfl ?_
      refine r_aload_n X 0 dX2_passing_129 rfl rfl ?_
      refine gl_X2_367 X hph 182 ly_182 dX2_passing_130 ?_
      refine r_ic_ge X 145 dX2_passing_133 (by decide) (fun c5 => ?_) (fun c5 => ?_)
      · replace h := h.1 c5
        refine r_bipush (v := (-2)) X dX2_passing_145 rfl ?_
        exact r_iret X h (Nat.le_of_ble_eq_true rfl) (Nat.le_of_ble_eq_true rfl) dX2_passing_147
      · replace h := h.2 c5
        refine r_aload_n X 0 dX2_passing_136 rfl rfl ?_
        refine gr_X2_39 X hph 13 182 190 ly_182 rfl rfl dX2_passing_137 ?_
        refine r_iload_n X 1 dX2_passing_140 rfl rfl ?_
        obtain ⟨g6, h⟩ := h
        refine r_ialdL X hph 190 24 ly_190 rfl g6 dX2_passing_141 ?_
        refine r_goto X 147 dX2_passing_142 (by decide) ?_
        exact r_iret X h (Nat.le_of_ble_eq_true rfl) (Nat.le_of_ble_eq_true rfl) dX2_passing_147
  · replace h := h.1 c2
    refine r_iload X 2 dX2_passing_112 rfl ?_
    have hJ : WB x G 6 (QfI x G 0 0 Q) 0 0 s1 122 [(0, .ref (kB G + 182)), (2, .int v2), (4, .int v4)] [.int (if v4 = 0 then 0 else 1 : Int32)] := by
      exact r_iret X h (Nat.le_of_ble_eq_true rfl) (Nat.le_of_ble_eq_true rfl) dX2_passing_122
    refine r_if_eq X 121 dX2_passing_114 (by decide) (fun c3 => ?_) (fun c3 => ?_)
    · rw [if_pos c3] at hJ
      refine r_iconst (v := 0) X dX2_passing_121 rfl ?_
      exact hJ
    · rw [if_neg c3] at hJ
      refine r_iconst (v := 1) X dX2_passing_117 rfl ?_
      refine r_goto X 122 dX2_passing_118 (by decide) ?_
      exact hJ
theorem tl_X2_passing_32 {x : CT} {G : GT} (X : Cx x G cX2_passing 6 RX2 (some .int) rm_X2_passing) (hph : kP G = 1) (Q : Int32 → PS → Prop) (v1 : Int32) (v2 : Int32) : ∀ (n : Nat) (v3 : Int32) (v4 : Int32) (s : PS) (h : l_X2_passing_32 G Q v1 v2 n v3 v4 s), WB x G 6 (QfI x G 0 0 Q) 0 0 s 32 [(0, .ref (kB G + 182)), (1, .int v1), (2, .int v2), (3, .int v3), (4, .int v4)] [] := by
  intro n
  induction n with
  | zero =>
    intro v3 v4 s h
    exact False.elim h
  | succ n ih =>
    intro v3 v4 s h
    unfold l_X2_passing_32 at h
    refine r_iload_n X 3 dX2_passing_32 rfl rfl ?_
    refine r_if_eq X 103 dX2_passing_33 (by decide) (fun c1 => ?_) (fun c1 => ?_)
    · replace h := h.1 c1
      refine r_sub [0, 2, 4] rfl ?_
      exact tb_X2_passing_103 X hph Q v2 v4 s h
    · replace h := h.2 c1
      refine r_iload X 4 dX2_passing_36 rfl ?_
      refine r_if_ne X 103 dX2_passing_38 (by decide) (fun c2 => ?_) (fun c2 => ?_)
      · replace h := h.2 c2
        refine r_sub [0, 2, 4] rfl ?_
        exact tb_X2_passing_103 X hph Q v2 v4 s h
      · replace h := h.1 c2
        refine r_aload_n X 0 dX2_passing_41 rfl rfl ?_
        refine r_iload_n X 1 dX2_passing_42 rfl rfl ?_
        refine r_aload_n X 0 dX2_passing_43 rfl rfl ?_
        refine gr_X2_7 X hph 13 182 183 ly_182 rfl rfl dX2_passing_44 ?_
        refine r_iconst (v := 3) X dX2_passing_47 rfl ?_
        refine r_ialdL X hph 183 5544 ly_183 tn_3 il_3_5544 dX2_passing_48 ?_
        refine r_ci X (r_okVL (As := [.int v1, .int (gI s (kB G + 183) 3)]) (rest := []) X (m_X2_endOf (xl x) G X.2.2.2.2.1 hph v1 (gI s (kB G + 183) 3) s _ h) (cl_X2_394 X ⟨(Nat.le_of_ble_eq_true rfl), (Nat.le_of_ble_eq_true rfl)⟩) hph 2 ly_182 rfl rfl rfl rfl (Nat.le_of_ble_eq_true rfl) dX2_passing_49 ⟨Nat.le_of_ble_eq_true rfl, Nat.le_of_ble_eq_true rfl⟩) (fun r4 s3 h => ?_)
        refine r_istore (lv' := [(5, .int r4), (0, .ref (kB G + 182)), (1, .int v1), (2, .int v2), (3, .int v3), (4, .int v4)]) X dX2_passing_52 (Nat.le_of_ble_eq_true rfl) rfl ?_
        refine r_aload_n X 1 dX2_passing_54 rfl rfl ?_
        refine r_ci X (r_okVL (As := []) (rest := []) X (m_X2_verdict (xl x) G X.2.2.2.2.1 hph s3 _ h) (cl_X2_315 X ⟨(Nat.le_of_ble_eq_true rfl), (Nat.le_of_ble_eq_true rfl)⟩) hph 2 ly_182 rfl rfl rfl rfl (Nat.le_of_ble_eq_true rfl) dX2_passing_55 ⟨Nat.le_of_ble_eq_true rfl, Nat.le_of_ble_eq_true rfl⟩) (fun r6 s5 h => ?_)
        refine r_if_le X 79 dX2_passing_58 (by decide) (fun c7 => ?_) (fun c7 => ?_)
        · replace h := h.1 c7
          refine r_sub [1, 2, 3] rfl ?_
          exact tb_X2_passing_79 X hph Q (l_X2_passing_32 G Q v1 v2 n) v1 v2 s5 ih h
        · replace h := h.2 c7
          refine r_iload X 0 dX2_passing_61 rfl ?_
          refine r_aload_n X 1 dX2_passing_63 rfl rfl ?_
          refine gr_X2_7 X hph 13 182 183 ly_182 rfl rfl dX2_passing_64 ?_
          refine r_bipush (v := 12) X dX2_passing_67 rfl ?_
          refine r_iload_n X 2 dX2_passing_69 rfl rfl ?_
          refine r_iadd X dX2_passing_70 ?_
          obtain ⟨g8, h⟩ := h
          refine r_ialdL X hph 183 5544 ly_183 rfl g8 dX2_passing_71 ?_
          have hJ : WB x G 6 (QfI x G 0 0 Q) 0 0 s5 80 [(5, .int r4), (0, .ref (kB G + 182)), (1, .int v1), (2, .int v2), (3, .int v3), (4, .int v4)] [.int (if (gI s5 (kB G + 183) (12 + v1).toNatClampNeg) < r4 then 0 else 1 : Int32)] := by
            refine r_nmI (fun y10 e11 => ?_)
            replace h := h y10 e11
            refine r_istore (lv' := [(4, .int y10), (5, .int r4), (0, .ref (kB G + 182)), (1, .int v1), (2, .int v2), (3, .int v3)]) X dX2_passing_80 (Nat.le_of_ble_eq_true rfl) rfl ?_
            refine r_iload X 0 dX2_passing_82 rfl ?_
            refine r_if_ne X 98 dX2_passing_84 (by decide) (fun c12 => ?_) (fun c12 => ?_)
            · replace h := h.2 c12
              refine r_iconst (v := 0) X dX2_passing_98 rfl ?_
              refine r_istore_n (lv' := [(3, .int 0), (4, .int y10), (5, .int r4), (0, .ref (kB G + 182)), (1, .int v1), (2, .int v2)]) X dX2_passing_99 rfl (Nat.le_of_ble_eq_true rfl) rfl ?_
              refine r_goto X 32 dX2_passing_100 (by decide) ?_
              refine r_sub [3, 4, 5, 0, 1] rfl ?_
              exact ih 0 y10 s5 h
            · replace h := h.1 c12
              refine r_aload_n X 2 dX2_passing_87 rfl rfl ?_
              refine r_ci X (r_okVL (As := []) (rest := []) X (m_X2_nextRow (xl x) G X.2.2.2.2.1 hph s5 _ h) (cl_X2_400 X ⟨(Nat.le_of_ble_eq_true rfl), (Nat.le_of_ble_eq_true rfl)⟩) hph 2 ly_182 rfl rfl rfl rfl (Nat.le_of_ble_eq_true rfl) dX2_passing_88 ⟨Nat.le_of_ble_eq_true rfl, Nat.le_of_ble_eq_true rfl⟩) (fun r14 s13 h => ?_)
              obtain ⟨z15, h⟩ := h
              have hJ : WB x G 6 (QfI x G 0 0 Q) 0 0 s13 99 [(4, .int y10), (5, .int r4), (0, .ref (kB G + 182)), (1, .int v1), (2, .int v2), (3, .int v3)] [.int (if r14 = 0 then 0 else 1 : Int32)] := by
                refine r_nmI (fun y17 e18 => ?_)
                replace h := h y17 e18
                refine r_istore_n (lv' := [(3, .int y17), (4, .int y10), (5, .int r4), (0, .ref (kB G + 182)), (1, .int v1), (2, .int v2)]) X dX2_passing_99 rfl (Nat.le_of_ble_eq_true rfl) rfl ?_
                refine r_goto X 32 dX2_passing_100 (by decide) ?_
                refine r_sub [3, 4, 5, 0, 1] rfl ?_
                exact ih y17 y10 s13 h
              refine r_if_eq X 98 dX2_passing_91 (by decide) (fun c16 => ?_) (fun c16 => ?_)
              · rw [if_pos c16] at hJ
                refine r_iconst (v := 0) X dX2_passing_98 rfl ?_
                exact hJ
              · rw [if_neg c16] at hJ
                refine r_iconst (v := 1) X dX2_passing_94 rfl ?_
                refine r_goto X 99 dX2_passing_95 (by decide) ?_
                exact hJ
          refine r_ic_gt X 79 dX2_passing_72 (by decide) (fun c9 => ?_) (fun c9 => ?_)
          · rw [if_pos c9] at hJ
            refine r_iconst (v := 0) X dX2_passing_79 rfl ?_
            exact hJ
          · rw [if_neg c9] at hJ
            refine r_iconst (v := 1) X dX2_passing_75 rfl ?_
            refine r_goto X 80 dX2_passing_76 (by decide) ?_
            exact hJ
theorem e_X2_passing {x : CT} {G : GT} (X : Cx x G cX2_passing 6 RX2 (some .int) rm_X2_passing) (hph : kP G = 1) (p1 : Int32) (p2 : Int32) (s : PS) (Q : Int32 → PS → Prop) (h : w_X2_passing G p1 p2 s Q) : WB x G 6 (QfI x G 0 0 Q) 0 0 s 0 [(0, .ref (kB G + 182)), (1, .int p1), (2, .int p2)] [] := by
  unfold w_X2_passing at h
  refine r_aload_n X 0 dX2_passing_0 rfl rfl ?_
  refine r_iload_n X 1 dX2_passing_1 rfl rfl ?_
  refine r_bipush (v := 7) X dX2_passing_2 rfl ?_
  refine r_ci X (r_okVL (As := [.int p1, .int 7]) (rest := []) X (m_X2_isFew (xl x) G X.2.2.2.2.1 hph p1 7 s _ h) (cl_X2_388 X ⟨(Nat.le_of_ble_eq_true rfl), (Nat.le_of_ble_eq_true rfl)⟩) hph 2 ly_182 rfl rfl rfl rfl (Nat.le_of_ble_eq_true rfl) dX2_passing_4 ⟨Nat.le_of_ble_eq_true rfl, Nat.le_of_ble_eq_true rfl⟩) (fun r2 s1 h => ?_)
  obtain ⟨z3, h⟩ := h
  refine r_if_eq X 15 dX2_passing_7 (by decide) (fun c4 => ?_) (fun c4 => ?_)
  · replace h := h.1 c4
    refine r_bipush (v := (-2)) X dX2_passing_15 rfl ?_
    exact r_iret X h (Nat.le_of_ble_eq_true rfl) (Nat.le_of_ble_eq_true rfl) dX2_passing_17
  · replace h := h.2 c4
    refine r_iload_n X 2 dX2_passing_10 rfl rfl ?_
    refine r_iconst (v := (-1)) X dX2_passing_11 rfl ?_
    refine r_ic_ge X 18 dX2_passing_12 (by decide) (fun c5 => ?_) (fun c5 => ?_)
    · replace h := h.1 c5
      refine r_aload_n X 0 dX2_passing_18 rfl rfl ?_
      refine r_cv X (r_okVL (As := []) (rest := []) X (m_X2_setAside (xl x) G X.2.2.2.2.1 hph s1 _ h) (cl_X2_391 X ⟨(Nat.le_of_ble_eq_true rfl), (Nat.le_of_ble_eq_true rfl)⟩) hph 2 ly_182 rfl rfl rfl rfl (Nat.le_of_ble_eq_true rfl) dX2_passing_19 ⟨Nat.le_of_ble_eq_true rfl, Nat.le_of_ble_eq_true rfl⟩) (fun s6 h => ?_)
      refine r_aload_n X 0 dX2_passing_22 rfl rfl ?_
      refine r_iload_n X 1 dX2_passing_23 rfl rfl ?_
      refine r_cv X (r_okVL (As := [.int p1]) (rest := []) X (m_X2_layRow (xl x) G X.2.2.2.2.1 hph p1 s6 _ h) (cl_X2_373 X ⟨(Nat.le_of_ble_eq_true rfl), (Nat.le_of_ble_eq_true rfl)⟩) hph 2 ly_182 rfl rfl rfl rfl (Nat.le_of_ble_eq_true rfl) dX2_passing_24 ⟨Nat.le_of_ble_eq_true rfl, Nat.le_of_ble_eq_true rfl⟩) (fun s7 h => ?_)
      refine r_iconst (v := 1) X dX2_passing_27 rfl ?_
      refine r_istore_n (lv' := [(3, .int 1), (0, .ref (kB G + 182)), (1, .int p1), (2, .int p2)]) X dX2_passing_28 rfl (Nat.le_of_ble_eq_true rfl) rfl ?_
      refine r_iconst (v := 0) X dX2_passing_29 rfl ?_
      refine r_istore (lv' := [(4, .int 0), (3, .int 1), (0, .ref (kB G + 182)), (1, .int p1), (2, .int p2)]) X dX2_passing_30 (Nat.le_of_ble_eq_true rfl) rfl ?_
      refine r_sub [2, 3, 4, 1, 0] rfl ?_
      obtain ⟨n8, h⟩ := h
      exact tl_X2_passing_32 X hph Q p1 p2 n8 1 0 s7 h
    · replace h := h.2 c5
      refine r_bipush (v := (-2)) X dX2_passing_15 rfl ?_
      exact r_iret X h (Nat.le_of_ble_eq_true rfl) (Nat.le_of_ble_eq_true rfl) dX2_passing_17
theorem m_X2_passing (l : Launch) (G : GT) (g : GK G) (hph : kP G = 1) (p1 : Int32) (p2 : Int32) (s : PS) (Q : Int32 → PS → Prop) (h : w_X2_passing G p1 p2 s Q) : Met l yX2_passing (ws_ yX2_passing cX2_passing 6 (some .int)) rm_X2_passing (va_Pc [.ref (kB G + 182), .int p1, .int p2] (Wr G s)) (va_Qi Q (fun u t => Wr G u t) (kF G)) 0 0 (kF G) := by
  refine Met.ofW (cc := cX2_passing) (maxL := 6) (ret := (some .int)) (by decide) rfl ?_
  intro p e s0 m args below meth c s₁ B hml hv
  obtain ⟨rfl, hw⟩ := hv
  exact wb_of [.ref (kB G + 182), .int p1, .int p2] (Nat.le_of_ble_eq_true rfl) hw.1 rfl (e_X2_passing (cx_of g B hml rfl hw) hph p1 p2 s Q h)
theorem tl_X2_isOrderless_15 {x : CT} {G : GT} (X : Cx x G cX2_isOrderless 5 RX2 (some .boolean) rm_X2_isOrderless) (hph : kP G = 1) (Q : Int32 → PS → Prop) (v1 : Int32) (v2 : Int32) (v3 : Int32) : ∀ (n : Nat) (v4 : Int32) (s : PS) (h : l_X2_isOrderless_15 G Q v1 v2 v3 n v4 s), WB x G 5 (QfI x G 0 0 (fun r u => (r = 0 ∨ r = 1) ∧ Q r u)) 0 0 s 15 [(0, .ref (kB G + 182)), (1, .int v1), (2, .int v2), (3, .int v3), (4, .int v4)] [] := by
  intro n
  induction n with
  | zero =>
    intro v4 s h
    exact False.elim h
  | succ n ih =>
    intro v4 s h
    unfold l_X2_isOrderless_15 at h
    refine r_iload X 4 dX2_isOrderless_15 rfl ?_
    refine r_if_eq X 47 dX2_isOrderless_17 (by decide) (fun c1 => ?_) (fun c1 => ?_)
    · replace h := h.1 c1
      refine r_iload X 4 dX2_isOrderless_47 rfl ?_
      obtain ⟨g2, h⟩ := h
      exact r_zret X g2 h (Nat.le_of_ble_eq_true rfl) (Nat.le_of_ble_eq_true rfl) dX2_isOrderless_49
    · replace h := h.2 c1
      refine r_aload_n X 0 dX2_isOrderless_20 rfl rfl ?_
      refine r_ci X (r_okVL (As := []) (rest := []) X (m_X2_nextRow (xl x) G X.2.2.2.2.1 hph s _ h) (cl_X2_400 X ⟨(Nat.le_of_ble_eq_true rfl), (Nat.le_of_ble_eq_true rfl)⟩) hph 2 ly_182 rfl rfl rfl rfl (Nat.le_of_ble_eq_true rfl) dX2_isOrderless_21 ⟨Nat.le_of_ble_eq_true rfl, Nat.le_of_ble_eq_true rfl⟩) (fun r4 s3 h => ?_)
      obtain ⟨z5, h⟩ := h
      refine r_if_eq X 47 dX2_isOrderless_24 (by decide) (fun c6 => ?_) (fun c6 => ?_)
      · replace h := h.1 c6
        refine r_iload X 4 dX2_isOrderless_47 rfl ?_
        obtain ⟨g7, h⟩ := h
        exact r_zret X g7 h (Nat.le_of_ble_eq_true rfl) (Nat.le_of_ble_eq_true rfl) dX2_isOrderless_49
      · replace h := h.2 c6
        refine r_aload_n X 0 dX2_isOrderless_27 rfl rfl ?_
        refine r_iload_n X 1 dX2_isOrderless_28 rfl rfl ?_
        refine r_iload_n X 2 dX2_isOrderless_29 rfl rfl ?_
        refine r_ci X (r_okVL (As := [.int v1, .int v2]) (rest := []) X (m_X2_endOf (xl x) G X.2.2.2.2.1 hph v1 v2 s3 _ h) (cl_X2_394 X ⟨(Nat.le_of_ble_eq_true rfl), (Nat.le_of_ble_eq_true rfl)⟩) hph 2 ly_182 rfl rfl rfl rfl (Nat.le_of_ble_eq_true rfl) dX2_isOrderless_30 ⟨Nat.le_of_ble_eq_true rfl, Nat.le_of_ble_eq_true rfl⟩) (fun r9 s8 h => ?_)
        refine r_iload_n X 3 dX2_isOrderless_33 rfl rfl ?_
        have hJ : WB x G 5 (QfI x G 0 0 (fun r u => (r = 0 ∨ r = 1) ∧ Q r u)) 0 0 s8 42 [(0, .ref (kB G + 182)), (1, .int v1), (2, .int v2), (3, .int v3), (4, .int v4)] [.int (if r9 = v3 then 1 else 0 : Int32)] := by
          refine r_nmI (fun y11 e12 => ?_)
          replace h := h y11 e12
          refine r_istore (lv' := [(4, .int y11), (0, .ref (kB G + 182)), (1, .int v1), (2, .int v2), (3, .int v3)]) X dX2_isOrderless_42 (Nat.le_of_ble_eq_true rfl) rfl ?_
          refine r_goto X 15 dX2_isOrderless_44 (by decide) ?_
          refine r_sub [1, 2, 3, 4, 0] rfl ?_
          exact ih y11 s8 h
        refine r_ic_ne X 41 dX2_isOrderless_34 (by decide) (fun c10 => ?_) (fun c10 => ?_)
        · rw [if_neg c10] at hJ
          refine r_iconst (v := 0) X dX2_isOrderless_41 rfl ?_
          exact hJ
        · rw [if_pos c10] at hJ
          refine r_iconst (v := 1) X dX2_isOrderless_37 rfl ?_
          refine r_goto X 42 dX2_isOrderless_38 (by decide) ?_
          exact hJ
theorem e_X2_isOrderless {x : CT} {G : GT} (X : Cx x G cX2_isOrderless 5 RX2 (some .boolean) rm_X2_isOrderless) (hph : kP G = 1) (p1 : Int32) (p2 : Int32) (s : PS) (Q : Int32 → PS → Prop) (h : w_X2_isOrderless G p1 p2 s Q) : WB x G 5 (QfI x G 0 0 (fun r u => (r = 0 ∨ r = 1) ∧ Q r u)) 0 0 s 0 [(0, .ref (kB G + 182)), (1, .int p1), (2, .int p2)] [] := by
  unfold w_X2_isOrderless at h
  refine r_aload_n X 0 dX2_isOrderless_0 rfl rfl ?_
  refine r_iload_n X 1 dX2_isOrderless_1 rfl rfl ?_
  refine r_cv X (r_okVL (As := [.int p1]) (rest := []) X (m_X2_layRow (xl x) G X.2.2.2.2.1 hph p1 s _ h) (cl_X2_373 X ⟨(Nat.le_of_ble_eq_true rfl), (Nat.le_of_ble_eq_true rfl)⟩) hph 2 ly_182 rfl rfl rfl rfl (Nat.le_of_ble_eq_true rfl) dX2_isOrderless_2 ⟨Nat.le_of_ble_eq_true rfl, Nat.le_of_ble_eq_true rfl⟩) (fun s1 h => ?_)
  refine r_aload_n X 0 dX2_isOrderless_5 rfl rfl ?_
  refine r_iload_n X 1 dX2_isOrderless_6 rfl rfl ?_
  refine r_iload_n X 2 dX2_isOrderless_7 rfl rfl ?_
  refine r_ci X (r_okVL (As := [.int p1, .int p2]) (rest := []) X (m_X2_endOf (xl x) G X.2.2.2.2.1 hph p1 p2 s1 _ h) (cl_X2_394 X ⟨(Nat.le_of_ble_eq_true rfl), (Nat.le_of_ble_eq_true rfl)⟩) hph 2 ly_182 rfl rfl rfl rfl (Nat.le_of_ble_eq_true rfl) dX2_isOrderless_8 ⟨Nat.le_of_ble_eq_true rfl, Nat.le_of_ble_eq_true rfl⟩) (fun r3 s2 h => ?_)
  refine r_istore_n (lv' := [(3, .int r3), (0, .ref (kB G + 182)), (1, .int p1), (2, .int p2)]) X dX2_isOrderless_11 rfl (Nat.le_of_ble_eq_true rfl) rfl ?_
  refine r_iconst (v := 1) X dX2_isOrderless_12 rfl ?_
  refine r_istore (lv' := [(4, .int 1), (3, .int r3), (0, .ref (kB G + 182)), (1, .int p1), (2, .int p2)]) X dX2_isOrderless_13 (Nat.le_of_ble_eq_true rfl) rfl ?_
  refine r_sub [2, 3, 4, 1, 0] rfl ?_
  obtain ⟨n4, h⟩ := h
  exact tl_X2_isOrderless_15 X hph Q p1 p2 r3 n4 1 s2 h
theorem m_X2_isOrderless (l : Launch) (G : GT) (g : GK G) (hph : kP G = 1) (p1 : Int32) (p2 : Int32) (s : PS) (Q : Int32 → PS → Prop) (h : w_X2_isOrderless G p1 p2 s Q) : Met l yX2_isOrderless (ws_ yX2_isOrderless cX2_isOrderless 5 (some .boolean)) rm_X2_isOrderless (va_Pc [.ref (kB G + 182), .int p1, .int p2] (Wr G s)) (va_Qi (fun r u => (r = 0 ∨ r = 1) ∧ Q r u) (fun u t => Wr G u t) (kF G)) 0 0 (kF G) := by
  refine Met.ofW (cc := cX2_isOrderless) (maxL := 5) (ret := (some .boolean)) (by decide) rfl ?_
  intro p e s0 m args below meth c s₁ B hml hv
  obtain ⟨rfl, hw⟩ := hv
  exact wb_of [.ref (kB G + 182), .int p1, .int p2] (Nat.le_of_ble_eq_true rfl) hw.1 rfl (e_X2_isOrderless (cx_of g B hml rfl hw) hph p1 p2 s Q h)
theorem e_X2_orderless {x : CT} {G : GT} (X : Cx x G cX2_orderless 3 RX2 (some .int) rm_X2_orderless) (hph : kP G = 1) (p1 : Int32) (s : PS) (Q : Int32 → PS → Prop) (h : w_X2_orderless G p1 s Q) : WB x G 3 (QfI x G 0 0 Q) 0 0 s 0 [(0, .ref (kB G + 182)), (1, .int p1)] [] := by
  unfold w_X2_orderless at h
  refine r_aload_n X 0 dX2_orderless_0 rfl rfl ?_
  refine r_iload_n X 1 dX2_orderless_1 rfl rfl ?_
  refine r_bipush (v := 7) X dX2_orderless_2 rfl ?_
  refine r_ci X (r_okVL (As := [.int p1, .int 7]) (rest := []) X (m_X2_isFew (xl x) G X.2.2.2.2.1 hph p1 7 s _ h) (cl_X2_388 X ⟨(Nat.le_of_ble_eq_true rfl), (Nat.le_of_ble_eq_true rfl)⟩) hph 2 ly_182 rfl rfl rfl rfl (Nat.le_of_ble_eq_true rfl) dX2_orderless_4 ⟨Nat.le_of_ble_eq_true rfl, Nat.le_of_ble_eq_true rfl⟩) (fun r2 s1 h => ?_)
  obtain ⟨z3, h⟩ := h
  refine r_if_ne X 12 dX2_orderless_7 (by decide) (fun c4 => ?_) (fun c4 => ?_)
  · replace h := h.2 c4
    refine r_aload_n X 0 dX2_orderless_12 rfl rfl ?_
    refine r_cv X (r_okVL (As := []) (rest := []) X (m_X2_setAside (xl x) G X.2.2.2.2.1 hph s1 _ h) (cl_X2_391 X ⟨(Nat.le_of_ble_eq_true rfl), (Nat.le_of_ble_eq_true rfl)⟩) hph 2 ly_182 rfl rfl rfl rfl (Nat.le_of_ble_eq_true rfl) dX2_orderless_13 ⟨Nat.le_of_ble_eq_true rfl, Nat.le_of_ble_eq_true rfl⟩) (fun s5 h => ?_)
    refine r_aload_n X 0 dX2_orderless_16 rfl rfl ?_
    refine r_iload_n X 1 dX2_orderless_17 rfl rfl ?_
    refine r_aload_n X 0 dX2_orderless_18 rfl rfl ?_
    refine gr_X2_7 X hph 13 182 183 ly_182 rfl rfl dX2_orderless_19 ?_
    refine r_iconst (v := 3) X dX2_orderless_22 rfl ?_
    refine r_ialdL X hph 183 5544 ly_183 tn_3 il_3_5544 dX2_orderless_23 ?_
    refine r_ci X (r_okVL (As := [.int p1, .int (gI s5 (kB G + 183) 3)]) (rest := []) X (m_X2_isOrderless (xl x) G X.2.2.2.2.1 hph p1 (gI s5 (kB G + 183) 3) s5 _ h) (cl_X2_407 X ⟨(Nat.le_of_ble_eq_true rfl), (Nat.le_of_ble_eq_true rfl)⟩) hph 2 ly_182 rfl rfl rfl rfl (Nat.le_of_ble_eq_true rfl) dX2_orderless_24 ⟨Nat.le_of_ble_eq_true rfl, Nat.le_of_ble_eq_true rfl⟩) (fun r7 s6 h => ?_)
    obtain ⟨z8, h⟩ := h
    refine r_istore_n (lv' := [(2, .int r7), (0, .ref (kB G + 182)), (1, .int p1)]) X dX2_orderless_27 rfl (Nat.le_of_ble_eq_true rfl) rfl ?_
    refine r_aload_n X 1 dX2_orderless_28 rfl rfl ?_
    refine r_cv X (r_okVL (As := []) (rest := []) X (m_X2_putBack (xl x) G X.2.2.2.2.1 hph s6 _ h) (cl_X2_404 X ⟨(Nat.le_of_ble_eq_true rfl), (Nat.le_of_ble_eq_true rfl)⟩) hph 2 ly_182 rfl rfl rfl rfl (Nat.le_of_ble_eq_true rfl) dX2_orderless_29 ⟨Nat.le_of_ble_eq_true rfl, Nat.le_of_ble_eq_true rfl⟩) (fun s9 h => ?_)
    refine r_iload_n X 0 dX2_orderless_32 rfl rfl ?_
    have hJ : WB x G 3 (QfI x G 0 0 Q) 0 0 s9 41 [(2, .int r7), (0, .ref (kB G + 182)), (1, .int p1)] [.int (if r7 = 0 then 0 else 1 : Int32)] := by
      exact r_iret X h (Nat.le_of_ble_eq_true rfl) (Nat.le_of_ble_eq_true rfl) dX2_orderless_41
    refine r_if_eq X 40 dX2_orderless_33 (by decide) (fun c10 => ?_) (fun c10 => ?_)
    · rw [if_pos c10] at hJ
      refine r_iconst (v := 0) X dX2_orderless_40 rfl ?_
      exact hJ
    · rw [if_neg c10] at hJ
      refine r_iconst (v := 1) X dX2_orderless_36 rfl ?_
      refine r_goto X 41 dX2_orderless_37 (by decide) ?_
      exact hJ
  · replace h := h.1 c4
    refine r_iconst (v := (-1)) X dX2_orderless_10 rfl ?_
    exact r_iret X h (Nat.le_of_ble_eq_true rfl) (Nat.le_of_ble_eq_true rfl) dX2_orderless_11
theorem m_X2_orderless (l : Launch) (G : GT) (g : GK G) (hph : kP G = 1) (p1 : Int32) (s : PS) (Q : Int32 → PS → Prop) (h : w_X2_orderless G p1 s Q) : Met l yX2_orderless (ws_ yX2_orderless cX2_orderless 3 (some .int)) rm_X2_orderless (va_Pc [.ref (kB G + 182), .int p1] (Wr G s)) (va_Qi Q (fun u t => Wr G u t) (kF G)) 0 0 (kF G) := by
  refine Met.ofW (cc := cX2_orderless) (maxL := 3) (ret := (some .int)) (by decide) rfl ?_
  intro p e s0 m args below meth c s₁ B hml hv
  obtain ⟨rfl, hw⟩ := hv
  exact wb_of [.ref (kB G + 182), .int p1] (Nat.le_of_ble_eq_true rfl) hw.1 rfl (e_X2_orderless (cx_of g B hml rfl hw) hph p1 s Q h)
theorem tb_X2_sticking_53 {x : CT} {G : GT} (X : Cx x G cX2_sticking 3 RX2 (some .int) rm_X2_sticking) (hph : kP G = 1) (Q : Int32 → PS → Prop) (v2 : Int32) (s : PS) (h : b_X2_sticking_53 G Q v2 s) : WB x G 3 (QfI x G 0 0 Q) 0 0 s 53 [(0, .ref (kB G + 182)), (2, .int v2)] [] := by
  unfold b_X2_sticking_53 at h
  refine r_aload_n X 0 dX2_sticking_53 rfl rfl ?_
  refine r_cv X (r_okVL (As := []) (rest := []) X (m_X2_putBack (xl x) G X.2.2.2.2.1 hph s _ h) (cl_X2_404 X ⟨(Nat.le_of_ble_eq_true rfl), (Nat.le_of_ble_eq_true rfl)⟩) hph 2 ly_182 rfl rfl rfl rfl (Nat.le_of_ble_eq_true rfl) dX2_sticking_54 ⟨Nat.le_of_ble_eq_true rfl, Nat.le_of_ble_eq_true rfl⟩) (fun s1 h => ?_)
  refine r_iload_n X 1 dX2_sticking_57 rfl rfl ?_
  refine r_iconst (v := 1) X dX2_sticking_58 rfl ?_
  refine r_isub X dX2_sticking_59 ?_
  exact r_iret X h (Nat.le_of_ble_eq_true rfl) (Nat.le_of_ble_eq_true rfl) dX2_sticking_60
theorem tl_X2_sticking_32 {x : CT} {G : GT} (X : Cx x G cX2_sticking 3 RX2 (some .int) rm_X2_sticking) (hph : kP G = 1) (Q : Int32 → PS → Prop) (v1 : Int32) : ∀ (n : Nat) (v2 : Int32) (s : PS) (h : l_X2_sticking_32 G Q v1 n v2 s), WB x G 3 (QfI x G 0 0 Q) 0 0 s 32 [(0, .ref (kB G + 182)), (1, .int v1), (2, .int v2)] [] := by
  intro n
  induction n with
  | zero =>
    intro v2 s h
    exact False.elim h
  | succ n ih =>
    intro v2 s h
    unfold l_X2_sticking_32 at h
    refine r_iload_n X 2 dX2_sticking_32 rfl rfl ?_
    refine r_bipush (v := 100) X dX2_sticking_33 rfl ?_
    refine r_ic_ge X 53 dX2_sticking_35 (by decide) (fun c1 => ?_) (fun c1 => ?_)
    · replace h := h.1 c1
      refine r_sub [0, 2] rfl ?_
      exact tb_X2_sticking_53 X hph Q v2 s h
    · replace h := h.2 c1
      refine r_aload_n X 0 dX2_sticking_38 rfl rfl ?_
      refine r_iload_n X 1 dX2_sticking_39 rfl rfl ?_
      refine r_iload_n X 2 dX2_sticking_40 rfl rfl ?_
      refine r_ci X (r_okVL (As := [.int v1, .int v2]) (rest := []) X (m_X2_isOrderless (xl x) G X.2.2.2.2.1 hph v1 v2 s _ h) (cl_X2_407 X ⟨(Nat.le_of_ble_eq_true rfl), (Nat.le_of_ble_eq_true rfl)⟩) hph 2 ly_182 rfl rfl rfl rfl (Nat.le_of_ble_eq_true rfl) dX2_sticking_41 ⟨Nat.le_of_ble_eq_true rfl, Nat.le_of_ble_eq_true rfl⟩) (fun r3 s2 h => ?_)
      obtain ⟨z4, h⟩ := h
      refine r_if_eq X 53 dX2_sticking_44 (by decide) (fun c5 => ?_) (fun c5 => ?_)
      · replace h := h.1 c5
        refine r_sub [0, 2] rfl ?_
        exact tb_X2_sticking_53 X hph Q v2 s2 h
      · replace h := h.2 c5
        refine r_iinc (lv' := [(2, .int (v2 + 1)), (0, .ref (kB G + 182)), (1, .int v1)]) X 2 dX2_sticking_47 rfl rfl (Nat.le_of_ble_eq_true rfl) rfl ?_
        refine r_goto X 32 dX2_sticking_50 (by decide) ?_
        refine r_sub [1, 2, 0] rfl ?_
        exact ih (v2 + 1) s2 h
theorem e_X2_sticking {x : CT} {G : GT} (X : Cx x G cX2_sticking 3 RX2 (some .int) rm_X2_sticking) (hph : kP G = 1) (p1 : Int32) (s : PS) (Q : Int32 → PS → Prop) (h : w_X2_sticking G p1 s Q) : WB x G 3 (QfI x G 0 0 Q) 0 0 s 0 [(0, .ref (kB G + 182)), (1, .int p1)] [] := by
  unfold w_X2_sticking at h
  refine r_aload_n X 0 dX2_sticking_0 rfl rfl ?_
  refine r_iload_n X 1 dX2_sticking_1 rfl rfl ?_
  refine r_iconst (v := 5) X dX2_sticking_2 rfl ?_
  refine r_ci X (r_okVL (As := [.int p1, .int 5]) (rest := []) X (m_X2_isFew (xl x) G X.2.2.2.2.1 hph p1 5 s _ h) (cl_X2_388 X ⟨(Nat.le_of_ble_eq_true rfl), (Nat.le_of_ble_eq_true rfl)⟩) hph 2 ly_182 rfl rfl rfl rfl (Nat.le_of_ble_eq_true rfl) dX2_sticking_3 ⟨Nat.le_of_ble_eq_true rfl, Nat.le_of_ble_eq_true rfl⟩) (fun r2 s1 h => ?_)
  obtain ⟨z3, h⟩ := h
  refine r_if_eq X 24 dX2_sticking_6 (by decide) (fun c4 => ?_) (fun c4 => ?_)
  · replace h := h.1 c4
    refine r_iconst (v := (-1)) X dX2_sticking_24 rfl ?_
    exact r_iret X h (Nat.le_of_ble_eq_true rfl) (Nat.le_of_ble_eq_true rfl) dX2_sticking_25
  · replace h := h.2 c4
    refine r_aload_n X 0 dX2_sticking_9 rfl rfl ?_
    refine r_aload_n X 0 dX2_sticking_10 rfl rfl ?_
    refine gr_X2_7 X hph 13 182 183 ly_182 rfl rfl dX2_sticking_11 ?_
    refine r_bipush (v := 7) X dX2_sticking_14 rfl ?_
    refine r_ialdL X hph 183 5544 ly_183 tn_7 il_7_5544 dX2_sticking_16 ?_
    refine r_iconst (v := 1) X dX2_sticking_17 rfl ?_
    refine r_ci X (r_okVL (As := [.int (gI s1 (kB G + 183) 7), .int 1]) (rest := []) X (m_X2_clauseOf (xl x) G X.2.2.2.2.1 hph (gI s1 (kB G + 183) 7) 1 s1 _ h) (cl_X2_278 X ⟨(Nat.le_of_ble_eq_true rfl), (Nat.le_of_ble_eq_true rfl)⟩) hph 2 ly_182 rfl rfl rfl rfl (Nat.le_of_ble_eq_true rfl) dX2_sticking_18 ⟨Nat.le_of_ble_eq_true rfl, Nat.le_of_ble_eq_true rfl⟩) (fun r6 s5 h => ?_)
    refine r_if_lt X 26 dX2_sticking_21 (by decide) (fun c7 => ?_) (fun c7 => ?_)
    · replace h := h.1 c7
      refine r_aload_n X 0 dX2_sticking_26 rfl rfl ?_
      refine r_cv X (r_okVL (As := []) (rest := []) X (m_X2_setAside (xl x) G X.2.2.2.2.1 hph s5 _ h) (cl_X2_391 X ⟨(Nat.le_of_ble_eq_true rfl), (Nat.le_of_ble_eq_true rfl)⟩) hph 2 ly_182 rfl rfl rfl rfl (Nat.le_of_ble_eq_true rfl) dX2_sticking_27 ⟨Nat.le_of_ble_eq_true rfl, Nat.le_of_ble_eq_true rfl⟩) (fun s8 h => ?_)
      refine r_iconst (v := 0) X dX2_sticking_30 rfl ?_
      refine r_istore_n (lv' := [(2, .int 0), (0, .ref (kB G + 182)), (1, .int p1)]) X dX2_sticking_31 rfl (Nat.le_of_ble_eq_true rfl) rfl ?_
      refine r_sub [1, 2, 0] rfl ?_
      obtain ⟨n9, h⟩ := h
      exact tl_X2_sticking_32 X hph Q p1 n9 0 s8 h
    · replace h := h.2 c7
      refine r_iconst (v := (-1)) X dX2_sticking_24 rfl ?_
      exact r_iret X h (Nat.le_of_ble_eq_true rfl) (Nat.le_of_ble_eq_true rfl) dX2_sticking_25
theorem m_X2_sticking (l : Launch) (G : GT) (g : GK G) (hph : kP G = 1) (p1 : Int32) (s : PS) (Q : Int32 → PS → Prop) (h : w_X2_sticking G p1 s Q) : Met l yX2_sticking (ws_ yX2_sticking cX2_sticking 3 (some .int)) rm_X2_sticking (va_Pc [.ref (kB G + 182), .int p1] (Wr G s)) (va_Qi Q (fun u t => Wr G u t) (kF G)) 0 0 (kF G) := by
  refine Met.ofW (cc := cX2_sticking) (maxL := 3) (ret := (some .int)) (by decide) rfl ?_
  intro p e s0 m args below meth c s₁ B hml hv
  obtain ⟨rfl, hw⟩ := hv
  exact wb_of [.ref (kB G + 182), .int p1] (Nat.le_of_ble_eq_true rfl) hw.1 rfl (e_X2_sticking (cx_of g B hml rfl hw) hph p1 s Q h)
theorem tl_X2_truly_14 {x : CT} {G : GT} (X : Cx x G cX2_truly 4 RX2 (some .int) rm_X2_truly) (hph : kP G = 1) (Q : Int32 → PS → Prop) (v1 : Int32) : ∀ (n : Nat) (v2 : Int32) (v3 : Int32) (s : PS) (h : l_X2_truly_14 G Q v1 n v2 v3 s), WB x G 4 (QfI x G 0 0 Q) 0 0 s 14 [(0, .ref (kB G + 182)), (1, .int v1), (2, .int v2), (3, .int v3)] [] := by
  intro n
  induction n with
  | zero =>
    intro v2 v3 s h
    exact False.elim h
  | succ n ih =>
    intro v2 v3 s h
    unfold l_X2_truly_14 at h
    refine r_iload_n X 3 dX2_truly_14 rfl rfl ?_
    refine r_aload_n X 0 dX2_truly_15 rfl rfl ?_
    refine gr_X2_7 X hph 13 182 183 ly_182 rfl rfl dX2_truly_16 ?_
    refine r_iconst (v := 2) X dX2_truly_19 rfl ?_
    refine r_ialdL X hph 183 5544 ly_183 tn_2 il_2_5544 dX2_truly_20 ?_
    refine r_ic_ge X 49 dX2_truly_21 (by decide) (fun c1 => ?_) (fun c1 => ?_)
    · replace h := h.1 c1
      refine r_iload_n X 2 dX2_truly_49 rfl rfl ?_
      exact r_iret X h (Nat.le_of_ble_eq_true rfl) (Nat.le_of_ble_eq_true rfl) dX2_truly_50
    · replace h := h.2 c1
      refine r_iload_n X 2 dX2_truly_24 rfl rfl ?_
      refine r_aload_n X 0 dX2_truly_25 rfl rfl ?_
      refine r_iload_n X 3 dX2_truly_26 rfl rfl ?_
      refine r_iload_n X 1 dX2_truly_27 rfl rfl ?_
      refine r_ci X (r_okVL (As := [.int v3, .int v1]) (rest := [.int v2]) X (m_X2_isSoOf (xl x) G X.2.2.2.2.1 hph v3 v1 s _ h) (cl_X2_306 X ⟨(Nat.le_of_ble_eq_true rfl), (Nat.le_of_ble_eq_true rfl)⟩) hph 2 ly_182 rfl rfl rfl rfl (Nat.le_of_ble_eq_true rfl) dX2_truly_28 ⟨Nat.le_of_ble_eq_true rfl, Nat.le_of_ble_eq_true rfl⟩) (fun r3 s2 h => ?_)
      obtain ⟨z4, h⟩ := h
      have hJ : WB x G 4 (QfI x G 0 0 Q) 0 0 s2 41 [(0, .ref (kB G + 182)), (1, .int v1), (2, .int v2), (3, .int v3)] [.int (if r3 = 0 then ((1 : Int32) <<< (v3 &&& 31)) else 0 : Int32), .int v2] := by
        refine r_ior X dX2_truly_41 ?_
        refine r_nmI (fun y6 e7 => ?_)
        replace h := h y6 e7
        refine r_istore_n (lv' := [(2, .int y6), (0, .ref (kB G + 182)), (1, .int v1), (3, .int v3)]) X dX2_truly_42 rfl (Nat.le_of_ble_eq_true rfl) rfl ?_
        refine r_iinc (lv' := [(3, .int (v3 + 1)), (2, .int y6), (0, .ref (kB G + 182)), (1, .int v1)]) X 3 dX2_truly_43 rfl rfl (Nat.le_of_ble_eq_true rfl) rfl ?_
        refine r_goto X 14 dX2_truly_46 (by decide) ?_
        refine r_sub [2, 3, 1, 0] rfl ?_
        exact ih y6 (v3 + 1) s2 h
      refine r_if_eq X 38 dX2_truly_31 (by decide) (fun c5 => ?_) (fun c5 => ?_)
      · rw [if_pos c5] at hJ
        refine r_iconst (v := 1) X dX2_truly_38 rfl ?_
        refine r_iload_n X 3 dX2_truly_39 rfl rfl ?_
        refine r_ishl X dX2_truly_40 ?_
        exact hJ
      · rw [if_neg c5] at hJ
        refine r_iconst (v := 0) X dX2_truly_34 rfl ?_
        refine r_goto X 41 dX2_truly_35 (by decide) ?_
        exact hJ
theorem e_X2_truly {x : CT} {G : GT} (X : Cx x G cX2_truly 4 RX2 (some .int) rm_X2_truly) (hph : kP G = 1) (p1 : Int32) (s : PS) (Q : Int32 → PS → Prop) (h : w_X2_truly G p1 s Q) : WB x G 4 (QfI x G 0 0 Q) 0 0 s 0 [(0, .ref (kB G + 182)), (1, .int p1)] [] := by
  unfold w_X2_truly at h
  refine r_aload_n X 0 dX2_truly_0 rfl rfl ?_
  refine r_iload_n X 1 dX2_truly_1 rfl rfl ?_
  refine r_ci X (r_okVL (As := [.int p1]) (rest := []) X (m_X2_isHeart (xl x) G X.2.2.2.2.1 hph p1 s _ h) (cl_X2_88 X ⟨(Nat.le_of_ble_eq_true rfl), (Nat.le_of_ble_eq_true rfl)⟩) hph 2 ly_182 rfl rfl rfl rfl (Nat.le_of_ble_eq_true rfl) dX2_truly_2 ⟨Nat.le_of_ble_eq_true rfl, Nat.le_of_ble_eq_true rfl⟩) (fun r2 s1 h => ?_)
  obtain ⟨z3, h⟩ := h
  refine r_if_ne X 10 dX2_truly_5 (by decide) (fun c4 => ?_) (fun c4 => ?_)
  · replace h := h.2 c4
    refine r_iconst (v := 0) X dX2_truly_10 rfl ?_
    refine r_istore_n (lv' := [(2, .int 0), (0, .ref (kB G + 182)), (1, .int p1)]) X dX2_truly_11 rfl (Nat.le_of_ble_eq_true rfl) rfl ?_
    refine r_iconst (v := 0) X dX2_truly_12 rfl ?_
    refine r_istore_n (lv' := [(3, .int 0), (2, .int 0), (0, .ref (kB G + 182)), (1, .int p1)]) X dX2_truly_13 rfl (Nat.le_of_ble_eq_true rfl) rfl ?_
    refine r_sub [2, 3, 1, 0] rfl ?_
    obtain ⟨n5, h⟩ := h
    exact tl_X2_truly_14 X hph Q p1 n5 0 0 s1 h
  · replace h := h.1 c4
    refine r_iconst (v := (-1)) X dX2_truly_8 rfl ?_
    exact r_iret X h (Nat.le_of_ble_eq_true rfl) (Nat.le_of_ble_eq_true rfl) dX2_truly_9
theorem m_X2_truly (l : Launch) (G : GT) (g : GK G) (hph : kP G = 1) (p1 : Int32) (s : PS) (Q : Int32 → PS → Prop) (h : w_X2_truly G p1 s Q) : Met l yX2_truly (ws_ yX2_truly cX2_truly 4 (some .int)) rm_X2_truly (va_Pc [.ref (kB G + 182), .int p1] (Wr G s)) (va_Qi Q (fun u t => Wr G u t) (kF G)) 0 0 (kF G) := by
  refine Met.ofW (cc := cX2_truly) (maxL := 4) (ret := (some .int)) (by decide) rfl ?_
  intro p e s0 m args below meth c s₁ B hml hv
  obtain ⟨rfl, hw⟩ := hv
  exact wb_of [.ref (kB G + 182), .int p1] (Nat.le_of_ble_eq_true rfl) hw.1 rfl (e_X2_truly (cx_of g B hml rfl hw) hph p1 s Q h)
theorem tb_X2_comesThrough_58 {x : CT} {G : GT} (X : Cx x G cX2_comesThrough 6 RX2 (some .boolean) rm_X2_comesThrough) (hph : kP G = 1) (Q : Int32 → PS → Prop) (K20 : Int32 → PS → Prop) (v1 : Int32) (v2 : Int32) (v3 : Int32) (v4 : Int32) (t1 : Int32) (t2 : Int32) (s : PS) (hK20 : ∀ (v4' : Int32) (s' : PS), K20 v4' s' → WB x G 6 (QfI x G 0 0 (fun r u => (r = 0 ∨ r = 1) ∧ Q r u)) 0 0 s' 20 [(0, .ref (kB G + 182)), (1, .int v1), (2, .int v2), (3, .int v3), (4, .int v4')] []) (h : b_X2_comesThrough_58 G Q K20 v1 v2 v3 v4 t1 t2 s) : WB x G 6 (QfI x G 0 0 (fun r u => (r = 0 ∨ r = 1) ∧ Q r u)) 0 0 s 58 [(0, .ref (kB G + 182)), (1, .int v1), (2, .int v2), (3, .int v3), (4, .int v4)] [.int t2, .int t1, .ref (kB G + 182)] := by
  unfold b_X2_comesThrough_58 at h
  refine r_ci X (r_okVL (As := [.int t1, .int t2]) (rest := []) X (m_X2_answerNow (xl x) G X.2.2.2.2.1 hph t1 t2 s _ h) (cl_X2_331 X ⟨(Nat.le_of_ble_eq_true rfl), (Nat.le_of_ble_eq_true rfl)⟩) hph 2 ly_182 rfl rfl rfl rfl (Nat.le_of_ble_eq_true rfl) dX2_comesThrough_58 ⟨Nat.le_of_ble_eq_true rfl, Nat.le_of_ble_eq_true rfl⟩) (fun r2 s1 h => ?_)
  obtain ⟨z3, h⟩ := h
  refine r_istore (lv' := [(5, .int r2), (0, .ref (kB G + 182)), (1, .int v1), (2, .int v2), (3, .int v3), (4, .int v4)]) X dX2_comesThrough_61 (Nat.le_of_ble_eq_true rfl) rfl ?_
  refine r_iinc (lv' := [(4, .int (v4 + 1)), (5, .int r2), (0, .ref (kB G + 182)), (1, .int v1), (2, .int v2), (3, .int v3)]) X 5 dX2_comesThrough_63 rfl rfl (Nat.le_of_ble_eq_true rfl) rfl ?_
  refine r_goto X 20 dX2_comesThrough_66 (by decide) ?_
  refine r_sub [2, 3, 4, 5, 0] rfl ?_
  exact hK20 (v4 + 1) s1 h
theorem tb_X2_comesThrough_57 {x : CT} {G : GT} (X : Cx x G cX2_comesThrough 6 RX2 (some .boolean) rm_X2_comesThrough) (hph : kP G = 1) (Q : Int32 → PS → Prop) (K20 : Int32 → PS → Prop) (v1 : Int32) (v2 : Int32) (v3 : Int32) (v4 : Int32) (t1 : Int32) (s : PS) (hK20 : ∀ (v4' : Int32) (s' : PS), K20 v4' s' → WB x G 6 (QfI x G 0 0 (fun r u => (r = 0 ∨ r = 1) ∧ Q r u)) 0 0 s' 20 [(0, .ref (kB G + 182)), (1, .int v1), (2, .int v2), (3, .int v3), (4, .int v4')] []) (h : b_X2_comesThrough_57 G Q K20 v1 v2 v3 v4 t1 s) : WB x G 6 (QfI x G 0 0 (fun r u => (r = 0 ∨ r = 1) ∧ Q r u)) 0 0 s 57 [(0, .ref (kB G + 182)), (1, .int v1), (2, .int v2), (3, .int v3), (4, .int v4)] [.int t1, .ref (kB G + 182)] := by
  unfold b_X2_comesThrough_57 at h
  refine r_iconst (v := 0) X dX2_comesThrough_57 rfl ?_
  exact tb_X2_comesThrough_58 X hph Q K20 v1 v2 v3 v4 t1 0 s hK20 h
theorem tl_X2_comesThrough_20 {x : CT} {G : GT} (X : Cx x G cX2_comesThrough 6 RX2 (some .boolean) rm_X2_comesThrough) (hph : kP G = 1) (Q : Int32 → PS → Prop) (v1 : Int32) (v2 : Int32) (v3 : Int32) : ∀ (n : Nat) (v4 : Int32) (s : PS) (h : l_X2_comesThrough_20 G Q v1 v2 v3 n v4 s), WB x G 6 (QfI x G 0 0 (fun r u => (r = 0 ∨ r = 1) ∧ Q r u)) 0 0 s 20 [(0, .ref (kB G + 182)), (1, .int v1), (2, .int v2), (3, .int v3), (4, .int v4)] [] := by
  intro n
  induction n with
  | zero =>
    intro v4 s h
    exact False.elim h
  | succ n ih =>
    intro v4 s h
    unfold l_X2_comesThrough_20 at h
    refine r_iload X 4 dX2_comesThrough_20 rfl ?_
    refine r_aload_n X 0 dX2_comesThrough_22 rfl rfl ?_
    refine gr_X2_7 X hph 13 182 183 ly_182 rfl rfl dX2_comesThrough_23 ?_
    refine r_iconst (v := 2) X dX2_comesThrough_26 rfl ?_
    refine r_ialdL X hph 183 5544 ly_183 tn_2 il_2_5544 dX2_comesThrough_27 ?_
    refine r_ic_ge X 69 dX2_comesThrough_28 (by decide) (fun c1 => ?_) (fun c1 => ?_)
    · replace h := h.1 c1
      refine r_aload_n X 0 dX2_comesThrough_69 rfl rfl ?_
      refine r_ci X (r_okVL (As := []) (rest := []) X (m_X2_verdict (xl x) G X.2.2.2.2.1 hph s _ h) (cl_X2_315 X ⟨(Nat.le_of_ble_eq_true rfl), (Nat.le_of_ble_eq_true rfl)⟩) hph 2 ly_182 rfl rfl rfl rfl (Nat.le_of_ble_eq_true rfl) dX2_comesThrough_70 ⟨Nat.le_of_ble_eq_true rfl, Nat.le_of_ble_eq_true rfl⟩) (fun r3 s2 h => ?_)
      refine r_if_le X 87 dX2_comesThrough_73 (by decide) (fun c4 => ?_) (fun c4 => ?_)
      · replace h := h.1 c4
        refine r_iconst (v := 0) X dX2_comesThrough_87 rfl ?_
        exact r_zret X (Or.inl rfl) h (Nat.le_of_ble_eq_true rfl) (Nat.le_of_ble_eq_true rfl) dX2_comesThrough_88
      · replace h := h.2 c4
        refine r_iload_n X 3 dX2_comesThrough_76 rfl rfl ?_
        refine r_ldc_w X q1658 dX2_comesThrough_77 ?_
        have hJ : WB x G 6 (QfI x G 0 0 (fun r u => (r = 0 ∨ r = 1) ∧ Q r u)) 0 0 s2 88 [(0, .ref (kB G + 182)), (1, .int v1), (2, .int v2), (3, .int v3), (4, .int v4)] [.int (if v3 < (-100000) then 0 else 1 : Int32)] := by
          exact r_zret X (by (repeat' split) <;> first | exact Or.inl rfl | exact Or.inr rfl) h (Nat.le_of_ble_eq_true rfl) (Nat.le_of_ble_eq_true rfl) dX2_comesThrough_88
        refine r_ic_lt X 87 dX2_comesThrough_80 (by decide) (fun c5 => ?_) (fun c5 => ?_)
        · rw [if_pos c5] at hJ
          refine r_iconst (v := 0) X dX2_comesThrough_87 rfl ?_
          exact hJ
        · rw [if_neg c5] at hJ
          refine r_iconst (v := 1) X dX2_comesThrough_83 rfl ?_
          refine r_goto X 88 dX2_comesThrough_84 (by decide) ?_
          exact hJ
    · replace h := h.2 c1
      refine r_aload_n X 0 dX2_comesThrough_31 rfl rfl ?_
      refine r_iload X 4 dX2_comesThrough_32 rfl ?_
      refine r_aload_n X 0 dX2_comesThrough_34 rfl rfl ?_
      refine r_iload X 4 dX2_comesThrough_35 rfl ?_
      refine r_iload_n X 1 dX2_comesThrough_37 rfl rfl ?_
      refine r_ci X (r_okVL (As := [.int v4, .int v1]) (rest := [.int v4, .ref (kB G + 182)]) X (m_X2_isSoOf (xl x) G X.2.2.2.2.1 hph v4 v1 s _ h) (cl_X2_306 X ⟨(Nat.le_of_ble_eq_true rfl), (Nat.le_of_ble_eq_true rfl)⟩) hph 2 ly_182 rfl rfl rfl rfl (Nat.le_of_ble_eq_true rfl) dX2_comesThrough_38 ⟨Nat.le_of_ble_eq_true rfl, Nat.le_of_ble_eq_true rfl⟩) (fun r7 s6 h => ?_)
      obtain ⟨z8, h⟩ := h
      refine r_if_eq X 57 dX2_comesThrough_41 (by decide) (fun c9 => ?_) (fun c9 => ?_)
      · replace h := h.1 c9
        exact tb_X2_comesThrough_57 X hph Q (l_X2_comesThrough_20 G Q v1 v2 v3 n) v1 v2 v3 v4 v4 s6 ih h
      · replace h := h.2 c9
        refine r_iload_n X 2 dX2_comesThrough_44 rfl rfl ?_
        refine r_iload X 4 dX2_comesThrough_45 rfl ?_
        refine r_ci X (r_okS (As := [.int v2, .int v4]) (rest := [.int v4, .ref (kB G + 182)]) X (m_X2_has (xl x) G X.2.2.2.2.1 v2 v4 s6 _ h) (cl_X2_224 X ⟨(Nat.le_of_ble_eq_true rfl), (Nat.le_of_ble_eq_true rfl)⟩) rfl rfl (Nat.le_of_ble_eq_true rfl) dX2_comesThrough_47 ⟨Nat.le_of_ble_eq_true rfl, Nat.le_of_ble_eq_true rfl⟩) (fun r11 s10 h => ?_)
        obtain ⟨z12, h⟩ := h
        have hJ : WB x G 6 (QfI x G 0 0 (fun r u => (r = 0 ∨ r = 1) ∧ Q r u)) 0 0 s10 58 [(0, .ref (kB G + 182)), (1, .int v1), (2, .int v2), (3, .int v3), (4, .int v4)] [.int (if r11 = 0 then 1 else 0 : Int32), .int v4, .ref (kB G + 182)] := by
          refine r_ci X (r_okVL (As := [.int v4, .int (if r11 = 0 then 1 else 0 : Int32)]) (rest := []) X (m_X2_answerNow (xl x) G X.2.2.2.2.1 hph v4 (if r11 = 0 then 1 else 0 : Int32) s10 _ h) (cl_X2_331 X ⟨(Nat.le_of_ble_eq_true rfl), (Nat.le_of_ble_eq_true rfl)⟩) hph 2 ly_182 rfl rfl rfl rfl (Nat.le_of_ble_eq_true rfl) dX2_comesThrough_58 ⟨Nat.le_of_ble_eq_true rfl, Nat.le_of_ble_eq_true rfl⟩) (fun r15 s14 h => ?_)
          obtain ⟨z16, h⟩ := h
          refine r_istore (lv' := [(5, .int r15), (0, .ref (kB G + 182)), (1, .int v1), (2, .int v2), (3, .int v3), (4, .int v4)]) X dX2_comesThrough_61 (Nat.le_of_ble_eq_true rfl) rfl ?_
          refine r_iinc (lv' := [(4, .int (v4 + 1)), (5, .int r15), (0, .ref (kB G + 182)), (1, .int v1), (2, .int v2), (3, .int v3)]) X 5 dX2_comesThrough_63 rfl rfl (Nat.le_of_ble_eq_true rfl) rfl ?_
          refine r_goto X 20 dX2_comesThrough_66 (by decide) ?_
          refine r_sub [2, 3, 4, 5, 0] rfl ?_
          exact ih (v4 + 1) s14 h
        refine r_if_ne X 57 dX2_comesThrough_50 (by decide) (fun c13 => ?_) (fun c13 => ?_)
        · rw [if_neg c13] at hJ
          refine r_iconst (v := 0) X dX2_comesThrough_57 rfl ?_
          exact hJ
        · rw [if_pos c13] at hJ
          refine r_iconst (v := 1) X dX2_comesThrough_53 rfl ?_
          refine r_goto X 58 dX2_comesThrough_54 (by decide) ?_
          exact hJ
theorem e_X2_comesThrough {x : CT} {G : GT} (X : Cx x G cX2_comesThrough 6 RX2 (some .boolean) rm_X2_comesThrough) (hph : kP G = 1) (p1 : Int32) (p2 : Int32) (s : PS) (Q : Int32 → PS → Prop) (h : w_X2_comesThrough G p1 p2 s Q) : WB x G 6 (QfI x G 0 0 (fun r u => (r = 0 ∨ r = 1) ∧ Q r u)) 0 0 s 0 [(0, .ref (kB G + 182)), (1, .int p1), (2, .int p2)] [] := by
  unfold w_X2_comesThrough at h
  refine r_aload_n X 0 dX2_comesThrough_0 rfl rfl ?_
  refine r_iload_n X 1 dX2_comesThrough_1 rfl rfl ?_
  refine r_cv X (r_okVL (As := [.int p1]) (rest := []) X (m_X2_layRow (xl x) G X.2.2.2.2.1 hph p1 s _ h) (cl_X2_373 X ⟨(Nat.le_of_ble_eq_true rfl), (Nat.le_of_ble_eq_true rfl)⟩) hph 2 ly_182 rfl rfl rfl rfl (Nat.le_of_ble_eq_true rfl) dX2_comesThrough_2 ⟨Nat.le_of_ble_eq_true rfl, Nat.le_of_ble_eq_true rfl⟩) (fun s1 h => ?_)
  refine r_aload_n X 0 dX2_comesThrough_5 rfl rfl ?_
  refine r_iload_n X 1 dX2_comesThrough_6 rfl rfl ?_
  refine r_aload_n X 0 dX2_comesThrough_7 rfl rfl ?_
  refine gr_X2_7 X hph 13 182 183 ly_182 rfl rfl dX2_comesThrough_8 ?_
  refine r_iconst (v := 3) X dX2_comesThrough_11 rfl ?_
  refine r_ialdL X hph 183 5544 ly_183 tn_3 il_3_5544 dX2_comesThrough_12 ?_
  refine r_ci X (r_okVL (As := [.int p1, .int (gI s1 (kB G + 183) 3)]) (rest := []) X (m_X2_endOf (xl x) G X.2.2.2.2.1 hph p1 (gI s1 (kB G + 183) 3) s1 _ h) (cl_X2_394 X ⟨(Nat.le_of_ble_eq_true rfl), (Nat.le_of_ble_eq_true rfl)⟩) hph 2 ly_182 rfl rfl rfl rfl (Nat.le_of_ble_eq_true rfl) dX2_comesThrough_13 ⟨Nat.le_of_ble_eq_true rfl, Nat.le_of_ble_eq_true rfl⟩) (fun r3 s2 h => ?_)
  refine r_istore_n (lv' := [(3, .int r3), (0, .ref (kB G + 182)), (1, .int p1), (2, .int p2)]) X dX2_comesThrough_16 rfl (Nat.le_of_ble_eq_true rfl) rfl ?_
  refine r_iconst (v := 0) X dX2_comesThrough_17 rfl ?_
  refine r_istore (lv' := [(4, .int 0), (3, .int r3), (0, .ref (kB G + 182)), (1, .int p1), (2, .int p2)]) X dX2_comesThrough_18 (Nat.le_of_ble_eq_true rfl) rfl ?_
  refine r_sub [2, 3, 4, 1, 0] rfl ?_
  obtain ⟨n4, h⟩ := h
  exact tl_X2_comesThrough_20 X hph Q p1 p2 r3 n4 0 s2 h
theorem m_X2_comesThrough (l : Launch) (G : GT) (g : GK G) (hph : kP G = 1) (p1 : Int32) (p2 : Int32) (s : PS) (Q : Int32 → PS → Prop) (h : w_X2_comesThrough G p1 p2 s Q) : Met l yX2_comesThrough (ws_ yX2_comesThrough cX2_comesThrough 6 (some .boolean)) rm_X2_comesThrough (va_Pc [.ref (kB G + 182), .int p1, .int p2] (Wr G s)) (va_Qi (fun r u => (r = 0 ∨ r = 1) ∧ Q r u) (fun u t => Wr G u t) (kF G)) 0 0 (kF G) := by
  refine Met.ofW (cc := cX2_comesThrough) (maxL := 6) (ret := (some .boolean)) (by decide) rfl ?_
  intro p e s0 m args below meth c s₁ B hml hv
  obtain ⟨rfl, hw⟩ := hv
  exact wb_of [.ref (kB G + 182), .int p1, .int p2] (Nat.le_of_ble_eq_true rfl) hw.1 rfl (e_X2_comesThrough (cx_of g B hml rfl hw) hph p1 p2 s Q h)
theorem tb_X2_lies_106 {x : CT} {G : GT} (X : Cx x G cX2_lies 6 RX2 (some .int) rm_X2_lies) (hph : kP G = 1) (Q : Int32 → PS → Prop) (K49 : Int32 → Int32 → PS → Prop) (v1 : Int32) (v2 : Int32) (v3 : Int32) (v4 : Int32) (v5 : Int32) (s : PS) (hK49 : ∀ (v4' : Int32) (v5' : Int32) (s' : PS), K49 v4' v5' s' → WB x G 6 (QfI x G 0 0 Q) 0 0 s' 49 [(0, .ref (kB G + 182)), (1, .int v1), (2, .int v2), (3, .int v3), (4, .int v4'), (5, .int v5')] []) (h : b_X2_lies_106 G Q K49 v1 v2 v3 v4 v5 s) : WB x G 6 (QfI x G 0 0 Q) 0 0 s 106 [(0, .ref (kB G + 182)), (1, .int v1), (2, .int v2), (3, .int v3), (4, .int v4), (5, .int v5)] [] := by
  unfold b_X2_lies_106 at h
  refine r_aload_n X 0 dX2_lies_106 rfl rfl ?_
  refine r_iload_n X 1 dX2_lies_107 rfl rfl ?_
  refine r_iload X 5 dX2_lies_108 rfl ?_
  refine r_ci X (r_okVL (As := [.int v1, .int v5]) (rest := []) X (m_X2_comesThrough (xl x) G X.2.2.2.2.1 hph v1 v5 s _ h) (cl_X2_413 X ⟨(Nat.le_of_ble_eq_true rfl), (Nat.le_of_ble_eq_true rfl)⟩) hph 2 ly_182 rfl rfl rfl rfl (Nat.le_of_ble_eq_true rfl) dX2_lies_110 ⟨Nat.le_of_ble_eq_true rfl, Nat.le_of_ble_eq_true rfl⟩) (fun r2 s1 h => ?_)
  obtain ⟨z3, h⟩ := h
  refine r_if_eq X 120 dX2_lies_113 (by decide) (fun c4 => ?_) (fun c4 => ?_)
  · replace h := h.1 c4
    refine r_iinc (lv' := [(5, .int (v5 + 1)), (0, .ref (kB G + 182)), (1, .int v1), (2, .int v2), (3, .int v3), (4, .int v4)]) X 5 dX2_lies_120 rfl rfl (Nat.le_of_ble_eq_true rfl) rfl ?_
    refine r_goto X 49 dX2_lies_123 (by decide) ?_
    refine r_sub [1, 2, 3, 4, 5, 0] rfl ?_
    exact hK49 v4 (v5 + 1) s1 h
  · replace h := h.2 c4
    refine r_iload X 5 dX2_lies_116 rfl ?_
    refine r_istore (lv' := [(4, .int v5), (0, .ref (kB G + 182)), (1, .int v1), (2, .int v2), (3, .int v3), (5, .int v5)]) X dX2_lies_118 (Nat.le_of_ble_eq_true rfl) rfl ?_
    refine r_iinc (lv' := [(5, .int (v5 + 1)), (4, .int v5), (0, .ref (kB G + 182)), (1, .int v1), (2, .int v2), (3, .int v3)]) X 5 dX2_lies_120 rfl rfl (Nat.le_of_ble_eq_true rfl) rfl ?_
    refine r_goto X 49 dX2_lies_123 (by decide) ?_
    refine r_sub [2, 3, 4, 5, 1, 0] rfl ?_
    exact hK49 v5 (v5 + 1) s1 h
theorem tl_X2_lies_49 {x : CT} {G : GT} (X : Cx x G cX2_lies 6 RX2 (some .int) rm_X2_lies) (hph : kP G = 1) (Q : Int32 → PS → Prop) (v1 : Int32) (v2 : Int32) (v3 : Int32) : ∀ (n : Nat) (v4 : Int32) (v5 : Int32) (s : PS) (h : l_X2_lies_49 G Q v1 v2 v3 n v4 v5 s), WB x G 6 (QfI x G 0 0 Q) 0 0 s 49 [(0, .ref (kB G + 182)), (1, .int v1), (2, .int v2), (3, .int v3), (4, .int v4), (5, .int v5)] [] := by
  intro n
  induction n with
  | zero =>
    intro v4 v5 s h
    exact False.elim h
  | succ n ih =>
    intro v4 v5 s h
    unfold l_X2_lies_49 at h
    refine r_iload X 5 dX2_lies_49 rfl ?_
    refine r_iconst (v := 1) X dX2_lies_51 rfl ?_
    refine r_aload_n X 0 dX2_lies_52 rfl rfl ?_
    refine gr_X2_7 X hph 13 182 183 ly_182 rfl rfl dX2_lies_53 ?_
    refine r_iconst (v := 2) X dX2_lies_56 rfl ?_
    refine r_ialdL X hph 183 5544 ly_183 tn_2 il_2_5544 dX2_lies_57 ?_
    refine r_ishl X dX2_lies_58 ?_
    refine r_ic_ge X 126 dX2_lies_59 (by decide) (fun c1 => ?_) (fun c1 => ?_)
    · replace h := h.1 c1
      refine r_aload_n X 0 dX2_lies_126 rfl rfl ?_
      refine r_cv X (r_okVL (As := []) (rest := []) X (m_X2_putBack (xl x) G X.2.2.2.2.1 hph s _ h) (cl_X2_404 X ⟨(Nat.le_of_ble_eq_true rfl), (Nat.le_of_ble_eq_true rfl)⟩) hph 2 ly_182 rfl rfl rfl rfl (Nat.le_of_ble_eq_true rfl) dX2_lies_127 ⟨Nat.le_of_ble_eq_true rfl, Nat.le_of_ble_eq_true rfl⟩) (fun s2 h => ?_)
      refine r_iload X 4 dX2_lies_130 rfl ?_
      exact r_iret X h (Nat.le_of_ble_eq_true rfl) (Nat.le_of_ble_eq_true rfl) dX2_lies_132
    · replace h := h.2 c1
      refine r_iload X 5 dX2_lies_62 rfl ?_
      refine r_iload_n X 3 dX2_lies_64 rfl rfl ?_
      refine r_iconst (v := (-1)) X dX2_lies_65 rfl ?_
      refine r_ixor X dX2_lies_66 ?_
      refine r_iand X dX2_lies_67 ?_
      refine r_if_ne X 120 dX2_lies_68 (by decide) (fun c3 => ?_) (fun c3 => ?_)
      · replace h := h.2 c3
        refine r_iinc (lv' := [(5, .int (v5 + 1)), (0, .ref (kB G + 182)), (1, .int v1), (2, .int v2), (3, .int v3), (4, .int v4)]) X 5 dX2_lies_120 rfl rfl (Nat.le_of_ble_eq_true rfl) rfl ?_
        refine r_goto X 49 dX2_lies_123 (by decide) ?_
        refine r_sub [1, 2, 3, 4, 5, 0] rfl ?_
        exact ih v4 (v5 + 1) s h
      · replace h := h.1 c3
        refine r_iload_n X 3 dX2_lies_71 rfl rfl ?_
        refine r_ci X (r_okS (As := [.int v3]) (rest := []) X (m_X2_bits (xl x) G X.2.2.2.2.1 v3 s _ h) (cl_X2_294 X ⟨(Nat.le_of_ble_eq_true rfl), (Nat.le_of_ble_eq_true rfl)⟩) rfl rfl (Nat.le_of_ble_eq_true rfl) dX2_lies_72 ⟨Nat.le_of_ble_eq_true rfl, Nat.le_of_ble_eq_true rfl⟩) (fun r5 s4 h => ?_)
        refine r_iload X 5 dX2_lies_75 rfl ?_
        refine r_ci X (r_okS (As := [.int v5]) (rest := [.int r5]) X (m_X2_bits (xl x) G X.2.2.2.2.1 v5 s4 _ h) (cl_X2_294 X ⟨(Nat.le_of_ble_eq_true rfl), (Nat.le_of_ble_eq_true rfl)⟩) rfl rfl (Nat.le_of_ble_eq_true rfl) dX2_lies_77 ⟨Nat.le_of_ble_eq_true rfl, Nat.le_of_ble_eq_true rfl⟩) (fun r7 s6 h => ?_)
        refine r_isub X dX2_lies_80 ?_
        refine r_iload_n X 2 dX2_lies_81 rfl rfl ?_
        refine r_ic_gt X 120 dX2_lies_82 (by decide) (fun c8 => ?_) (fun c8 => ?_)
        · replace h := h.1 c8
          refine r_iinc (lv' := [(5, .int (v5 + 1)), (0, .ref (kB G + 182)), (1, .int v1), (2, .int v2), (3, .int v3), (4, .int v4)]) X 5 dX2_lies_120 rfl rfl (Nat.le_of_ble_eq_true rfl) rfl ?_
          refine r_goto X 49 dX2_lies_123 (by decide) ?_
          refine r_sub [1, 2, 3, 4, 5, 0] rfl ?_
          exact ih v4 (v5 + 1) s6 h
        · replace h := h.2 c8
          refine r_iload X 4 dX2_lies_85 rfl ?_
          refine r_if_lt X 106 dX2_lies_87 (by decide) (fun c9 => ?_) (fun c9 => ?_)
          · replace h := h.1 c9
            exact tb_X2_lies_106 X hph Q (l_X2_lies_49 G Q v1 v2 v3 n) v1 v2 v3 v4 v5 s6 ih h
          · replace h := h.2 c9
            refine r_iload X 5 dX2_lies_90 rfl ?_
            refine r_ci X (r_okS (As := [.int v5]) (rest := []) X (m_X2_bits (xl x) G X.2.2.2.2.1 v5 s6 _ h) (cl_X2_294 X ⟨(Nat.le_of_ble_eq_true rfl), (Nat.le_of_ble_eq_true rfl)⟩) rfl rfl (Nat.le_of_ble_eq_true rfl) dX2_lies_92 ⟨Nat.le_of_ble_eq_true rfl, Nat.le_of_ble_eq_true rfl⟩) (fun r11 s10 h => ?_)
            refine r_iload X 4 dX2_lies_95 rfl ?_
            refine r_ci X (r_okS (As := [.int v4]) (rest := [.int r11]) X (m_X2_bits (xl x) G X.2.2.2.2.1 v4 s10 _ h) (cl_X2_294 X ⟨(Nat.le_of_ble_eq_true rfl), (Nat.le_of_ble_eq_true rfl)⟩) rfl rfl (Nat.le_of_ble_eq_true rfl) dX2_lies_97 ⟨Nat.le_of_ble_eq_true rfl, Nat.le_of_ble_eq_true rfl⟩) (fun r13 s12 h => ?_)
            refine r_ic_lt X 106 dX2_lies_100 (by decide) (fun c14 => ?_) (fun c14 => ?_)
            · replace h := h.1 c14
              exact tb_X2_lies_106 X hph Q (l_X2_lies_49 G Q v1 v2 v3 n) v1 v2 v3 v4 v5 s12 ih h
            · replace h := h.2 c14
              refine r_goto X 120 dX2_lies_103 (by decide) ?_
              refine r_iinc (lv' := [(5, .int (v5 + 1)), (0, .ref (kB G + 182)), (1, .int v1), (2, .int v2), (3, .int v3), (4, .int v4)]) X 5 dX2_lies_120 rfl rfl (Nat.le_of_ble_eq_true rfl) rfl ?_
              refine r_goto X 49 dX2_lies_123 (by decide) ?_
              refine r_sub [1, 2, 3, 4, 5, 0] rfl ?_
              exact ih v4 (v5 + 1) s12 h
theorem e_X2_lies {x : CT} {G : GT} (X : Cx x G cX2_lies 6 RX2 (some .int) rm_X2_lies) (hph : kP G = 1) (p1 : Int32) (p2 : Int32) (s : PS) (Q : Int32 → PS → Prop) (h : w_X2_lies G p1 p2 s Q) : WB x G 6 (QfI x G 0 0 Q) 0 0 s 0 [(0, .ref (kB G + 182)), (1, .int p1), (2, .int p2)] [] := by
  unfold w_X2_lies at h
  refine r_aload_n X 0 dX2_lies_0 rfl rfl ?_
  refine r_iload_n X 1 dX2_lies_1 rfl rfl ?_
  refine r_ci X (r_okVL (As := [.int p1]) (rest := []) X (m_X2_isHeart (xl x) G X.2.2.2.2.1 hph p1 s _ h) (cl_X2_88 X ⟨(Nat.le_of_ble_eq_true rfl), (Nat.le_of_ble_eq_true rfl)⟩) hph 2 ly_182 rfl rfl rfl rfl (Nat.le_of_ble_eq_true rfl) dX2_lies_2 ⟨Nat.le_of_ble_eq_true rfl, Nat.le_of_ble_eq_true rfl⟩) (fun r2 s1 h => ?_)
  obtain ⟨z3, h⟩ := h
  refine r_if_eq X 18 dX2_lies_5 (by decide) (fun c4 => ?_) (fun c4 => ?_)
  · replace h := h.1 c4
    refine r_iconst (v := (-1)) X dX2_lies_18 rfl ?_
    exact r_iret X h (Nat.le_of_ble_eq_true rfl) (Nat.le_of_ble_eq_true rfl) dX2_lies_19
  · replace h := h.2 c4
    refine r_iload_n X 2 dX2_lies_8 rfl rfl ?_
    refine r_iconst (v := 0) X dX2_lies_9 rfl ?_
    refine r_bipush (v := 8) X dX2_lies_10 rfl ?_
    refine r_ci X (r_okS (As := [.int p2, .int 0, .int 8]) (rest := []) X (m_X2_isIn (xl x) G X.2.2.2.2.1 p2 0 8 s1 _ h) (cl_X2_80 X ⟨(Nat.le_of_ble_eq_true rfl), (Nat.le_of_ble_eq_true rfl)⟩) rfl rfl (Nat.le_of_ble_eq_true rfl) dX2_lies_12 ⟨Nat.le_of_ble_eq_true rfl, Nat.le_of_ble_eq_true rfl⟩) (fun r6 s5 h => ?_)
    obtain ⟨z7, h⟩ := h
    refine r_if_ne X 20 dX2_lies_15 (by decide) (fun c8 => ?_) (fun c8 => ?_)
    · replace h := h.2 c8
      refine r_aload_n X 0 dX2_lies_20 rfl rfl ?_
      refine r_iload_n X 1 dX2_lies_21 rfl rfl ?_
      refine r_ci X (r_okVL (As := [.int p1]) (rest := []) X (m_X2_truly (xl x) G X.2.2.2.2.1 hph p1 s5 _ h) (cl_X2_410 X ⟨(Nat.le_of_ble_eq_true rfl), (Nat.le_of_ble_eq_true rfl)⟩) hph 2 ly_182 rfl rfl rfl rfl (Nat.le_of_ble_eq_true rfl) dX2_lies_22 ⟨Nat.le_of_ble_eq_true rfl, Nat.le_of_ble_eq_true rfl⟩) (fun r10 s9 h => ?_)
      refine r_iconst (v := (-1)) X dX2_lies_25 rfl ?_
      refine r_ixor X dX2_lies_26 ?_
      refine r_iconst (v := 1) X dX2_lies_27 rfl ?_
      refine r_aload_n X 0 dX2_lies_28 rfl rfl ?_
      refine gr_X2_7 X hph 13 182 183 ly_182 rfl rfl dX2_lies_29 ?_
      refine r_iconst (v := 2) X dX2_lies_32 rfl ?_
      refine r_ialdL X hph 183 5544 ly_183 tn_2 il_2_5544 dX2_lies_33 ?_
      refine r_ishl X dX2_lies_34 ?_
      refine r_iconst (v := 1) X dX2_lies_35 rfl ?_
      refine r_isub X dX2_lies_36 ?_
      refine r_iand X dX2_lies_37 ?_
      refine r_nmI (fun y11 e12 => ?_)
      replace h := h y11 e12
      refine r_istore_n (lv' := [(3, .int y11), (0, .ref (kB G + 182)), (1, .int p1), (2, .int p2)]) X dX2_lies_38 rfl (Nat.le_of_ble_eq_true rfl) rfl ?_
      refine r_iconst (v := (-1)) X dX2_lies_39 rfl ?_
      refine r_istore (lv' := [(4, .int (-1)), (3, .int y11), (0, .ref (kB G + 182)), (1, .int p1), (2, .int p2)]) X dX2_lies_40 (Nat.le_of_ble_eq_true rfl) rfl ?_
      refine r_aload_n X 2 dX2_lies_42 rfl rfl ?_
      refine r_cv X (r_okVL (As := []) (rest := []) X (m_X2_setAside (xl x) G X.2.2.2.2.1 hph s9 _ h) (cl_X2_391 X ⟨(Nat.le_of_ble_eq_true rfl), (Nat.le_of_ble_eq_true rfl)⟩) hph 2 ly_182 rfl rfl rfl rfl (Nat.le_of_ble_eq_true rfl) dX2_lies_43 ⟨Nat.le_of_ble_eq_true rfl, Nat.le_of_ble_eq_true rfl⟩) (fun s13 h => ?_)
      refine r_iconst (v := 0) X dX2_lies_46 rfl ?_
      refine r_istore (lv' := [(5, .int 0), (4, .int (-1)), (3, .int y11), (0, .ref (kB G + 182)), (1, .int p1), (2, .int p2)]) X dX2_lies_47 (Nat.le_of_ble_eq_true rfl) rfl ?_
      refine r_sub [3, 4, 5, 2, 1, 0] rfl ?_
      obtain ⟨n14, h⟩ := h
      exact tl_X2_lies_49 X hph Q p1 p2 y11 n14 (-1) 0 s13 h
    · replace h := h.1 c8
      refine r_iconst (v := (-1)) X dX2_lies_18 rfl ?_
      exact r_iret X h (Nat.le_of_ble_eq_true rfl) (Nat.le_of_ble_eq_true rfl) dX2_lies_19
theorem m_X2_lies (l : Launch) (G : GT) (g : GK G) (hph : kP G = 1) (p1 : Int32) (p2 : Int32) (s : PS) (Q : Int32 → PS → Prop) (h : w_X2_lies G p1 p2 s Q) : Met l yX2_lies (ws_ yX2_lies cX2_lies 6 (some .int)) rm_X2_lies (va_Pc [.ref (kB G + 182), .int p1, .int p2] (Wr G s)) (va_Qi Q (fun u t => Wr G u t) (kF G)) 0 0 (kF G) := by
  refine Met.ofW (cc := cX2_lies) (maxL := 6) (ret := (some .int)) (by decide) rfl ?_
  intro p e s0 m args below meth c s₁ B hml hv
  obtain ⟨rfl, hw⟩ := hv
  exact wb_of [.ref (kB G + 182), .int p1, .int p2] (Nat.le_of_ble_eq_true rfl) hw.1 rfl (e_X2_lies (cx_of g B hml rfl hw) hph p1 p2 s Q h)
theorem tb_X2_findLacks_27 {x : CT} {G : GT} (X : Cx x G cX2_findLacks 3 RX2 none rm_X2_findLacks) (hph : kP G = 1) (Q : PS → Prop) (K2 : Int32 → PS → Prop) (v1 : Int32) (t0 : Int32) (s : PS) (hK2 : ∀ (v1' : Int32) (s' : PS), K2 v1' s' → WB x G 3 (QfV x G 0 0 Q) 0 0 s' 2 [(0, .ref (kB G + 182)), (1, .int v1')] []) (h : b_X2_findLacks_27 G Q K2 v1 t0 s) : WB x G 3 (QfV x G 0 0 Q) 0 0 s 27 [(0, .ref (kB G + 182)), (1, .int v1)] [.int t0] := by
  unfold b_X2_findLacks_27 at h
  refine r_istore_n (lv' := [(2, .int t0), (0, .ref (kB G + 182)), (1, .int v1)]) X dX2_findLacks_27 rfl (Nat.le_of_ble_eq_true rfl) rfl ?_
  refine r_aload_n X 1 dX2_findLacks_28 rfl rfl ?_
  refine gr_X2_48 X hph 13 182 193 ly_182 rfl rfl dX2_findLacks_29 ?_
  refine r_iload_n X 2 dX2_findLacks_32 rfl rfl ?_
  refine r_iload_n X 0 dX2_findLacks_33 rfl rfl ?_
  have hJ : WB x G 3 (QfV x G 0 0 Q) 0 0 s 43 [(2, .int t0), (0, .ref (kB G + 182)), (1, .int v1)] [.int (if 0 ≤ t0 then 0 else (-t0) : Int32), .int v1, .ref (kB G + 193)] := by
    obtain ⟨g2, h⟩ := h
    refine r_iastL X hph 193 6 ly_193 rfl g2 dX2_findLacks_43 (fun s3 e4 => ?_)
    replace h := h s3 e4
    refine r_aload_n X 1 dX2_findLacks_44 rfl rfl ?_
    refine gr_X2_51 X hph 13 182 194 ly_182 rfl rfl dX2_findLacks_45 ?_
    refine r_iload_n X 2 dX2_findLacks_48 rfl rfl ?_
    refine r_iload_n X 0 dX2_findLacks_49 rfl rfl ?_
    have hJ : WB x G 3 (QfV x G 0 0 Q) 0 0 s3 58 [(2, .int t0), (0, .ref (kB G + 182)), (1, .int v1)] [.int (if t0 ≤ 0 then 0 else t0 : Int32), .int v1, .ref (kB G + 194)] := by
      refine r_iastL X hph 194 6 ly_194 rfl g2 dX2_findLacks_58 (fun s6 e7 => ?_)
      replace h := h s6 e7
      refine r_iinc (lv' := [(1, .int (v1 + 1)), (2, .int t0), (0, .ref (kB G + 182))]) X 2 dX2_findLacks_59 rfl rfl (Nat.le_of_ble_eq_true rfl) rfl ?_
      refine r_goto X 2 dX2_findLacks_62 (by decide) ?_
      refine r_sub [2, 0] rfl ?_
      exact hK2 (v1 + 1) s6 h
    refine r_if_le X 57 dX2_findLacks_50 (by decide) (fun c5 => ?_) (fun c5 => ?_)
    · rw [if_pos c5] at hJ
      refine r_iconst (v := 0) X dX2_findLacks_57 rfl ?_
      exact hJ
    · rw [if_neg c5] at hJ
      refine r_iload_n X 0 dX2_findLacks_53 rfl rfl ?_
      refine r_goto X 58 dX2_findLacks_54 (by decide) ?_
      exact hJ
  refine r_if_ge X 42 dX2_findLacks_34 (by decide) (fun c1 => ?_) (fun c1 => ?_)
  · rw [if_pos c1] at hJ
    refine r_iconst (v := 0) X dX2_findLacks_42 rfl ?_
    exact hJ
  · rw [if_neg c1] at hJ
    refine r_iload_n X 0 dX2_findLacks_37 rfl rfl ?_
    refine r_ineg X dX2_findLacks_38 ?_
    refine r_goto X 43 dX2_findLacks_39 (by decide) ?_
    exact hJ
theorem tb_X2_findLacks_115 {x : CT} {G : GT} (X : Cx x G cX2_findLacks 3 RX2 none rm_X2_findLacks) (hph : kP G = 1) (Q : PS → Prop) (K67 : Int32 → PS → Prop) (v1 : Int32) (t0 : Nat) (t1 : Int32) (t2 : Int32) (s : PS) (hK67 : ∀ (v1' : Int32) (s' : PS), K67 v1' s' → WB x G 3 (QfV x G 0 0 Q) 0 0 s' 67 [(0, .ref (kB G + 182)), (1, .int v1')] []) (h : b_X2_findLacks_115 G Q K67 v1 t0 t1 t2 s) : WB x G 3 (QfV x G 0 0 Q) 0 0 s 115 [(0, .ref (kB G + 182)), (1, .int v1)] [.int t2, .int t1, .ref t0] := by
  unfold b_X2_findLacks_115 at h
  obtain ⟨g1, h⟩ := h
  obtain ⟨g2, h⟩ := h
  obtain ⟨g3, h⟩ := h
  refine r_iast X g1 g2 g3 dX2_findLacks_115 (fun s4 e5 => ?_)
  replace h := h s4 e5
  refine r_aload_n X 0 dX2_findLacks_116 rfl rfl ?_
  refine gr_X2_57 X hph 13 182 196 ly_182 rfl rfl dX2_findLacks_117 ?_
  refine r_iload_n X 1 dX2_findLacks_120 rfl rfl ?_
  refine r_iconst (v := 0) X dX2_findLacks_121 rfl ?_
  obtain ⟨g6, h⟩ := h
  refine r_iastL X hph 196 36 ly_196 rfl g6 dX2_findLacks_122 (fun s7 e8 => ?_)
  replace h := h s7 e8
  refine r_iinc (lv' := [(1, .int (v1 + 1)), (0, .ref (kB G + 182))]) X 1 dX2_findLacks_123 rfl rfl (Nat.le_of_ble_eq_true rfl) rfl ?_
  refine r_goto X 67 dX2_findLacks_126 (by decide) ?_
  refine r_sub [1, 0] rfl ?_
  exact hK67 (v1 + 1) s7 h
theorem tb_X2_findLacks_114 {x : CT} {G : GT} (X : Cx x G cX2_findLacks 3 RX2 none rm_X2_findLacks) (hph : kP G = 1) (Q : PS → Prop) (K67 : Int32 → PS → Prop) (v1 : Int32) (t0 : Nat) (t1 : Int32) (s : PS) (hK67 : ∀ (v1' : Int32) (s' : PS), K67 v1' s' → WB x G 3 (QfV x G 0 0 Q) 0 0 s' 67 [(0, .ref (kB G + 182)), (1, .int v1')] []) (h : b_X2_findLacks_114 G Q K67 v1 t0 t1 s) : WB x G 3 (QfV x G 0 0 Q) 0 0 s 114 [(0, .ref (kB G + 182)), (1, .int v1)] [.int t1, .ref t0] := by
  unfold b_X2_findLacks_114 at h
  refine r_iconst (v := 0) X dX2_findLacks_114 rfl ?_
  exact tb_X2_findLacks_115 X hph Q K67 v1 t0 t1 0 s hK67 h
theorem tl_X2_findLacks_67 {x : CT} {G : GT} (X : Cx x G cX2_findLacks 3 RX2 none rm_X2_findLacks) (hph : kP G = 1) (Q : PS → Prop) : ∀ (n : Nat) (v1 : Int32) (s : PS) (h : l_X2_findLacks_67 G Q n v1 s), WB x G 3 (QfV x G 0 0 Q) 0 0 s 67 [(0, .ref (kB G + 182)), (1, .int v1)] [] := by
  intro n
  induction n with
  | zero =>
    intro v1 s h
    exact False.elim h
  | succ n ih =>
    intro v1 s h
    unfold l_X2_findLacks_67 at h
    refine r_iload_n X 1 dX2_findLacks_67 rfl rfl ?_
    refine r_bipush (v := 36) X dX2_findLacks_68 rfl ?_
    refine r_ic_ge X 129 dX2_findLacks_70 (by decide) (fun c1 => ?_) (fun c1 => ?_)
    · replace h := h.1 c1
      exact r_vret X h (Nat.le_of_ble_eq_true rfl) (Nat.le_of_ble_eq_true rfl) dX2_findLacks_129
    · replace h := h.2 c1
      refine r_aload_n X 0 dX2_findLacks_73 rfl rfl ?_
      refine gr_X2_54 X hph 13 182 195 ly_182 rfl rfl dX2_findLacks_74 ?_
      refine r_iload_n X 1 dX2_findLacks_77 rfl rfl ?_
      refine r_aload_n X 0 dX2_findLacks_78 rfl rfl ?_
      refine gr_X2_48 X hph 13 182 193 ly_182 rfl rfl dX2_findLacks_79 ?_
      refine r_iload_n X 1 dX2_findLacks_82 rfl rfl ?_
      refine r_bipush (v := 6) X dX2_findLacks_83 rfl ?_
      refine r_idiv X dX2_findLacks_85 (by decide) ?_
      obtain ⟨g2, h⟩ := h
      refine r_ialdL X hph 193 6 ly_193 rfl g2 dX2_findLacks_86 ?_
      refine r_if_le X 114 dX2_findLacks_87 (by decide) (fun c3 => ?_) (fun c3 => ?_)
      · replace h := h.1 c3
        exact tb_X2_findLacks_114 X hph Q (l_X2_findLacks_67 G Q n) v1 (kB G + 195) v1 s ih h
      · replace h := h.2 c3
        refine r_aload_n X 0 dX2_findLacks_90 rfl rfl ?_
        refine gr_X2_51 X hph 13 182 194 ly_182 rfl rfl dX2_findLacks_91 ?_
        refine r_iload_n X 1 dX2_findLacks_94 rfl rfl ?_
        refine r_bipush (v := 6) X dX2_findLacks_95 rfl ?_
        refine r_irem X dX2_findLacks_97 (by decide) ?_
        obtain ⟨g4, h⟩ := h
        refine r_ialdL X hph 194 6 ly_194 rfl g4 dX2_findLacks_98 ?_
        refine r_if_le X 114 dX2_findLacks_99 (by decide) (fun c5 => ?_) (fun c5 => ?_)
        · replace h := h.1 c5
          exact tb_X2_findLacks_114 X hph Q (l_X2_findLacks_67 G Q n) v1 (kB G + 195) v1 s ih h
        · replace h := h.2 c5
          refine r_aload_n X 0 dX2_findLacks_102 rfl rfl ?_
          refine gr_X2_7 X hph 13 182 183 ly_182 rfl rfl dX2_findLacks_103 ?_
          refine r_bipush (v := 54) X dX2_findLacks_106 rfl ?_
          refine r_iload_n X 1 dX2_findLacks_108 rfl rfl ?_
          refine r_iadd X dX2_findLacks_109 ?_
          obtain ⟨g6, h⟩ := h
          refine r_ialdL X hph 183 5544 ly_183 rfl g6 dX2_findLacks_110 ?_
          refine r_goto X 115 dX2_findLacks_111 (by decide) ?_
          exact tb_X2_findLacks_115 X hph Q (l_X2_findLacks_67 G Q n) v1 (kB G + 195) v1 (gI s (kB G + 183) (54 + v1).toNatClampNeg) s ih h
theorem tl_X2_findLacks_2 {x : CT} {G : GT} (X : Cx x G cX2_findLacks 3 RX2 none rm_X2_findLacks) (hph : kP G = 1) (Q : PS → Prop) : ∀ (n : Nat) (v1 : Int32) (s : PS) (h : l_X2_findLacks_2 G Q n v1 s), WB x G 3 (QfV x G 0 0 Q) 0 0 s 2 [(0, .ref (kB G + 182)), (1, .int v1)] [] := by
  intro n
  induction n with
  | zero =>
    intro v1 s h
    exact False.elim h
  | succ n ih =>
    intro v1 s h
    unfold l_X2_findLacks_2 at h
    refine r_iload_n X 1 dX2_findLacks_2 rfl rfl ?_
    refine r_bipush (v := 6) X dX2_findLacks_3 rfl ?_
    refine r_ic_ge X 65 dX2_findLacks_5 (by decide) (fun c1 => ?_) (fun c1 => ?_)
    · replace h := h.1 c1
      refine r_iconst (v := 0) X dX2_findLacks_65 rfl ?_
      refine r_istore_n (lv' := [(1, .int 0), (0, .ref (kB G + 182))]) X dX2_findLacks_66 rfl (Nat.le_of_ble_eq_true rfl) rfl ?_
      refine r_sub [1, 0] rfl ?_
      obtain ⟨n2, h⟩ := h
      exact tl_X2_findLacks_67 X hph Q n2 0 s h
    · replace h := h.2 c1
      refine r_iload_n X 1 dX2_findLacks_8 rfl rfl ?_
      refine r_aload_n X 0 dX2_findLacks_9 rfl rfl ?_
      refine gr_X2_7 X hph 13 182 183 ly_182 rfl rfl dX2_findLacks_10 ?_
      refine r_iconst (v := 0) X dX2_findLacks_13 rfl ?_
      refine r_ialdL X hph 183 5544 ly_183 tn_0 il_0_5544 dX2_findLacks_14 ?_
      refine r_ic_ge X 26 dX2_findLacks_15 (by decide) (fun c3 => ?_) (fun c3 => ?_)
      · replace h := h.1 c3
        refine r_iconst (v := 0) X dX2_findLacks_26 rfl ?_
        exact tb_X2_findLacks_27 X hph Q (l_X2_findLacks_2 G Q n) v1 0 s ih h
      · replace h := h.2 c3
        refine r_aload_n X 0 dX2_findLacks_18 rfl rfl ?_
        refine r_iload_n X 1 dX2_findLacks_19 rfl rfl ?_
        refine r_ci X (r_okVL (As := [.int v1]) (rest := []) X (m_X2_balanceOf (xl x) G X.2.2.2.2.1 hph v1 s _ h) (cl_X2_382 X ⟨(Nat.le_of_ble_eq_true rfl), (Nat.le_of_ble_eq_true rfl)⟩) hph 2 ly_182 rfl rfl rfl rfl (Nat.le_of_ble_eq_true rfl) dX2_findLacks_20 ⟨Nat.le_of_ble_eq_true rfl, Nat.le_of_ble_eq_true rfl⟩) (fun r5 s4 h => ?_)
        refine r_goto X 27 dX2_findLacks_23 (by decide) ?_
        exact tb_X2_findLacks_27 X hph Q (l_X2_findLacks_2 G Q n) v1 r5 s4 ih h
theorem e_X2_findLacks {x : CT} {G : GT} (X : Cx x G cX2_findLacks 3 RX2 none rm_X2_findLacks) (hph : kP G = 1) (s : PS) (Q : PS → Prop) (h : w_X2_findLacks G s Q) : WB x G 3 (QfV x G 0 0 Q) 0 0 s 0 [(0, .ref (kB G + 182))] [] := by
  unfold w_X2_findLacks at h
  refine r_iconst (v := 0) X dX2_findLacks_0 rfl ?_
  refine r_istore_n (lv' := [(1, .int 0), (0, .ref (kB G + 182))]) X dX2_findLacks_1 rfl (Nat.le_of_ble_eq_true rfl) rfl ?_
  refine r_sub [1, 0] rfl ?_
  obtain ⟨n1, h⟩ := h
  exact tl_X2_findLacks_2 X hph Q n1 0 s h
theorem m_X2_findLacks (l : Launch) (G : GT) (g : GK G) (hph : kP G = 1) (s : PS) (Q : PS → Prop) (h : w_X2_findLacks G s Q) : Met l yX2_findLacks (ws_ yX2_findLacks cX2_findLacks 3 none) rm_X2_findLacks (va_Pc [.ref (kB G + 182)] (Wr G s)) (va_Qv Q (fun u t => Wr G u t) (kF G)) 0 0 (kF G) := by
  refine Met.ofW (cc := cX2_findLacks) (maxL := 3) (ret := none) (by decide) rfl ?_
  intro p e s0 m args below meth c s₁ B hml hv
  obtain ⟨rfl, hw⟩ := hv
  exact wb_of [.ref (kB G + 182)] (Nat.le_of_ble_eq_true rfl) hw.1 rfl (e_X2_findLacks (cx_of g B hml rfl hw) hph s Q h)
theorem tl_X2_findBelow_6 {x : CT} {G : GT} (X : Cx x G cX2_findBelow 2 RX2 none rm_X2_findBelow) (hph : kP G = 1) (Q : PS → Prop) : ∀ (n : Nat) (v1 : Int32) (s : PS) (h : l_X2_findBelow_6 G Q n v1 s), WB x G 2 (QfV x G 0 0 Q) 0 0 s 6 [(0, .ref (kB G + 182)), (1, .int v1)] [] := by
  intro n
  induction n with
  | zero =>
    intro v1 s h
    exact False.elim h
  | succ n ih =>
    intro v1 s h
    unfold l_X2_findBelow_6 at h
    refine r_iload_n X 1 dX2_findBelow_6 rfl rfl ?_
    refine r_bipush (v := 6) X dX2_findBelow_7 rfl ?_
    refine r_ic_ge X 38 dX2_findBelow_9 (by decide) (fun c1 => ?_) (fun c1 => ?_)
    · replace h := h.1 c1
      exact r_vret X h (Nat.le_of_ble_eq_true rfl) (Nat.le_of_ble_eq_true rfl) dX2_findBelow_38
    · replace h := h.2 c1
      refine r_aload_n X 0 dX2_findBelow_12 rfl rfl ?_
      refine gr_X2_60 X hph 13 182 197 ly_182 rfl rfl dX2_findBelow_13 ?_
      refine r_iload_n X 1 dX2_findBelow_16 rfl rfl ?_
      refine r_aload_n X 0 dX2_findBelow_17 rfl rfl ?_
      refine gr_X2_48 X hph 13 182 193 ly_182 rfl rfl dX2_findBelow_18 ?_
      refine r_iload_n X 1 dX2_findBelow_21 rfl rfl ?_
      obtain ⟨g2, h⟩ := h
      refine r_ialdL X hph 193 6 ly_193 rfl g2 dX2_findBelow_22 ?_
      have hJ : WB x G 2 (QfV x G 0 0 Q) 0 0 s 31 [(0, .ref (kB G + 182)), (1, .int v1)] [.int (if (gI s (kB G + 193) v1.toNatClampNeg) ≤ 0 then 0 else 1 : Int32), .int v1, .ref (kB G + 197)] := by
        refine r_zastL X hph 197 6 ly_197 (by (repeat' split) <;> first | exact Or.inl rfl | exact Or.inr rfl) rfl g2 dX2_findBelow_31 (fun s4 e5 => ?_)
        replace h := h s4 e5
        refine r_iinc (lv' := [(1, .int (v1 + 1)), (0, .ref (kB G + 182))]) X 1 dX2_findBelow_32 rfl rfl (Nat.le_of_ble_eq_true rfl) rfl ?_
        refine r_goto X 6 dX2_findBelow_35 (by decide) ?_
        refine r_sub [1, 0] rfl ?_
        exact ih (v1 + 1) s4 h
      refine r_if_le X 30 dX2_findBelow_23 (by decide) (fun c3 => ?_) (fun c3 => ?_)
      · rw [if_pos c3] at hJ
        refine r_iconst (v := 0) X dX2_findBelow_30 rfl ?_
        exact hJ
      · rw [if_neg c3] at hJ
        refine r_iconst (v := 1) X dX2_findBelow_26 rfl ?_
        refine r_goto X 31 dX2_findBelow_27 (by decide) ?_
        exact hJ
theorem e_X2_findBelow {x : CT} {G : GT} (X : Cx x G cX2_findBelow 2 RX2 none rm_X2_findBelow) (hph : kP G = 1) (s : PS) (Q : PS → Prop) (h : w_X2_findBelow G s Q) : WB x G 2 (QfV x G 0 0 Q) 0 0 s 0 [(0, .ref (kB G + 182))] [] := by
  unfold w_X2_findBelow at h
  refine r_aload_n X 0 dX2_findBelow_0 rfl rfl ?_
  refine r_cv X (r_okVL (As := []) (rest := []) X (m_X2_findLacks (xl x) G X.2.2.2.2.1 hph s _ h) (cl_X2_419 X ⟨(Nat.le_of_ble_eq_true rfl), (Nat.le_of_ble_eq_true rfl)⟩) hph 2 ly_182 rfl rfl rfl rfl (Nat.le_of_ble_eq_true rfl) dX2_findBelow_1 ⟨Nat.le_of_ble_eq_true rfl, Nat.le_of_ble_eq_true rfl⟩) (fun s1 h => ?_)
  refine r_iconst (v := 0) X dX2_findBelow_4 rfl ?_
  refine r_istore_n (lv' := [(1, .int 0), (0, .ref (kB G + 182))]) X dX2_findBelow_5 rfl (Nat.le_of_ble_eq_true rfl) rfl ?_
  refine r_sub [1, 0] rfl ?_
  obtain ⟨n2, h⟩ := h
  exact tl_X2_findBelow_6 X hph Q n2 0 s1 h
theorem m_X2_findBelow (l : Launch) (G : GT) (g : GK G) (hph : kP G = 1) (s : PS) (Q : PS → Prop) (h : w_X2_findBelow G s Q) : Met l yX2_findBelow (ws_ yX2_findBelow cX2_findBelow 2 none) rm_X2_findBelow (va_Pc [.ref (kB G + 182)] (Wr G s)) (va_Qv Q (fun u t => Wr G u t) (kF G)) 0 0 (kF G) := by
  refine Met.ofW (cc := cX2_findBelow) (maxL := 2) (ret := none) (by decide) rfl ?_
  intro p e s0 m args below meth c s₁ B hml hv
  obtain ⟨rfl, hw⟩ := hv
  exact wb_of [.ref (kB G + 182)] (Nat.le_of_ble_eq_true rfl) hw.1 rfl (e_X2_findBelow (cx_of g B hml rfl hw) hph s Q h)
theorem tl_X2_isTooMuch_43 {x : CT} {G : GT} (X : Cx x G cX2_isTooMuch 7 RX2 (some .boolean) rm_X2_isTooMuch) (hph : kP G = 1) (Q : Int32 → PS → Prop) (K7 : Int32 → Int32 → Int32 → PS → Prop) (v1 : Int32) (v2 : Int32) (v3 : Int32) (v4 : Int32) (hK7 : ∀ (v2' : Int32) (v3' : Int32) (v4' : Int32) (s' : PS), K7 v2' v3' v4' s' → WB x G 7 (QfI x G 0 0 (fun r u => (r = 0 ∨ r = 1) ∧ Q r u)) 0 0 s' 7 [(0, .ref (kB G + 182)), (1, .int v1), (2, .int v2'), (3, .int v3'), (4, .int v4')] []) : ∀ (n : Nat) (v5 : Int32) (v6 : Int32) (s : PS) (h : l_X2_isTooMuch_43 G Q K7 v1 v2 v3 v4 n v5 v6 s), WB x G 7 (QfI x G 0 0 (fun r u => (r = 0 ∨ r = 1) ∧ Q r u)) 0 0 s 43 [(0, .ref (kB G + 182)), (1, .int v1), (2, .int v2), (3, .int v3), (4, .int v4), (5, .int v5), (6, .int v6)] [] := by
  intro n
  induction n with
  | zero =>
    intro v5 v6 s h
    exact False.elim h
  | succ n ih =>
    intro v5 v6 s h
    unfold l_X2_isTooMuch_43 at h
    refine r_iload X 6 dX2_isTooMuch_43 rfl ?_
    refine r_bipush (v := 6) X dX2_isTooMuch_45 rfl ?_
    refine r_ic_ge X 87 dX2_isTooMuch_47 (by decide) (fun c1 => ?_) (fun c1 => ?_)
    · replace h := h.1 c1
      refine r_iload_n X 3 dX2_isTooMuch_87 rfl rfl ?_
      refine r_iload X 5 dX2_isTooMuch_88 rfl ?_
      refine r_aload_n X 0 dX2_isTooMuch_90 rfl rfl ?_
      refine gr_X2_51 X hph 13 182 194 ly_182 rfl rfl dX2_isTooMuch_91 ?_
      refine r_iload X 4 dX2_isTooMuch_94 rfl ?_
      obtain ⟨g2, h⟩ := h
      refine r_ialdL X hph 194 6 ly_194 rfl g2 dX2_isTooMuch_96 ?_
      have hJ : WB x G 7 (QfI x G 0 0 (fun r u => (r = 0 ∨ r = 1) ∧ Q r u)) 0 0 s 112 [(0, .ref (kB G + 182)), (1, .int v1), (2, .int v2), (3, .int v3), (4, .int v4), (5, .int v5), (6, .int v6)] [.int (if (gI s (kB G + 194) v4.toNatClampNeg) ≤ v5 then (gI s (kB G + 194) v4.toNatClampNeg) else v5 : Int32), .int v3] := by
        refine r_iadd X dX2_isTooMuch_112 ?_
        refine r_nmI (fun y4 e5 => ?_)
        replace h := h y4 e5
        refine r_istore_n (lv' := [(3, .int y4), (0, .ref (kB G + 182)), (1, .int v1), (2, .int v2), (4, .int v4), (5, .int v5), (6, .int v6)]) X dX2_isTooMuch_113 rfl (Nat.le_of_ble_eq_true rfl) rfl ?_
        refine r_iinc (lv' := [(4, .int (v4 + 1)), (3, .int y4), (0, .ref (kB G + 182)), (1, .int v1), (2, .int v2), (5, .int v5), (6, .int v6)]) X 4 dX2_isTooMuch_114 rfl rfl (Nat.le_of_ble_eq_true rfl) rfl ?_
        refine r_goto X 7 dX2_isTooMuch_117 (by decide) ?_
        refine r_sub [2, 3, 4, 1, 0] rfl ?_
        exact hK7 v2 y4 (v4 + 1) s h
      refine r_ic_ge X 105 dX2_isTooMuch_97 (by decide) (fun c3 => ?_) (fun c3 => ?_)
      · rw [if_pos c3] at hJ
        refine r_aload_n X 0 dX2_isTooMuch_105 rfl rfl ?_
        refine gr_X2_51 X hph 13 182 194 ly_182 rfl rfl dX2_isTooMuch_106 ?_
        refine r_iload X 4 dX2_isTooMuch_109 rfl ?_
        refine r_ialdL X hph 194 6 ly_194 rfl g2 dX2_isTooMuch_111 ?_
        exact hJ
      · rw [if_neg c3] at hJ
        refine r_iload X 5 dX2_isTooMuch_100 rfl ?_
        refine r_goto X 112 dX2_isTooMuch_102 (by decide) ?_
        exact hJ
    · replace h := h.2 c1
      refine r_iload X 5 dX2_isTooMuch_50 rfl ?_
      refine r_iload_n X 1 dX2_isTooMuch_52 rfl rfl ?_
      refine r_iload X 6 dX2_isTooMuch_53 rfl ?_
      refine r_ci X (r_okS (As := [.int v1, .int v6]) (rest := [.int v5]) X (m_X2_has (xl x) G X.2.2.2.2.1 v1 v6 s _ h) (cl_X2_224 X ⟨(Nat.le_of_ble_eq_true rfl), (Nat.le_of_ble_eq_true rfl)⟩) rfl rfl (Nat.le_of_ble_eq_true rfl) dX2_isTooMuch_55 ⟨Nat.le_of_ble_eq_true rfl, Nat.le_of_ble_eq_true rfl⟩) (fun r7 s6 h => ?_)
      obtain ⟨z8, h⟩ := h
      refine r_if_eq X 77 dX2_isTooMuch_58 (by decide) (fun c9 => ?_) (fun c9 => ?_)
      · replace h := h.1 c9
        refine r_iconst (v := 0) X dX2_isTooMuch_77 rfl ?_
        refine r_iadd X dX2_isTooMuch_78 ?_
        refine r_nmI (fun y10 e11 => ?_)
        replace h := h y10 e11
        refine r_istore (lv' := [(5, .int y10), (0, .ref (kB G + 182)), (1, .int v1), (2, .int v2), (3, .int v3), (4, .int v4), (6, .int v6)]) X dX2_isTooMuch_79 (Nat.le_of_ble_eq_true rfl) rfl ?_
        refine r_iinc (lv' := [(6, .int (v6 + 1)), (5, .int y10), (0, .ref (kB G + 182)), (1, .int v1), (2, .int v2), (3, .int v3), (4, .int v4)]) X 6 dX2_isTooMuch_81 rfl rfl (Nat.le_of_ble_eq_true rfl) rfl ?_
        refine r_goto X 43 dX2_isTooMuch_84 (by decide) ?_
        refine r_sub [2, 3, 4, 5, 6, 1, 0] rfl ?_
        exact ih y10 (v6 + 1) s6 h
      · replace h := h.2 c9
        refine r_aload_n X 0 dX2_isTooMuch_61 rfl rfl ?_
        refine gr_X2_54 X hph 13 182 195 ly_182 rfl rfl dX2_isTooMuch_62 ?_
        refine r_bipush (v := 6) X dX2_isTooMuch_65 rfl ?_
        refine r_iload X 6 dX2_isTooMuch_67 rfl ?_
        refine r_imul X dX2_isTooMuch_69 ?_
        refine r_iload X 4 dX2_isTooMuch_70 rfl ?_
        refine r_iadd X dX2_isTooMuch_72 ?_
        obtain ⟨g12, h⟩ := h
        refine r_ialdL X hph 195 36 ly_195 rfl g12 dX2_isTooMuch_73 ?_
        refine r_goto X 78 dX2_isTooMuch_74 (by decide) ?_
        refine r_iadd X dX2_isTooMuch_78 ?_
        refine r_nmI (fun y13 e14 => ?_)
        replace h := h y13 e14
        refine r_istore (lv' := [(5, .int y13), (0, .ref (kB G + 182)), (1, .int v1), (2, .int v2), (3, .int v3), (4, .int v4), (6, .int v6)]) X dX2_isTooMuch_79 (Nat.le_of_ble_eq_true rfl) rfl ?_
        refine r_iinc (lv' := [(6, .int (v6 + 1)), (5, .int y13), (0, .ref (kB G + 182)), (1, .int v1), (2, .int v2), (3, .int v3), (4, .int v4)]) X 6 dX2_isTooMuch_81 rfl rfl (Nat.le_of_ble_eq_true rfl) rfl ?_
        refine r_goto X 43 dX2_isTooMuch_84 (by decide) ?_
        refine r_sub [2, 3, 4, 5, 6, 1, 0] rfl ?_
        exact ih y13 (v6 + 1) s6 h
theorem tl_X2_isTooMuch_7 {x : CT} {G : GT} (X : Cx x G cX2_isTooMuch 7 RX2 (some .boolean) rm_X2_isTooMuch) (hph : kP G = 1) (Q : Int32 → PS → Prop) (v1 : Int32) : ∀ (n : Nat) (v2 : Int32) (v3 : Int32) (v4 : Int32) (s : PS) (h : l_X2_isTooMuch_7 G Q v1 n v2 v3 v4 s), WB x G 7 (QfI x G 0 0 (fun r u => (r = 0 ∨ r = 1) ∧ Q r u)) 0 0 s 7 [(0, .ref (kB G + 182)), (1, .int v1), (2, .int v2), (3, .int v3), (4, .int v4)] [] := by
  intro n
  induction n with
  | zero =>
    intro v2 v3 v4 s h
    exact False.elim h
  | succ n ih =>
    intro v2 v3 v4 s h
    unfold l_X2_isTooMuch_7 at h
    refine r_iload X 4 dX2_isTooMuch_7 rfl ?_
    refine r_bipush (v := 6) X dX2_isTooMuch_9 rfl ?_
    refine r_ic_ge X 120 dX2_isTooMuch_11 (by decide) (fun c1 => ?_) (fun c1 => ?_)
    · replace h := h.1 c1
      refine r_iload_n X 2 dX2_isTooMuch_120 rfl rfl ?_
      refine r_iload_n X 3 dX2_isTooMuch_121 rfl rfl ?_
      have hJ : WB x G 7 (QfI x G 0 0 (fun r u => (r = 0 ∨ r = 1) ∧ Q r u)) 0 0 s 130 [(0, .ref (kB G + 182)), (1, .int v1), (2, .int v2), (3, .int v3), (4, .int v4)] [.int (if v2 ≤ v3 then 0 else 1 : Int32)] := by
        exact r_zret X (by (repeat' split) <;> first | exact Or.inl rfl | exact Or.inr rfl) h (Nat.le_of_ble_eq_true rfl) (Nat.le_of_ble_eq_true rfl) dX2_isTooMuch_130
      refine r_ic_le X 129 dX2_isTooMuch_122 (by decide) (fun c2 => ?_) (fun c2 => ?_)
      · rw [if_pos c2] at hJ
        refine r_iconst (v := 0) X dX2_isTooMuch_129 rfl ?_
        exact hJ
      · rw [if_neg c2] at hJ
        refine r_iconst (v := 1) X dX2_isTooMuch_125 rfl ?_
        refine r_goto X 130 dX2_isTooMuch_126 (by decide) ?_
        exact hJ
    · replace h := h.2 c1
      refine r_iload_n X 2 dX2_isTooMuch_14 rfl rfl ?_
      refine r_iload_n X 1 dX2_isTooMuch_15 rfl rfl ?_
      refine r_iload X 4 dX2_isTooMuch_16 rfl ?_
      refine r_ci X (r_okS (As := [.int v1, .int v4]) (rest := [.int v2]) X (m_X2_has (xl x) G X.2.2.2.2.1 v1 v4 s _ h) (cl_X2_224 X ⟨(Nat.le_of_ble_eq_true rfl), (Nat.le_of_ble_eq_true rfl)⟩) rfl rfl (Nat.le_of_ble_eq_true rfl) dX2_isTooMuch_18 ⟨Nat.le_of_ble_eq_true rfl, Nat.le_of_ble_eq_true rfl⟩) (fun r4 s3 h => ?_)
      obtain ⟨z5, h⟩ := h
      refine r_if_eq X 34 dX2_isTooMuch_21 (by decide) (fun c6 => ?_) (fun c6 => ?_)
      · replace h := h.1 c6
        refine r_iconst (v := 0) X dX2_isTooMuch_34 rfl ?_
        refine r_iadd X dX2_isTooMuch_35 ?_
        refine r_nmI (fun y7 e8 => ?_)
        replace h := h y7 e8
        refine r_istore_n (lv' := [(2, .int y7), (0, .ref (kB G + 182)), (1, .int v1), (3, .int v3), (4, .int v4)]) X dX2_isTooMuch_36 rfl (Nat.le_of_ble_eq_true rfl) rfl ?_
        refine r_iconst (v := 0) X dX2_isTooMuch_37 rfl ?_
        refine r_istore (lv' := [(5, .int 0), (2, .int y7), (0, .ref (kB G + 182)), (1, .int v1), (3, .int v3), (4, .int v4)]) X dX2_isTooMuch_38 (Nat.le_of_ble_eq_true rfl) rfl ?_
        refine r_iconst (v := 0) X dX2_isTooMuch_40 rfl ?_
        refine r_istore (lv' := [(6, .int 0), (5, .int 0), (2, .int y7), (0, .ref (kB G + 182)), (1, .int v1), (3, .int v3), (4, .int v4)]) X dX2_isTooMuch_41 (Nat.le_of_ble_eq_true rfl) rfl ?_
        refine r_sub [3, 4, 2, 5, 6, 1, 0] rfl ?_
        obtain ⟨n9, h⟩ := h
        exact tl_X2_isTooMuch_43 X hph Q (l_X2_isTooMuch_7 G Q v1 n) v1 y7 v3 v4 ih n9 0 0 s3 h
      · replace h := h.2 c6
        refine r_aload_n X 0 dX2_isTooMuch_24 rfl rfl ?_
        refine gr_X2_48 X hph 13 182 193 ly_182 rfl rfl dX2_isTooMuch_25 ?_
        refine r_iload X 4 dX2_isTooMuch_28 rfl ?_
        obtain ⟨g10, h⟩ := h
        refine r_ialdL X hph 193 6 ly_193 rfl g10 dX2_isTooMuch_30 ?_
        refine r_goto X 35 dX2_isTooMuch_31 (by decide) ?_
        refine r_iadd X dX2_isTooMuch_35 ?_
        refine r_nmI (fun y11 e12 => ?_)
        replace h := h y11 e12
        refine r_istore_n (lv' := [(2, .int y11), (0, .ref (kB G + 182)), (1, .int v1), (3, .int v3), (4, .int v4)]) X dX2_isTooMuch_36 rfl (Nat.le_of_ble_eq_true rfl) rfl ?_
        refine r_iconst (v := 0) X dX2_isTooMuch_37 rfl ?_
        refine r_istore (lv' := [(5, .int 0), (2, .int y11), (0, .ref (kB G + 182)), (1, .int v1), (3, .int v3), (4, .int v4)]) X dX2_isTooMuch_38 (Nat.le_of_ble_eq_true rfl) rfl ?_
        refine r_iconst (v := 0) X dX2_isTooMuch_40 rfl ?_
        refine r_istore (lv' := [(6, .int 0), (5, .int 0), (2, .int y11), (0, .ref (kB G + 182)), (1, .int v1), (3, .int v3), (4, .int v4)]) X dX2_isTooMuch_41 (Nat.le_of_ble_eq_true rfl) rfl ?_
        refine r_sub [3, 4, 2, 5, 6, 1, 0] rfl ?_
        obtain ⟨n13, h⟩ := h
        exact tl_X2_isTooMuch_43 X hph Q (l_X2_isTooMuch_7 G Q v1 n) v1 y11 v3 v4 ih n13 0 0 s3 h
theorem e_X2_isTooMuch {x : CT} {G : GT} (X : Cx x G cX2_isTooMuch 7 RX2 (some .boolean) rm_X2_isTooMuch) (hph : kP G = 1) (p1 : Int32) (s : PS) (Q : Int32 → PS → Prop) (h : w_X2_isTooMuch G p1 s Q) : WB x G 7 (QfI x G 0 0 (fun r u => (r = 0 ∨ r = 1) ∧ Q r u)) 0 0 s 0 [(0, .ref (kB G + 182)), (1, .int p1)] [] := by
  unfold w_X2_isTooMuch at h
  refine r_iconst (v := 0) X dX2_isTooMuch_0 rfl ?_
  refine r_istore_n (lv' := [(2, .int 0), (0, .ref (kB G + 182)), (1, .int p1)]) X dX2_isTooMuch_1 rfl (Nat.le_of_ble_eq_true rfl) rfl ?_
  refine r_iconst (v := 0) X dX2_isTooMuch_2 rfl ?_
  refine r_istore_n (lv' := [(3, .int 0), (2, .int 0), (0, .ref (kB G + 182)), (1, .int p1)]) X dX2_isTooMuch_3 rfl (Nat.le_of_ble_eq_true rfl) rfl ?_
  refine r_iconst (v := 0) X dX2_isTooMuch_4 rfl ?_
  refine r_istore (lv' := [(4, .int 0), (3, .int 0), (2, .int 0), (0, .ref (kB G + 182)), (1, .int p1)]) X dX2_isTooMuch_5 (Nat.le_of_ble_eq_true rfl) rfl ?_
  refine r_sub [3, 4, 2, 1, 0] rfl ?_
  obtain ⟨n1, h⟩ := h
  exact tl_X2_isTooMuch_7 X hph Q p1 n1 0 0 0 s h
theorem m_X2_isTooMuch (l : Launch) (G : GT) (g : GK G) (hph : kP G = 1) (p1 : Int32) (s : PS) (Q : Int32 → PS → Prop) (h : w_X2_isTooMuch G p1 s Q) : Met l yX2_isTooMuch (ws_ yX2_isTooMuch cX2_isTooMuch 7 (some .boolean)) rm_X2_isTooMuch (va_Pc [.ref (kB G + 182), .int p1] (Wr G s)) (va_Qi (fun r u => (r = 0 ∨ r = 1) ∧ Q r u) (fun u t => Wr G u t) (kF G)) 0 0 (kF G) := by
  refine Met.ofW (cc := cX2_isTooMuch) (maxL := 7) (ret := (some .boolean)) (by decide) rfl ?_
  intro p e s0 m args below meth c s₁ B hml hv
  obtain ⟨rfl, hw⟩ := hv
  exact wb_of [.ref (kB G + 182), .int p1] (Nat.le_of_ble_eq_true rfl) hw.1 rfl (e_X2_isTooMuch (cx_of g B hml rfl hw) hph p1 s Q h)
theorem tl_X2_tooMuch_12 {x : CT} {G : GT} (X : Cx x G cX2_tooMuch 4 RX2 (some .int) rm_X2_tooMuch) (hph : kP G = 1) (Q : Int32 → PS → Prop) (K2 : Int32 → PS → Prop) (v1 : Int32) (hK2 : ∀ (v1' : Int32) (s' : PS), K2 v1' s' → WB x G 4 (QfI x G 0 0 Q) 0 0 s' 2 [(0, .ref (kB G + 182)), (1, .int v1')] []) : ∀ (n : Nat) (v2 : Int32) (v3 : Int32) (s : PS) (h : l_X2_tooMuch_12 G Q K2 v1 n v2 v3 s), WB x G 4 (QfI x G 0 0 Q) 0 0 s 12 [(0, .ref (kB G + 182)), (1, .int v1), (2, .int v2), (3, .int v3)] [] := by
  intro n
  induction n with
  | zero =>
    intro v2 v3 s h
    exact False.elim h
  | succ n ih =>
    intro v2 v3 s h
    unfold l_X2_tooMuch_12 at h
    refine r_iload_n X 3 dX2_tooMuch_12 rfl rfl ?_
    refine r_bipush (v := 6) X dX2_tooMuch_13 rfl ?_
    refine r_ic_ge X 51 dX2_tooMuch_15 (by decide) (fun c1 => ?_) (fun c1 => ?_)
    · replace h := h.1 c1
      refine r_iload_n X 2 dX2_tooMuch_51 rfl rfl ?_
      refine r_if_eq X 65 dX2_tooMuch_52 (by decide) (fun c2 => ?_) (fun c2 => ?_)
      · replace h := h.1 c2
        refine r_iinc (lv' := [(1, .int (v1 + 1)), (0, .ref (kB G + 182)), (2, .int v2), (3, .int v3)]) X 1 dX2_tooMuch_65 rfl rfl (Nat.le_of_ble_eq_true rfl) rfl ?_
        refine r_goto X 2 dX2_tooMuch_68 (by decide) ?_
        refine r_sub [1, 0] rfl ?_
        exact hK2 (v1 + 1) s h
      · replace h := h.2 c2
        refine r_aload_n X 0 dX2_tooMuch_55 rfl rfl ?_
        refine r_iload_n X 1 dX2_tooMuch_56 rfl rfl ?_
        refine r_ci X (r_okVL (As := [.int v1]) (rest := []) X (m_X2_isTooMuch (xl x) G X.2.2.2.2.1 hph v1 s _ h) (cl_X2_416 X ⟨(Nat.le_of_ble_eq_true rfl), (Nat.le_of_ble_eq_true rfl)⟩) hph 2 ly_182 rfl rfl rfl rfl (Nat.le_of_ble_eq_true rfl) dX2_tooMuch_57 ⟨Nat.le_of_ble_eq_true rfl, Nat.le_of_ble_eq_true rfl⟩) (fun r4 s3 h => ?_)
        obtain ⟨z5, h⟩ := h
        refine r_if_eq X 65 dX2_tooMuch_60 (by decide) (fun c6 => ?_) (fun c6 => ?_)
        · replace h := h.1 c6
          refine r_iinc (lv' := [(1, .int (v1 + 1)), (0, .ref (kB G + 182)), (2, .int v2), (3, .int v3)]) X 1 dX2_tooMuch_65 rfl rfl (Nat.le_of_ble_eq_true rfl) rfl ?_
          refine r_goto X 2 dX2_tooMuch_68 (by decide) ?_
          refine r_sub [1, 0] rfl ?_
          exact hK2 (v1 + 1) s3 h
        · replace h := h.2 c6
          refine r_iload_n X 1 dX2_tooMuch_63 rfl rfl ?_
          exact r_iret X h (Nat.le_of_ble_eq_true rfl) (Nat.le_of_ble_eq_true rfl) dX2_tooMuch_64
    · replace h := h.2 c1
      refine r_iload_n X 2 dX2_tooMuch_18 rfl rfl ?_
      refine r_if_eq X 43 dX2_tooMuch_19 (by decide) (fun c7 => ?_) (fun c7 => ?_)
      · replace h := h.1 c7
        refine r_iconst (v := 0) X dX2_tooMuch_43 rfl ?_
        refine r_istore_n (lv' := [(2, .int 0), (0, .ref (kB G + 182)), (1, .int v1), (3, .int v3)]) X dX2_tooMuch_44 rfl (Nat.le_of_ble_eq_true rfl) rfl ?_
        refine r_iinc (lv' := [(3, .int (v3 + 1)), (2, .int 0), (0, .ref (kB G + 182)), (1, .int v1)]) X 3 dX2_tooMuch_45 rfl rfl (Nat.le_of_ble_eq_true rfl) rfl ?_
        refine r_goto X 12 dX2_tooMuch_48 (by decide) ?_
        refine r_sub [2, 3, 1, 0] rfl ?_
        exact ih 0 (v3 + 1) s h
      · replace h := h.2 c7
        refine r_iload_n X 1 dX2_tooMuch_22 rfl rfl ?_
        refine r_iload_n X 3 dX2_tooMuch_23 rfl rfl ?_
        refine r_ci X (r_okS (As := [.int v1, .int v3]) (rest := []) X (m_X2_has (xl x) G X.2.2.2.2.1 v1 v3 s _ h) (cl_X2_224 X ⟨(Nat.le_of_ble_eq_true rfl), (Nat.le_of_ble_eq_true rfl)⟩) rfl rfl (Nat.le_of_ble_eq_true rfl) dX2_tooMuch_24 ⟨Nat.le_of_ble_eq_true rfl, Nat.le_of_ble_eq_true rfl⟩) (fun r9 s8 h => ?_)
        obtain ⟨z10, h⟩ := h
        refine r_if_eq X 39 dX2_tooMuch_27 (by decide) (fun c11 => ?_) (fun c11 => ?_)
        · replace h := h.1 c11
          refine r_iconst (v := 1) X dX2_tooMuch_39 rfl ?_
          refine r_goto X 44 dX2_tooMuch_40 (by decide) ?_
          refine r_istore_n (lv' := [(2, .int 1), (0, .ref (kB G + 182)), (1, .int v1), (3, .int v3)]) X dX2_tooMuch_44 rfl (Nat.le_of_ble_eq_true rfl) rfl ?_
          refine r_iinc (lv' := [(3, .int (v3 + 1)), (2, .int 1), (0, .ref (kB G + 182)), (1, .int v1)]) X 3 dX2_tooMuch_45 rfl rfl (Nat.le_of_ble_eq_true rfl) rfl ?_
          refine r_goto X 12 dX2_tooMuch_48 (by decide) ?_
          refine r_sub [2, 3, 1, 0] rfl ?_
          exact ih 1 (v3 + 1) s8 h
        · replace h := h.2 c11
          refine r_aload_n X 0 dX2_tooMuch_30 rfl rfl ?_
          refine gr_X2_60 X hph 13 182 197 ly_182 rfl rfl dX2_tooMuch_31 ?_
          refine r_iload_n X 3 dX2_tooMuch_34 rfl rfl ?_
          obtain ⟨g12, h⟩ := h
          refine r_zaldL X hph 197 6 ly_197 rfl g12 dX2_tooMuch_35 ?_
          have hJ : WB x G 4 (QfI x G 0 0 Q) 0 0 s8 44 [(0, .ref (kB G + 182)), (1, .int v1), (2, .int v2), (3, .int v3)] [.int (if (gI s8 (kB G + 197) v3.toNatClampNeg) = 0 then 0 else 1 : Int32)] := by
            refine r_nmI (fun y14 e15 => ?_)
            replace h := h y14 e15
            refine r_istore_n (lv' := [(2, .int y14), (0, .ref (kB G + 182)), (1, .int v1), (3, .int v3)]) X dX2_tooMuch_44 rfl (Nat.le_of_ble_eq_true rfl) rfl ?_
            refine r_iinc (lv' := [(3, .int (v3 + 1)), (2, .int y14), (0, .ref (kB G + 182)), (1, .int v1)]) X 3 dX2_tooMuch_45 rfl rfl (Nat.le_of_ble_eq_true rfl) rfl ?_
            refine r_goto X 12 dX2_tooMuch_48 (by decide) ?_
            refine r_sub [2, 3, 1, 0] rfl ?_
            exact ih y14 (v3 + 1) s8 h
          refine r_if_eq X 43 dX2_tooMuch_36 (by decide) (fun c13 => ?_) (fun c13 => ?_)
          · rw [if_pos c13] at hJ
            refine r_iconst (v := 0) X dX2_tooMuch_43 rfl ?_
            exact hJ
          · rw [if_neg c13] at hJ
            refine r_iconst (v := 1) X dX2_tooMuch_39 rfl ?_
            refine r_goto X 44 dX2_tooMuch_40 (by decide) ?_
            exact hJ
theorem tl_X2_tooMuch_2 {x : CT} {G : GT} (X : Cx x G cX2_tooMuch 4 RX2 (some .int) rm_X2_tooMuch) (hph : kP G = 1) (Q : Int32 → PS → Prop) : ∀ (n : Nat) (v1 : Int32) (s : PS) (h : l_X2_tooMuch_2 G Q n v1 s), WB x G 4 (QfI x G 0 0 Q) 0 0 s 2 [(0, .ref (kB G + 182)), (1, .int v1)] [] := by
  intro n
  induction n with
  | zero =>
    intro v1 s h
    exact False.elim h
  | succ n ih =>
    intro v1 s h
    unfold l_X2_tooMuch_2 at h
    refine r_iload_n X 1 dX2_tooMuch_2 rfl rfl ?_
    refine r_bipush (v := 64) X dX2_tooMuch_3 rfl ?_
    refine r_ic_ge X 71 dX2_tooMuch_5 (by decide) (fun c1 => ?_) (fun c1 => ?_)
    · replace h := h.1 c1
      refine r_iconst (v := (-1)) X dX2_tooMuch_71 rfl ?_
      exact r_iret X h (Nat.le_of_ble_eq_true rfl) (Nat.le_of_ble_eq_true rfl) dX2_tooMuch_72
    · replace h := h.2 c1
      refine r_iconst (v := 1) X dX2_tooMuch_8 rfl ?_
      refine r_istore_n (lv' := [(2, .int 1), (0, .ref (kB G + 182)), (1, .int v1)]) X dX2_tooMuch_9 rfl (Nat.le_of_ble_eq_true rfl) rfl ?_
      refine r_iconst (v := 0) X dX2_tooMuch_10 rfl ?_
      refine r_istore_n (lv' := [(3, .int 0), (2, .int 1), (0, .ref (kB G + 182)), (1, .int v1)]) X dX2_tooMuch_11 rfl (Nat.le_of_ble_eq_true rfl) rfl ?_
      refine r_sub [2, 3, 1, 0] rfl ?_
      obtain ⟨n2, h⟩ := h
      exact tl_X2_tooMuch_12 X hph Q (l_X2_tooMuch_2 G Q n) v1 ih n2 1 0 s h
theorem e_X2_tooMuch {x : CT} {G : GT} (X : Cx x G cX2_tooMuch 4 RX2 (some .int) rm_X2_tooMuch) (hph : kP G = 1) (s : PS) (Q : Int32 → PS → Prop) (h : w_X2_tooMuch G s Q) : WB x G 4 (QfI x G 0 0 Q) 0 0 s 0 [(0, .ref (kB G + 182))] [] := by
  unfold w_X2_tooMuch at h
  refine r_iconst (v := 1) X dX2_tooMuch_0 rfl ?_
  refine r_istore_n (lv' := [(1, .int 1), (0, .ref (kB G + 182))]) X dX2_tooMuch_1 rfl (Nat.le_of_ble_eq_true rfl) rfl ?_
  refine r_sub [1, 0] rfl ?_
  obtain ⟨n1, h⟩ := h
  exact tl_X2_tooMuch_2 X hph Q n1 1 s h
theorem m_X2_tooMuch (l : Launch) (G : GT) (g : GK G) (hph : kP G = 1) (s : PS) (Q : Int32 → PS → Prop) (h : w_X2_tooMuch G s Q) : Met l yX2_tooMuch (ws_ yX2_tooMuch cX2_tooMuch 4 (some .int)) rm_X2_tooMuch (va_Pc [.ref (kB G + 182)] (Wr G s)) (va_Qi Q (fun u t => Wr G u t) (kF G)) 0 0 (kF G) := by
  refine Met.ofW (cc := cX2_tooMuch) (maxL := 4) (ret := (some .int)) (by decide) rfl ?_
  intro p e s0 m args below meth c s₁ B hml hv
  obtain ⟨rfl, hw⟩ := hv
  exact wb_of [.ref (kB G + 182)] (Nat.le_of_ble_eq_true rfl) hw.1 rfl (e_X2_tooMuch (cx_of g B hml rfl hw) hph s Q h)
theorem tl_X2_findLent_41 {x : CT} {G : GT} (X : Cx x G cX2_findLent 8 RX2 none rm_X2_findLent) (hph : kP G = 1) (Q : PS → Prop) (v1 : Int32) (v2 : Int32) (v3 : Int32) (v4 : Int32) (v5 : Int32) (v6 : Int32) : ∀ (n : Nat) (v7 : Int32) (s : PS) (h : l_X2_findLent_41 G Q v1 v2 v3 v4 v5 v6 n v7 s), WB x G 8 (QfV x G 0 0 Q) 0 0 s 41 [(0, .ref (kB G + 182)), (1, .int v1), (2, .int v2), (3, .int v3), (4, .int v4), (5, .int v5), (6, .int v6), (7, .int v7)] [] := by
  intro n
  induction n with
  | zero =>
    intro v7 s h
    exact False.elim h
  | succ n ih =>
    intro v7 s h
    unfold l_X2_findLent_41 at h
    refine r_iload X 7 dX2_findLent_41 rfl ?_
    refine r_iload X 4 dX2_findLent_43 rfl ?_
    refine r_ic_gt X 110 dX2_findLent_45 (by decide) (fun c1 => ?_) (fun c1 => ?_)
    · replace h := h.1 c1
      exact r_vret X h (Nat.le_of_ble_eq_true rfl) (Nat.le_of_ble_eq_true rfl) dX2_findLent_110
    · replace h := h.2 c1
      refine r_iload X 7 dX2_findLent_48 rfl ?_
      refine r_iload X 6 dX2_findLent_50 rfl ?_
      refine r_ic_gt X 110 dX2_findLent_52 (by decide) (fun c2 => ?_) (fun c2 => ?_)
      · replace h := h.1 c2
        exact r_vret X h (Nat.le_of_ble_eq_true rfl) (Nat.le_of_ble_eq_true rfl) dX2_findLent_110
      · replace h := h.2 c2
        refine r_aload_n X 0 dX2_findLent_55 rfl rfl ?_
        refine gr_X2_48 X hph 13 182 193 ly_182 rfl rfl dX2_findLent_56 ?_
        refine r_iload_n X 1 dX2_findLent_59 rfl rfl ?_
        refine r_iload X 5 dX2_findLent_60 rfl ?_
        refine r_iload X 7 dX2_findLent_62 rfl ?_
        have hJ : WB x G 8 (QfV x G 0 0 Q) 0 0 s 76 [(0, .ref (kB G + 182)), (1, .int v1), (2, .int v2), (3, .int v3), (4, .int v4), (5, .int v5), (6, .int v6), (7, .int v7)] [.int (if v5 ≤ v7 then 0 else (v5 - v7) : Int32), .int v1, .ref (kB G + 193)] := by
          obtain ⟨g4, h⟩ := h
          refine r_iastL X hph 193 6 ly_193 rfl g4 dX2_findLent_76 (fun s5 e6 => ?_)
          replace h := h s5 e6
          refine r_aload_n X 0 dX2_findLent_77 rfl rfl ?_
          refine gr_X2_51 X hph 13 182 194 ly_182 rfl rfl dX2_findLent_78 ?_
          refine r_iload_n X 2 dX2_findLent_81 rfl rfl ?_
          refine r_iload X 6 dX2_findLent_82 rfl ?_
          refine r_iload X 7 dX2_findLent_84 rfl ?_
          refine r_isub X dX2_findLent_86 ?_
          obtain ⟨g7, h⟩ := h
          refine r_iastL X hph 194 6 ly_194 rfl g7 dX2_findLent_87 (fun s8 e9 => ?_)
          replace h := h s8 e9
          refine r_aload_n X 0 dX2_findLent_88 rfl rfl ?_
          refine gr_X2_57 X hph 13 182 196 ly_182 rfl rfl dX2_findLent_89 ?_
          refine r_iload_n X 3 dX2_findLent_92 rfl rfl ?_
          refine r_iload X 7 dX2_findLent_93 rfl ?_
          obtain ⟨g10, h⟩ := h
          refine r_iastL X hph 196 36 ly_196 rfl g10 dX2_findLent_95 (fun s11 e12 => ?_)
          replace h := h s11 e12
          refine r_aload_n X 0 dX2_findLent_96 rfl rfl ?_
          refine r_ci X (r_okVL (As := []) (rest := []) X (m_X2_tooMuch (xl x) G X.2.2.2.2.1 hph s11 _ h) (cl_X2_422 X ⟨(Nat.le_of_ble_eq_true rfl), (Nat.le_of_ble_eq_true rfl)⟩) hph 2 ly_182 rfl rfl rfl rfl (Nat.le_of_ble_eq_true rfl) dX2_findLent_97 ⟨Nat.le_of_ble_eq_true rfl, Nat.le_of_ble_eq_true rfl⟩) (fun r14 s13 h => ?_)
          refine r_if_ge X 104 dX2_findLent_100 (by decide) (fun c15 => ?_) (fun c15 => ?_)
          · replace h := h.1 c15
            refine r_iinc (lv' := [(7, .int (v7 + 1)), (0, .ref (kB G + 182)), (1, .int v1), (2, .int v2), (3, .int v3), (4, .int v4), (5, .int v5), (6, .int v6)]) X 7 dX2_findLent_104 rfl rfl (Nat.le_of_ble_eq_true rfl) rfl ?_
            refine r_goto X 41 dX2_findLent_107 (by decide) ?_
            refine r_sub [1, 2, 3, 4, 5, 6, 7, 0] rfl ?_
            exact ih (v7 + 1) s13 h
          · replace h := h.2 c15
            exact r_vret X h (Nat.le_of_ble_eq_true rfl) (Nat.le_of_ble_eq_true rfl) dX2_findLent_103
        refine r_ic_le X 75 dX2_findLent_64 (by decide) (fun c3 => ?_) (fun c3 => ?_)
        · rw [if_pos c3] at hJ
          refine r_iconst (v := 0) X dX2_findLent_75 rfl ?_
          exact hJ
        · rw [if_neg c3] at hJ
          refine r_iload X 5 dX2_findLent_67 rfl ?_
          refine r_iload X 7 dX2_findLent_69 rfl ?_
          refine r_isub X dX2_findLent_71 ?_
          refine r_goto X 76 dX2_findLent_72 (by decide) ?_
          exact hJ
theorem e_X2_findLent {x : CT} {G : GT} (X : Cx x G cX2_findLent 8 RX2 none rm_X2_findLent) (hph : kP G = 1) (p1 : Int32) (p2 : Int32) (s : PS) (Q : PS → Prop) (h : w_X2_findLent G p1 p2 s Q) : WB x G 8 (QfV x G 0 0 Q) 0 0 s 0 [(0, .ref (kB G + 182)), (1, .int p1), (2, .int p2)] [] := by
  unfold w_X2_findLent at h
  refine r_bipush (v := 6) X dX2_findLent_0 rfl ?_
  refine r_iload_n X 1 dX2_findLent_2 rfl rfl ?_
  refine r_imul X dX2_findLent_3 ?_
  refine r_iload_n X 2 dX2_findLent_4 rfl rfl ?_
  refine r_iadd X dX2_findLent_5 ?_
  refine r_nmI (fun y1 e2 => ?_)
  replace h := h y1 e2
  refine r_istore_n (lv' := [(3, .int y1), (0, .ref (kB G + 182)), (1, .int p1), (2, .int p2)]) X dX2_findLent_6 rfl (Nat.le_of_ble_eq_true rfl) rfl ?_
  refine r_aload_n X 1 dX2_findLent_7 rfl rfl ?_
  refine gr_X2_54 X hph 13 182 195 ly_182 rfl rfl dX2_findLent_8 ?_
  refine r_iload_n X 0 dX2_findLent_11 rfl rfl ?_
  obtain ⟨g3, h⟩ := h
  refine r_ialdL X hph 195 36 ly_195 rfl g3 dX2_findLent_12 ?_
  refine r_nmI (fun y4 e5 => ?_)
  replace h := h y4 e5
  refine r_istore (lv' := [(4, .int y4), (3, .int y1), (0, .ref (kB G + 182)), (1, .int p1), (2, .int p2)]) X dX2_findLent_13 (Nat.le_of_ble_eq_true rfl) rfl ?_
  refine r_aload_n X 2 dX2_findLent_15 rfl rfl ?_
  refine gr_X2_48 X hph 13 182 193 ly_182 rfl rfl dX2_findLent_16 ?_
  refine r_iload_n X 3 dX2_findLent_19 rfl rfl ?_
  obtain ⟨g6, h⟩ := h
  refine r_ialdL X hph 193 6 ly_193 rfl g6 dX2_findLent_20 ?_
  refine r_nmI (fun y7 e8 => ?_)
  replace h := h y7 e8
  refine r_istore (lv' := [(5, .int y7), (4, .int y4), (3, .int y1), (0, .ref (kB G + 182)), (1, .int p1), (2, .int p2)]) X dX2_findLent_21 (Nat.le_of_ble_eq_true rfl) rfl ?_
  refine r_aload_n X 3 dX2_findLent_23 rfl rfl ?_
  refine gr_X2_51 X hph 13 182 194 ly_182 rfl rfl dX2_findLent_24 ?_
  refine r_iload_n X 5 dX2_findLent_27 rfl rfl ?_
  obtain ⟨g9, h⟩ := h
  refine r_ialdL X hph 194 6 ly_194 rfl g9 dX2_findLent_28 ?_
  refine r_nmI (fun y10 e11 => ?_)
  replace h := h y10 e11
  refine r_istore (lv' := [(6, .int y10), (5, .int y7), (4, .int y4), (3, .int y1), (0, .ref (kB G + 182)), (1, .int p1), (2, .int p2)]) X dX2_findLent_29 (Nat.le_of_ble_eq_true rfl) rfl ?_
  refine r_aload_n X 4 dX2_findLent_31 rfl rfl ?_
  refine gr_X2_54 X hph 13 182 195 ly_182 rfl rfl dX2_findLent_32 ?_
  refine r_iload_n X 3 dX2_findLent_35 rfl rfl ?_
  refine r_iconst (v := 0) X dX2_findLent_36 rfl ?_
  refine r_iastL X hph 195 36 ly_195 rfl g3 dX2_findLent_37 (fun s12 e13 => ?_)
  replace h := h s12 e13
  refine r_iconst (v := 0) X dX2_findLent_38 rfl ?_
  refine r_istore (lv' := [(7, .int 0), (6, .int y10), (5, .int y7), (4, .int y4), (3, .int y1), (0, .ref (kB G + 182)), (1, .int p1), (2, .int p2)]) X dX2_findLent_39 (Nat.le_of_ble_eq_true rfl) rfl ?_
  refine r_sub [5, 6, 7, 4, 3, 2, 1, 0] rfl ?_
  obtain ⟨n14, h⟩ := h
  exact tl_X2_findLent_41 X hph Q p1 p2 y1 y4 y7 y10 n14 0 s12 h
theorem m_X2_findLent (l : Launch) (G : GT) (g : GK G) (hph : kP G = 1) (p1 : Int32) (p2 : Int32) (s : PS) (Q : PS → Prop) (h : w_X2_findLent G p1 p2 s Q) : Met l yX2_findLent (ws_ yX2_findLent cX2_findLent 8 none) rm_X2_findLent (va_Pc [.ref (kB G + 182), .int p1, .int p2] (Wr G s)) (va_Qv Q (fun u t => Wr G u t) (kF G)) 0 0 (kF G) := by
  refine Met.ofW (cc := cX2_findLent) (maxL := 8) (ret := none) (by decide) rfl ?_
  intro p e s0 m args below meth c s₁ B hml hv
  obtain ⟨rfl, hw⟩ := hv
  exact wb_of [.ref (kB G + 182), .int p1, .int p2] (Nat.le_of_ble_eq_true rfl) hw.1 rfl (e_X2_findLent (cx_of g B hml rfl hw) hph p1 p2 s Q h)
theorem tl_X2_lending_81 {x : CT} {G : GT} (X : Cx x G cX2_lending 6 RX2 (some .int) rm_X2_lending) (hph : kP G = 1) (Q : Int32 → PS → Prop) (v1 : Int32) (v2 : Int32) : ∀ (n : Nat) (v5 : Int32) (s : PS) (h : l_X2_lending_81 G Q v1 v2 n v5 s), WB x G 6 (QfI x G 0 0 Q) 0 0 s 81 [(0, .ref (kB G + 182)), (1, .int v1), (2, .int v2), (5, .int v5)] [] := by
  intro n
  induction n with
  | zero =>
    intro v5 s h
    exact False.elim h
  | succ n ih =>
    intro v5 s h
    unfold l_X2_lending_81 at h
    refine r_iload X 3 dX2_lending_81 rfl ?_
    refine r_bipush (v := 36) X dX2_lending_83 rfl ?_
    refine r_ic_ge X 131 dX2_lending_85 (by decide) (fun c1 => ?_) (fun c1 => ?_)
    · replace h := h.1 c1
      refine r_aload_n X 0 dX2_lending_131 rfl rfl ?_
      refine gr_X2_57 X hph 13 182 196 ly_182 rfl rfl dX2_lending_132 ?_
      refine r_bipush (v := 6) X dX2_lending_135 rfl ?_
      refine r_iload_n X 1 dX2_lending_137 rfl rfl ?_
      refine r_imul X dX2_lending_138 ?_
      refine r_iload_n X 2 dX2_lending_139 rfl rfl ?_
      refine r_iadd X dX2_lending_140 ?_
      obtain ⟨g2, h⟩ := h
      refine r_ialdL X hph 196 36 ly_196 rfl g2 dX2_lending_141 ?_
      exact r_iret X h (Nat.le_of_ble_eq_true rfl) (Nat.le_of_ble_eq_true rfl) dX2_lending_142
    · replace h := h.2 c1
      refine r_aload_n X 0 dX2_lending_88 rfl rfl ?_
      refine gr_X2_60 X hph 13 182 197 ly_182 rfl rfl dX2_lending_89 ?_
      refine r_iload X 3 dX2_lending_92 rfl ?_
      refine r_bipush (v := 6) X dX2_lending_94 rfl ?_
      refine r_idiv X dX2_lending_96 (by decide) ?_
      obtain ⟨g3, h⟩ := h
      refine r_zaldL X hph 197 6 ly_197 rfl g3 dX2_lending_97 ?_
      refine r_if_eq X 125 dX2_lending_98 (by decide) (fun c4 => ?_) (fun c4 => ?_)
      · replace h := h.1 c4
        refine r_iinc (lv' := [(5, .int (v5 + 1)), (0, .ref (kB G + 182)), (1, .int v1), (2, .int v2)]) X 3 dX2_lending_125 rfl rfl (Nat.le_of_ble_eq_true rfl) rfl ?_
        refine r_goto X 81 dX2_lending_128 (by decide) ?_
        refine r_sub [1, 2, 3, 0] rfl ?_
        exact ih (v5 + 1) s h
      · replace h := h.2 c4
        refine r_aload_n X 0 dX2_lending_101 rfl rfl ?_
        refine gr_X2_54 X hph 13 182 195 ly_182 rfl rfl dX2_lending_102 ?_
        refine r_iload X 3 dX2_lending_105 rfl ?_
        obtain ⟨g5, h⟩ := h
        refine r_ialdL X hph 195 36 ly_195 rfl g5 dX2_lending_107 ?_
        refine r_if_le X 125 dX2_lending_108 (by decide) (fun c6 => ?_) (fun c6 => ?_)
        · replace h := h.1 c6
          refine r_iinc (lv' := [(5, .int (v5 + 1)), (0, .ref (kB G + 182)), (1, .int v1), (2, .int v2)]) X 3 dX2_lending_125 rfl rfl (Nat.le_of_ble_eq_true rfl) rfl ?_
          refine r_goto X 81 dX2_lending_128 (by decide) ?_
          refine r_sub [1, 2, 3, 0] rfl ?_
          exact ih (v5 + 1) s h
        · replace h := h.2 c6
          refine r_aload_n X 0 dX2_lending_111 rfl rfl ?_
          refine r_iload X 3 dX2_lending_112 rfl ?_
          refine r_bipush (v := 6) X dX2_lending_114 rfl ?_
          refine r_idiv X dX2_lending_116 (by decide) ?_
          refine r_iload X 3 dX2_lending_117 rfl ?_
          refine r_bipush (v := 6) X dX2_lending_119 rfl ?_
          refine r_irem X dX2_lending_121 (by decide) ?_
          refine r_cv X (r_okVL (As := [.int (v5 / 6), .int (v5 - v5 / 6 * 6)]) (rest := []) X (m_X2_findLent (xl x) G X.2.2.2.2.1 hph (v5 / 6) (v5 - v5 / 6 * 6) s _ h) (cl_X2_428 X ⟨(Nat.le_of_ble_eq_true rfl), (Nat.le_of_ble_eq_true rfl)⟩) hph 2 ly_182 rfl rfl rfl rfl (Nat.le_of_ble_eq_true rfl) dX2_lending_122 ⟨Nat.le_of_ble_eq_true rfl, Nat.le_of_ble_eq_true rfl⟩) (fun s7 h => ?_)
          refine r_iinc (lv' := [(5, .int (v5 + 1)), (0, .ref (kB G + 182)), (1, .int v1), (2, .int v2)]) X 3 dX2_lending_125 rfl rfl (Nat.le_of_ble_eq_true rfl) rfl ?_
          refine r_goto X 81 dX2_lending_128 (by decide) ?_
          refine r_sub [1, 2, 3, 0] rfl ?_
          exact ih (v5 + 1) s7 h
theorem tb_X2_lending_38 {x : CT} {G : GT} (X : Cx x G cX2_lending 6 RX2 (some .int) rm_X2_lending) (hph : kP G = 1) (Q : Int32 → PS → Prop) (v1 : Int32) (v2 : Int32) (v3 : Int32) (s : PS) (h : b_X2_lending_38 G Q v1 v2 v3 s) : WB x G 6 (QfI x G 0 0 Q) 0 0 s 38 [(0, .ref (kB G + 182)), (1, .int v1), (2, .int v2), (3, .int v3)] [] := by
  unfold b_X2_lending_38 at h
  refine r_aload_n X 0 dX2_lending_38 rfl rfl ?_
  refine r_cv X (r_okVL (As := []) (rest := []) X (m_X2_findBelow (xl x) G X.2.2.2.2.1 hph s _ h) (cl_X2_425 X ⟨(Nat.le_of_ble_eq_true rfl), (Nat.le_of_ble_eq_true rfl)⟩) hph 2 ly_182 rfl rfl rfl rfl (Nat.le_of_ble_eq_true rfl) dX2_lending_39 ⟨Nat.le_of_ble_eq_true rfl, Nat.le_of_ble_eq_true rfl⟩) (fun s1 h => ?_)
  refine r_aload_n X 0 dX2_lending_42 rfl rfl ?_
  refine r_ci X (r_okVL (As := []) (rest := []) X (m_X2_tooMuch (xl x) G X.2.2.2.2.1 hph s1 _ h) (cl_X2_422 X ⟨(Nat.le_of_ble_eq_true rfl), (Nat.le_of_ble_eq_true rfl)⟩) hph 2 ly_182 rfl rfl rfl rfl (Nat.le_of_ble_eq_true rfl) dX2_lending_43 ⟨Nat.le_of_ble_eq_true rfl, Nat.le_of_ble_eq_true rfl⟩) (fun r3 s2 h => ?_)
  have hJ : WB x G 6 (QfI x G 0 0 Q) 0 0 s2 54 [(0, .ref (kB G + 182)), (1, .int v1), (2, .int v2), (3, .int v3)] [.int (if 0 ≤ r3 then 0 else 1 : Int32)] := by
    refine r_nmI (fun y5 e6 => ?_)
    replace h := h y5 e6
    refine r_istore (lv' := [(4, .int y5), (0, .ref (kB G + 182)), (1, .int v1), (2, .int v2), (3, .int v3)]) X dX2_lending_54 (Nat.le_of_ble_eq_true rfl) rfl ?_
    refine r_iload_n X 4 dX2_lending_56 rfl rfl ?_
    refine r_if_eq X 71 dX2_lending_57 (by decide) (fun c7 => ?_) (fun c7 => ?_)
    · replace h := h.1 c7
      refine r_iload X 0 dX2_lending_71 rfl ?_
      refine r_if_ne X 78 dX2_lending_73 (by decide) (fun c8 => ?_) (fun c8 => ?_)
      · replace h := h.2 c8
        refine r_iconst (v := 0) X dX2_lending_78 rfl ?_
        refine r_istore (lv' := [(5, .int 0), (4, .int y5), (0, .ref (kB G + 182)), (1, .int v1), (2, .int v2), (3, .int v3)]) X dX2_lending_79 (Nat.le_of_ble_eq_true rfl) rfl ?_
        refine r_sub [2, 3, 4, 0] rfl ?_
        obtain ⟨n9, h⟩ := h
        exact tl_X2_lending_81 X hph Q v1 v2 n9 0 s2 h
      · replace h := h.1 c8
        refine r_iconst (v := (-1)) X dX2_lending_76 rfl ?_
        exact r_iret X h (Nat.le_of_ble_eq_true rfl) (Nat.le_of_ble_eq_true rfl) dX2_lending_77
    · replace h := h.2 c7
      refine r_iload X 0 dX2_lending_60 rfl ?_
      have hJ : WB x G 6 (QfI x G 0 0 Q) 0 0 s2 70 [(4, .int y5), (0, .ref (kB G + 182)), (1, .int v1), (2, .int v2), (3, .int v3)] [.int (if y5 = 0 then 0 else 1 : Int32)] := by
        exact r_iret X h (Nat.le_of_ble_eq_true rfl) (Nat.le_of_ble_eq_true rfl) dX2_lending_70
      refine r_if_eq X 69 dX2_lending_62 (by decide) (fun c10 => ?_) (fun c10 => ?_)
      · rw [if_pos c10] at hJ
        refine r_iconst (v := 0) X dX2_lending_69 rfl ?_
        exact hJ
      · rw [if_neg c10] at hJ
        refine r_iconst (v := 1) X dX2_lending_65 rfl ?_
        refine r_goto X 70 dX2_lending_66 (by decide) ?_
        exact hJ
  refine r_if_ge X 53 dX2_lending_46 (by decide) (fun c4 => ?_) (fun c4 => ?_)
  · rw [if_pos c4] at hJ
    refine r_iconst (v := 0) X dX2_lending_53 rfl ?_
    exact hJ
  · rw [if_neg c4] at hJ
    refine r_iconst (v := 1) X dX2_lending_49 rfl ?_
    refine r_goto X 54 dX2_lending_50 (by decide) ?_
    exact hJ
theorem e_X2_lending {x : CT} {G : GT} (X : Cx x G cX2_lending 6 RX2 (some .int) rm_X2_lending) (hph : kP G = 1) (p1 : Int32) (p2 : Int32) (s : PS) (Q : Int32 → PS → Prop) (h : w_X2_lending G p1 p2 s Q) : WB x G 6 (QfI x G 0 0 Q) 0 0 s 0 [(0, .ref (kB G + 182)), (1, .int p1), (2, .int p2)] [] := by
  unfold w_X2_lending at h
  refine r_iload_n X 1 dX2_lending_0 rfl rfl ?_
  refine r_iconst (v := (-1)) X dX2_lending_1 rfl ?_
  have hJ : WB x G 6 (QfI x G 0 0 Q) 0 0 s 10 [(0, .ref (kB G + 182)), (1, .int p1), (2, .int p2)] [.int (if p1 = (-1) then 1 else 0 : Int32)] := by
    refine r_nmI (fun y2 e3 => ?_)
    replace h := h y2 e3
    refine r_istore_n (lv' := [(3, .int y2), (0, .ref (kB G + 182)), (1, .int p1), (2, .int p2)]) X dX2_lending_10 rfl (Nat.le_of_ble_eq_true rfl) rfl ?_
    refine r_iload_n X 0 dX2_lending_11 rfl rfl ?_
    refine r_if_ne X 38 dX2_lending_12 (by decide) (fun c4 => ?_) (fun c4 => ?_)
    · replace h := h.2 c4
      refine r_sub [1, 2, 3, 0] rfl ?_
      exact tb_X2_lending_38 X hph Q p1 p2 y2 s h
    · replace h := h.1 c4
      refine r_aload_n X 1 dX2_lending_15 rfl rfl ?_
      refine r_iload_n X 2 dX2_lending_16 rfl rfl ?_
      refine r_ci X (r_okVL (As := [.int p1]) (rest := []) X (m_X2_isHeart (xl x) G X.2.2.2.2.1 hph p1 s _ h) (cl_X2_88 X ⟨(Nat.le_of_ble_eq_true rfl), (Nat.le_of_ble_eq_true rfl)⟩) hph 2 ly_182 rfl rfl rfl rfl (Nat.le_of_ble_eq_true rfl) dX2_lending_17 ⟨Nat.le_of_ble_eq_true rfl, Nat.le_of_ble_eq_true rfl⟩) (fun r6 s5 h => ?_)
      obtain ⟨z7, h⟩ := h
      refine r_if_eq X 36 dX2_lending_20 (by decide) (fun c8 => ?_) (fun c8 => ?_)
      · replace h := h.1 c8
        refine r_iconst (v := (-1)) X dX2_lending_36 rfl ?_
        exact r_iret X h (Nat.le_of_ble_eq_true rfl) (Nat.le_of_ble_eq_true rfl) dX2_lending_37
      · replace h := h.2 c8
        refine r_aload_n X 1 dX2_lending_23 rfl rfl ?_
        refine r_iload_n X 3 dX2_lending_24 rfl rfl ?_
        refine r_ci X (r_okVL (As := [.int p2]) (rest := []) X (m_X2_isHeart (xl x) G X.2.2.2.2.1 hph p2 s5 _ h) (cl_X2_88 X ⟨(Nat.le_of_ble_eq_true rfl), (Nat.le_of_ble_eq_true rfl)⟩) hph 2 ly_182 rfl rfl rfl rfl (Nat.le_of_ble_eq_true rfl) dX2_lending_25 ⟨Nat.le_of_ble_eq_true rfl, Nat.le_of_ble_eq_true rfl⟩) (fun r10 s9 h => ?_)
        obtain ⟨z11, h⟩ := h
        refine r_if_eq X 36 dX2_lending_28 (by decide) (fun c12 => ?_) (fun c12 => ?_)
        · replace h := h.1 c12
          refine r_iconst (v := (-1)) X dX2_lending_36 rfl ?_
          exact r_iret X h (Nat.le_of_ble_eq_true rfl) (Nat.le_of_ble_eq_true rfl) dX2_lending_37
        · replace h := h.2 c12
          refine r_iload_n X 2 dX2_lending_31 rfl rfl ?_
          refine r_iload_n X 3 dX2_lending_32 rfl rfl ?_
          refine r_ic_ne X 38 dX2_lending_33 (by decide) (fun c13 => ?_) (fun c13 => ?_)
          · replace h := h.2 c13
            refine r_sub [1, 2, 3, 0] rfl ?_
            exact tb_X2_lending_38 X hph Q p1 p2 y2 s9 h
          · replace h := h.1 c13
            refine r_iconst (v := (-1)) X dX2_lending_36 rfl ?_
            exact r_iret X h (Nat.le_of_ble_eq_true rfl) (Nat.le_of_ble_eq_true rfl) dX2_lending_37
  refine r_ic_ne X 9 dX2_lending_2 (by decide) (fun c1 => ?_) (fun c1 => ?_)
  · rw [if_neg c1] at hJ
    refine r_iconst (v := 0) X dX2_lending_9 rfl ?_
    exact hJ
  · rw [if_pos c1] at hJ
    refine r_iconst (v := 1) X dX2_lending_5 rfl ?_
    refine r_goto X 10 dX2_lending_6 (by decide) ?_
    exact hJ
theorem m_X2_lending (l : Launch) (G : GT) (g : GK G) (hph : kP G = 1) (p1 : Int32) (p2 : Int32) (s : PS) (Q : Int32 → PS → Prop) (h : w_X2_lending G p1 p2 s Q) : Met l yX2_lending (ws_ yX2_lending cX2_lending 6 (some .int)) rm_X2_lending (va_Pc [.ref (kB G + 182), .int p1, .int p2] (Wr G s)) (va_Qi Q (fun u t => Wr G u t) (kF G)) 0 0 (kF G) := by
  refine Met.ofW (cc := cX2_lending) (maxL := 6) (ret := (some .int)) (by decide) rfl ?_
  intro p e s0 m args below meth c s₁ B hml hv
  obtain ⟨rfl, hw⟩ := hv
  exact wb_of [.ref (kB G + 182), .int p1, .int p2] (Nat.le_of_ble_eq_true rfl) hw.1 rfl (e_X2_lending (cx_of g B hml rfl hw) hph p1 p2 s Q h)
theorem e_X2_whoCannot {x : CT} {G : GT} (X : Cx x G cX2_whoCannot 1 RX2 (some .int) rm_X2_whoCannot) (hph : kP G = 1) (s : PS) (Q : Int32 → PS → Prop) (h : w_X2_whoCannot G s Q) : WB x G 1 (QfI x G 0 0 Q) 0 0 s 0 [(0, .ref (kB G + 182))] [] := by
  unfold w_X2_whoCannot at h
  refine r_aload_n X 0 dX2_whoCannot_0 rfl rfl ?_
  refine r_cv X (r_okVL (As := []) (rest := []) X (m_X2_findBelow (xl x) G X.2.2.2.2.1 hph s _ h) (cl_X2_425 X ⟨(Nat.le_of_ble_eq_true rfl), (Nat.le_of_ble_eq_true rfl)⟩) hph 2 ly_182 rfl rfl rfl rfl (Nat.le_of_ble_eq_true rfl) dX2_whoCannot_1 ⟨Nat.le_of_ble_eq_true rfl, Nat.le_of_ble_eq_true rfl⟩) (fun s1 h => ?_)
  refine r_aload_n X 0 dX2_whoCannot_4 rfl rfl ?_
  refine r_ci X (r_okVL (As := []) (rest := []) X (m_X2_tooMuch (xl x) G X.2.2.2.2.1 hph s1 _ h) (cl_X2_422 X ⟨(Nat.le_of_ble_eq_true rfl), (Nat.le_of_ble_eq_true rfl)⟩) hph 2 ly_182 rfl rfl rfl rfl (Nat.le_of_ble_eq_true rfl) dX2_whoCannot_5 ⟨Nat.le_of_ble_eq_true rfl, Nat.le_of_ble_eq_true rfl⟩) (fun r3 s2 h => ?_)
  exact r_iret X h (Nat.le_of_ble_eq_true rfl) (Nat.le_of_ble_eq_true rfl) dX2_whoCannot_8
theorem m_X2_whoCannot (l : Launch) (G : GT) (g : GK G) (hph : kP G = 1) (s : PS) (Q : Int32 → PS → Prop) (h : w_X2_whoCannot G s Q) : Met l yX2_whoCannot (ws_ yX2_whoCannot cX2_whoCannot 1 (some .int)) rm_X2_whoCannot (va_Pc [.ref (kB G + 182)] (Wr G s)) (va_Qi Q (fun u t => Wr G u t) (kF G)) 0 0 (kF G) := by
  refine Met.ofW (cc := cX2_whoCannot) (maxL := 1) (ret := (some .int)) (by decide) rfl ?_
  intro p e s0 m args below meth c s₁ B hml hv
  obtain ⟨rfl, hw⟩ := hv
  exact wb_of [.ref (kB G + 182)] (Nat.le_of_ble_eq_true rfl) hw.1 rfl (e_X2_whoCannot (cx_of g B hml rfl hw) hph s Q h)
theorem tl_X2_kindness_60 {x : CT} {G : GT} (X : Cx x G cX2_kindness 6 RX2 (some .int) rm_X2_kindness) (hph : kP G = 1) (Q : Int32 → PS → Prop) (K24 : Int32 → Int32 → PS → Prop) (v1 : Int32) (v2 : Int32) (v3 : Int32) (hK24 : ∀ (v2' : Int32) (v3' : Int32) (s' : PS), K24 v2' v3' s' → WB x G 6 (QfI x G 0 0 Q) 0 0 s' 24 [(0, .ref (kB G + 182)), (1, .int v1), (2, .int v2'), (3, .int v3')] []) : ∀ (n : Nat) (v4 : Int32) (v5 : Int32) (s : PS) (h : l_X2_kindness_60 G Q K24 v1 v2 v3 n v4 v5 s), WB x G 6 (QfI x G 0 0 Q) 0 0 s 60 [(0, .ref (kB G + 182)), (1, .int v1), (2, .int v2), (3, .int v3), (4, .int v4), (5, .int v5)] [] := by
  intro n
  induction n with
  | zero =>
    intro v4 v5 s h
    exact False.elim h
  | succ n ih =>
    intro v4 v5 s h
    unfold l_X2_kindness_60 at h
    refine r_iload X 5 dX2_kindness_60 rfl ?_
    refine r_aload_n X 0 dX2_kindness_62 rfl rfl ?_
    refine gr_X2_7 X hph 13 182 183 ly_182 rfl rfl dX2_kindness_63 ?_
    refine r_iconst (v := 1) X dX2_kindness_66 rfl ?_
    refine r_ialdL X hph 183 5544 ly_183 tn_1 il_1_5544 dX2_kindness_67 ?_
    refine r_ic_ge X 122 dX2_kindness_68 (by decide) (fun c1 => ?_) (fun c1 => ?_)
    · replace h := h.1 c1
      refine r_iload X 4 dX2_kindness_122 rfl ?_
      refine r_if_eq X 129 dX2_kindness_124 (by decide) (fun c2 => ?_) (fun c2 => ?_)
      · replace h := h.1 c2
        refine r_iinc (lv' := [(3, .int (v3 + 1)), (0, .ref (kB G + 182)), (1, .int v1), (2, .int v2), (4, .int v4), (5, .int v5)]) X 3 dX2_kindness_129 rfl rfl (Nat.le_of_ble_eq_true rfl) rfl ?_
        refine r_goto X 24 dX2_kindness_132 (by decide) ?_
        refine r_sub [1, 2, 3, 0] rfl ?_
        exact hK24 v2 (v3 + 1) s h
      · replace h := h.2 c2
        refine r_iload_n X 3 dX2_kindness_127 rfl rfl ?_
        refine r_istore_n (lv' := [(2, .int v3), (0, .ref (kB G + 182)), (1, .int v1), (3, .int v3), (4, .int v4), (5, .int v5)]) X dX2_kindness_128 rfl (Nat.le_of_ble_eq_true rfl) rfl ?_
        refine r_iinc (lv' := [(3, .int (v3 + 1)), (2, .int v3), (0, .ref (kB G + 182)), (1, .int v1), (4, .int v4), (5, .int v5)]) X 3 dX2_kindness_129 rfl rfl (Nat.le_of_ble_eq_true rfl) rfl ?_
        refine r_goto X 24 dX2_kindness_132 (by decide) ?_
        refine r_sub [2, 3, 1, 0] rfl ?_
        exact hK24 v3 (v3 + 1) s h
    · replace h := h.2 c1
      refine r_iload X 4 dX2_kindness_71 rfl ?_
      refine r_if_eq X 113 dX2_kindness_73 (by decide) (fun c3 => ?_) (fun c3 => ?_)
      · replace h := h.1 c3
        refine r_iconst (v := 0) X dX2_kindness_113 rfl ?_
        refine r_istore (lv' := [(4, .int 0), (0, .ref (kB G + 182)), (1, .int v1), (2, .int v2), (3, .int v3), (5, .int v5)]) X dX2_kindness_114 (Nat.le_of_ble_eq_true rfl) rfl ?_
        refine r_iinc (lv' := [(5, .int (v5 + 1)), (4, .int 0), (0, .ref (kB G + 182)), (1, .int v1), (2, .int v2), (3, .int v3)]) X 5 dX2_kindness_116 rfl rfl (Nat.le_of_ble_eq_true rfl) rfl ?_
        refine r_goto X 60 dX2_kindness_119 (by decide) ?_
        refine r_sub [2, 3, 4, 5, 1, 0] rfl ?_
        exact ih 0 (v5 + 1) s h
      · replace h := h.2 c3
        refine r_iload_n X 1 dX2_kindness_76 rfl rfl ?_
        refine r_iload X 5 dX2_kindness_77 rfl ?_
        refine r_ci X (r_okS (As := [.int v1, .int v5]) (rest := []) X (m_X2_has (xl x) G X.2.2.2.2.1 v1 v5 s _ h) (cl_X2_224 X ⟨(Nat.le_of_ble_eq_true rfl), (Nat.le_of_ble_eq_true rfl)⟩) rfl rfl (Nat.le_of_ble_eq_true rfl) dX2_kindness_79 ⟨Nat.le_of_ble_eq_true rfl, Nat.le_of_ble_eq_true rfl⟩) (fun r5 s4 h => ?_)
        obtain ⟨z6, h⟩ := h
        refine r_if_eq X 109 dX2_kindness_82 (by decide) (fun c7 => ?_) (fun c7 => ?_)
        · replace h := h.1 c7
          refine r_iconst (v := 1) X dX2_kindness_109 rfl ?_
          refine r_goto X 114 dX2_kindness_110 (by decide) ?_
          refine r_istore (lv' := [(4, .int 1), (0, .ref (kB G + 182)), (1, .int v1), (2, .int v2), (3, .int v3), (5, .int v5)]) X dX2_kindness_114 (Nat.le_of_ble_eq_true rfl) rfl ?_
          refine r_iinc (lv' := [(5, .int (v5 + 1)), (4, .int 1), (0, .ref (kB G + 182)), (1, .int v1), (2, .int v2), (3, .int v3)]) X 5 dX2_kindness_116 rfl rfl (Nat.le_of_ble_eq_true rfl) rfl ?_
          refine r_goto X 60 dX2_kindness_119 (by decide) ?_
          refine r_sub [2, 3, 4, 5, 1, 0] rfl ?_
          exact ih 1 (v5 + 1) s4 h
        · replace h := h.2 c7
          refine r_aload_n X 0 dX2_kindness_85 rfl rfl ?_
          refine r_iload X 5 dX2_kindness_86 rfl ?_
          refine r_iconst (v := 5) X dX2_kindness_88 rfl ?_
          refine r_ci X (r_okVL (As := [.int v5, .int 5]) (rest := []) X (m_X2_deedOf (xl x) G X.2.2.2.2.1 hph v5 5 s4 _ h) (cl_X2_84 X ⟨(Nat.le_of_ble_eq_true rfl), (Nat.le_of_ble_eq_true rfl)⟩) hph 2 ly_182 rfl rfl rfl rfl (Nat.le_of_ble_eq_true rfl) dX2_kindness_89 ⟨Nat.le_of_ble_eq_true rfl, Nat.le_of_ble_eq_true rfl⟩) (fun r9 s8 h => ?_)
          refine r_iload_n X 3 dX2_kindness_92 rfl rfl ?_
          refine r_iand X dX2_kindness_93 ?_
          refine r_iconst (v := 1) X dX2_kindness_94 rfl ?_
          refine r_aload_n X 0 dX2_kindness_95 rfl rfl ?_
          refine r_iload X 5 dX2_kindness_96 rfl ?_
          refine r_iconst (v := 0) X dX2_kindness_98 rfl ?_
          refine r_ci X (r_okVL (As := [.int v5, .int 0]) (rest := [.int 1, .int (r9 &&& v3)]) X (m_X2_deedOf (xl x) G X.2.2.2.2.1 hph v5 0 s8 _ h) (cl_X2_84 X ⟨(Nat.le_of_ble_eq_true rfl), (Nat.le_of_ble_eq_true rfl)⟩) hph 2 ly_182 rfl rfl rfl rfl (Nat.le_of_ble_eq_true rfl) dX2_kindness_99 ⟨Nat.le_of_ble_eq_true rfl, Nat.le_of_ble_eq_true rfl⟩) (fun r11 s10 h => ?_)
          refine r_ishl X dX2_kindness_102 ?_
          refine r_iconst (v := (-1)) X dX2_kindness_103 rfl ?_
          refine r_ixor X dX2_kindness_104 ?_
          refine r_iand X dX2_kindness_105 ?_
          have hJ : WB x G 6 (QfI x G 0 0 Q) 0 0 s10 114 [(0, .ref (kB G + 182)), (1, .int v1), (2, .int v2), (3, .int v3), (4, .int v4), (5, .int v5)] [.int (if ((r9 &&& v3) &&& (((1 : Int32) <<< (r11 &&& 31)) ^^^ (-1))) = 0 then 0 else 1 : Int32)] := by
            refine r_nmI (fun y13 e14 => ?_)
            replace h := h y13 e14
            refine r_istore (lv' := [(4, .int y13), (0, .ref (kB G + 182)), (1, .int v1), (2, .int v2), (3, .int v3), (5, .int v5)]) X dX2_kindness_114 (Nat.le_of_ble_eq_true rfl) rfl ?_
            refine r_iinc (lv' := [(5, .int (v5 + 1)), (4, .int y13), (0, .ref (kB G + 182)), (1, .int v1), (2, .int v2), (3, .int v3)]) X 5 dX2_kindness_116 rfl rfl (Nat.le_of_ble_eq_true rfl) rfl ?_
            refine r_goto X 60 dX2_kindness_119 (by decide) ?_
            refine r_sub [2, 3, 4, 5, 1, 0] rfl ?_
            exact ih y13 (v5 + 1) s10 h
          refine r_if_eq X 113 dX2_kindness_106 (by decide) (fun c12 => ?_) (fun c12 => ?_)
          · rw [if_pos c12] at hJ
            refine r_iconst (v := 0) X dX2_kindness_113 rfl ?_
            exact hJ
          · rw [if_neg c12] at hJ
            refine r_iconst (v := 1) X dX2_kindness_109 rfl ?_
            refine r_goto X 114 dX2_kindness_110 (by decide) ?_
            exact hJ
theorem tl_X2_kindness_24 {x : CT} {G : GT} (X : Cx x G cX2_kindness 6 RX2 (some .int) rm_X2_kindness) (hph : kP G = 1) (Q : Int32 → PS → Prop) (v1 : Int32) : ∀ (n : Nat) (v2 : Int32) (v3 : Int32) (s : PS) (h : l_X2_kindness_24 G Q v1 n v2 v3 s), WB x G 6 (QfI x G 0 0 Q) 0 0 s 24 [(0, .ref (kB G + 182)), (1, .int v1), (2, .int v2), (3, .int v3)] [] := by
  intro n
  induction n with
  | zero =>
    intro v2 v3 s h
    exact False.elim h
  | succ n ih =>
    intro v2 v3 s h
    unfold l_X2_kindness_24 at h
    refine r_iload_n X 3 dX2_kindness_24 rfl rfl ?_
    refine r_iconst (v := 1) X dX2_kindness_25 rfl ?_
    refine r_aload_n X 0 dX2_kindness_26 rfl rfl ?_
    refine gr_X2_7 X hph 13 182 183 ly_182 rfl rfl dX2_kindness_27 ?_
    refine r_iconst (v := 0) X dX2_kindness_30 rfl ?_
    refine r_ialdL X hph 183 5544 ly_183 tn_0 il_0_5544 dX2_kindness_31 ?_
    refine r_ishl X dX2_kindness_32 ?_
    refine r_ic_ge X 135 dX2_kindness_33 (by decide) (fun c1 => ?_) (fun c1 => ?_)
    · replace h := h.1 c1
      refine r_iload_n X 2 dX2_kindness_135 rfl rfl ?_
      exact r_iret X h (Nat.le_of_ble_eq_true rfl) (Nat.le_of_ble_eq_true rfl) dX2_kindness_136
    · replace h := h.2 c1
      refine r_iload_n X 2 dX2_kindness_36 rfl rfl ?_
      refine r_if_lt X 54 dX2_kindness_37 (by decide) (fun c2 => ?_) (fun c2 => ?_)
      · replace h := h.1 c2
        refine r_iconst (v := 1) X dX2_kindness_54 rfl ?_
        refine r_istore (lv' := [(4, .int 1), (0, .ref (kB G + 182)), (1, .int v1), (2, .int v2), (3, .int v3)]) X dX2_kindness_55 (Nat.le_of_ble_eq_true rfl) rfl ?_
        refine r_iconst (v := 0) X dX2_kindness_57 rfl ?_
        refine r_istore (lv' := [(5, .int 0), (4, .int 1), (0, .ref (kB G + 182)), (1, .int v1), (2, .int v2), (3, .int v3)]) X dX2_kindness_58 (Nat.le_of_ble_eq_true rfl) rfl ?_
        refine r_sub [2, 3, 4, 5, 1, 0] rfl ?_
        obtain ⟨n3, h⟩ := h
        exact tl_X2_kindness_60 X hph Q (l_X2_kindness_24 G Q v1 n) v1 v2 v3 ih n3 1 0 s h
      · replace h := h.2 c2
        refine r_iload_n X 3 dX2_kindness_40 rfl rfl ?_
        refine r_ci X (r_okS (As := [.int v3]) (rest := []) X (m_X2_bits (xl x) G X.2.2.2.2.1 v3 s _ h) (cl_X2_294 X ⟨(Nat.le_of_ble_eq_true rfl), (Nat.le_of_ble_eq_true rfl)⟩) rfl rfl (Nat.le_of_ble_eq_true rfl) dX2_kindness_41 ⟨Nat.le_of_ble_eq_true rfl, Nat.le_of_ble_eq_true rfl⟩) (fun r5 s4 h => ?_)
        refine r_iload_n X 2 dX2_kindness_44 rfl rfl ?_
        refine r_ci X (r_okS (As := [.int v2]) (rest := [.int r5]) X (m_X2_bits (xl x) G X.2.2.2.2.1 v2 s4 _ h) (cl_X2_294 X ⟨(Nat.le_of_ble_eq_true rfl), (Nat.le_of_ble_eq_true rfl)⟩) rfl rfl (Nat.le_of_ble_eq_true rfl) dX2_kindness_45 ⟨Nat.le_of_ble_eq_true rfl, Nat.le_of_ble_eq_true rfl⟩) (fun r7 s6 h => ?_)
        refine r_ic_lt X 54 dX2_kindness_48 (by decide) (fun c8 => ?_) (fun c8 => ?_)
        · replace h := h.1 c8
          refine r_iconst (v := 1) X dX2_kindness_54 rfl ?_
          refine r_istore (lv' := [(4, .int 1), (0, .ref (kB G + 182)), (1, .int v1), (2, .int v2), (3, .int v3)]) X dX2_kindness_55 (Nat.le_of_ble_eq_true rfl) rfl ?_
          refine r_iconst (v := 0) X dX2_kindness_57 rfl ?_
          refine r_istore (lv' := [(5, .int 0), (4, .int 1), (0, .ref (kB G + 182)), (1, .int v1), (2, .int v2), (3, .int v3)]) X dX2_kindness_58 (Nat.le_of_ble_eq_true rfl) rfl ?_
          refine r_sub [2, 3, 4, 5, 1, 0] rfl ?_
          obtain ⟨n9, h⟩ := h
          exact tl_X2_kindness_60 X hph Q (l_X2_kindness_24 G Q v1 n) v1 v2 v3 ih n9 1 0 s6 h
        · replace h := h.2 c8
          refine r_goto X 129 dX2_kindness_51 (by decide) ?_
          refine r_iinc (lv' := [(3, .int (v3 + 1)), (0, .ref (kB G + 182)), (1, .int v1), (2, .int v2)]) X 3 dX2_kindness_129 rfl rfl (Nat.le_of_ble_eq_true rfl) rfl ?_
          refine r_goto X 24 dX2_kindness_132 (by decide) ?_
          refine r_sub [1, 2, 3, 0] rfl ?_
          exact ih v2 (v3 + 1) s6 h
theorem e_X2_kindness {x : CT} {G : GT} (X : Cx x G cX2_kindness 6 RX2 (some .int) rm_X2_kindness) (hph : kP G = 1) (p1 : Int32) (s : PS) (Q : Int32 → PS → Prop) (h : w_X2_kindness G p1 s Q) : WB x G 6 (QfI x G 0 0 Q) 0 0 s 0 [(0, .ref (kB G + 182)), (1, .int p1)] [] := by
  unfold w_X2_kindness at h
  refine r_iload_n X 1 dX2_kindness_0 rfl rfl ?_
  refine r_iconst (v := 1) X dX2_kindness_1 rfl ?_
  refine r_iconst (v := 1) X dX2_kindness_2 rfl ?_
  refine r_aload_n X 0 dX2_kindness_3 rfl rfl ?_
  refine gr_X2_7 X hph 13 182 183 ly_182 rfl rfl dX2_kindness_4 ?_
  refine r_iconst (v := 1) X dX2_kindness_7 rfl ?_
  refine r_ialdL X hph 183 5544 ly_183 tn_1 il_1_5544 dX2_kindness_8 ?_
  refine r_ishl X dX2_kindness_9 ?_
  refine r_iconst (v := 1) X dX2_kindness_10 rfl ?_
  refine r_isub X dX2_kindness_11 ?_
  refine r_ci X (r_okS (As := [.int p1, .int 1, .int (((1 : Int32) <<< ((gI s (kB G + 183) 1) &&& 31)) - 1)]) (rest := []) X (m_X2_isIn (xl x) G X.2.2.2.2.1 p1 1 (((1 : Int32) <<< ((gI s (kB G + 183) 1) &&& 31)) - 1) s _ h) (cl_X2_80 X ⟨(Nat.le_of_ble_eq_true rfl), (Nat.le_of_ble_eq_true rfl)⟩) rfl rfl (Nat.le_of_ble_eq_true rfl) dX2_kindness_12 ⟨Nat.le_of_ble_eq_true rfl, Nat.le_of_ble_eq_true rfl⟩) (fun r2 s1 h => ?_)
  obtain ⟨z3, h⟩ := h
  refine r_if_ne X 20 dX2_kindness_15 (by decide) (fun c4 => ?_) (fun c4 => ?_)
  · replace h := h.2 c4
    refine r_iconst (v := (-1)) X dX2_kindness_20 rfl ?_
    refine r_istore_n (lv' := [(2, .int (-1)), (0, .ref (kB G + 182)), (1, .int p1)]) X dX2_kindness_21 rfl (Nat.le_of_ble_eq_true rfl) rfl ?_
    refine r_iconst (v := 1) X dX2_kindness_22 rfl ?_
    refine r_istore_n (lv' := [(3, .int 1), (2, .int (-1)), (0, .ref (kB G + 182)), (1, .int p1)]) X dX2_kindness_23 rfl (Nat.le_of_ble_eq_true rfl) rfl ?_
    refine r_sub [2, 3, 1, 0] rfl ?_
    obtain ⟨n5, h⟩ := h
    exact tl_X2_kindness_24 X hph Q p1 n5 (-1) 1 s1 h
  · replace h := h.1 c4
    refine r_iconst (v := (-1)) X dX2_kindness_18 rfl ?_
    exact r_iret X h (Nat.le_of_ble_eq_true rfl) (Nat.le_of_ble_eq_true rfl) dX2_kindness_19
theorem m_X2_kindness (l : Launch) (G : GT) (g : GK G) (hph : kP G = 1) (p1 : Int32) (s : PS) (Q : Int32 → PS → Prop) (h : w_X2_kindness G p1 s Q) : Met l yX2_kindness (ws_ yX2_kindness cX2_kindness 6 (some .int)) rm_X2_kindness (va_Pc [.ref (kB G + 182), .int p1] (Wr G s)) (va_Qi Q (fun u t => Wr G u t) (kF G)) 0 0 (kF G) := by
  refine Met.ofW (cc := cX2_kindness) (maxL := 6) (ret := (some .int)) (by decide) rfl ?_
  intro p e s0 m args below meth c s₁ B hml hv
  obtain ⟨rfl, hw⟩ := hv
  exact wb_of [.ref (kB G + 182), .int p1] (Nat.le_of_ble_eq_true rfl) hw.1 rfl (e_X2_kindness (cx_of g B hml rfl hw) hph p1 s Q h)
theorem e_X2_known {x : CT} {G : GT} (X : Cx x G cX2_known 3 RX2 (some .int) rm_X2_known) (hph : kP G = 1) (p1 : Int32) (p2 : Int32) (s : PS) (Q : Int32 → PS → Prop) (h : w_X2_known G p1 p2 s Q) : WB x G 3 (QfI x G 0 0 Q) 0 0 s 0 [(0, .ref (kB G + 182)), (1, .int p1), (2, .int p2)] [] := by
  unfold w_X2_known at h
  refine r_iload_n X 1 dX2_known_0 rfl rfl ?_
  refine r_iconst (v := (-1)) X dX2_known_1 rfl ?_
  refine r_ic_ne X 15 dX2_known_2 (by decide) (fun c1 => ?_) (fun c1 => ?_)
  · replace h := h.2 c1
    refine r_aload_n X 0 dX2_known_15 rfl rfl ?_
    refine r_iload_n X 1 dX2_known_16 rfl rfl ?_
    refine r_ci X (r_okVL (As := [.int p1]) (rest := []) X (m_X2_isHeart (xl x) G X.2.2.2.2.1 hph p1 s _ h) (cl_X2_88 X ⟨(Nat.le_of_ble_eq_true rfl), (Nat.le_of_ble_eq_true rfl)⟩) hph 2 ly_182 rfl rfl rfl rfl (Nat.le_of_ble_eq_true rfl) dX2_known_17 ⟨Nat.le_of_ble_eq_true rfl, Nat.le_of_ble_eq_true rfl⟩) (fun r5 s4 h => ?_)
    obtain ⟨z6, h⟩ := h
    refine r_if_eq X 48 dX2_known_20 (by decide) (fun c7 => ?_) (fun c7 => ?_)
    · replace h := h.1 c7
      refine r_bipush (v := (-2)) X dX2_known_48 rfl ?_
      exact r_iret X h (Nat.le_of_ble_eq_true rfl) (Nat.le_of_ble_eq_true rfl) dX2_known_50
    · replace h := h.2 c7
      refine r_iload_n X 2 dX2_known_23 rfl rfl ?_
      refine r_sipush (v := (-9999)) X dX2_known_24 rfl ?_
      refine r_sipush (v := 9999) X dX2_known_27 rfl ?_
      refine r_ci X (r_okS (As := [.int p2, .int (-9999), .int 9999]) (rest := []) X (m_X2_isIn (xl x) G X.2.2.2.2.1 p2 (-9999) 9999 s4 _ h) (cl_X2_80 X ⟨(Nat.le_of_ble_eq_true rfl), (Nat.le_of_ble_eq_true rfl)⟩) rfl rfl (Nat.le_of_ble_eq_true rfl) dX2_known_30 ⟨Nat.le_of_ble_eq_true rfl, Nat.le_of_ble_eq_true rfl⟩) (fun r9 s8 h => ?_)
      obtain ⟨z10, h⟩ := h
      refine r_if_eq X 48 dX2_known_33 (by decide) (fun c11 => ?_) (fun c11 => ?_)
      · replace h := h.1 c11
        refine r_bipush (v := (-2)) X dX2_known_48 rfl ?_
        exact r_iret X h (Nat.le_of_ble_eq_true rfl) (Nat.le_of_ble_eq_true rfl) dX2_known_50
      · replace h := h.2 c11
        refine r_aload_n X 0 dX2_known_36 rfl rfl ?_
        refine gr_X2_7 X hph 13 182 183 ly_182 rfl rfl dX2_known_37 ?_
        refine r_bipush (v := 9) X dX2_known_40 rfl ?_
        refine r_ialdL X hph 183 5544 ly_183 tn_9 il_9_5544 dX2_known_42 ?_
        refine r_bipush (v := 8) X dX2_known_43 rfl ?_
        refine r_ic_ne X 51 dX2_known_45 (by decide) (fun c12 => ?_) (fun c12 => ?_)
        · replace h := h.2 c12
          refine r_aload_n X 0 dX2_known_51 rfl rfl ?_
          refine gr_X2_7 X hph 13 182 183 ly_182 rfl rfl dX2_known_52 ?_
          refine r_sipush (v := 248) X dX2_known_55 rfl ?_
          refine r_iconst (v := 2) X dX2_known_58 rfl ?_
          refine r_aload_n X 0 dX2_known_59 rfl rfl ?_
          refine gr_X2_7 X hph 13 182 183 ly_182 rfl rfl dX2_known_60 ?_
          refine r_bipush (v := 9) X dX2_known_63 rfl ?_
          refine r_ialdL X hph 183 5544 ly_183 tn_9 il_9_5544 dX2_known_65 ?_
          refine r_imul X dX2_known_66 ?_
          refine r_iadd X dX2_known_67 ?_
          refine r_iload_n X 1 dX2_known_68 rfl rfl ?_
          obtain ⟨g13, h⟩ := h
          refine r_iastL X hph 183 5544 ly_183 rfl g13 dX2_known_69 (fun s14 e15 => ?_)
          replace h := h s14 e15
          refine r_aload_n X 0 dX2_known_70 rfl rfl ?_
          refine gr_X2_7 X hph 13 182 183 ly_182 rfl rfl dX2_known_71 ?_
          refine r_sipush (v := 248) X dX2_known_74 rfl ?_
          refine r_iconst (v := 2) X dX2_known_77 rfl ?_
          refine r_aload_n X 0 dX2_known_78 rfl rfl ?_
          refine gr_X2_7 X hph 13 182 183 ly_182 rfl rfl dX2_known_79 ?_
          refine r_bipush (v := 9) X dX2_known_82 rfl ?_
          refine r_ialdL X hph 183 5544 ly_183 tn_9 il_9_5544 dX2_known_84 ?_
          refine r_imul X dX2_known_85 ?_
          refine r_iadd X dX2_known_86 ?_
          refine r_iconst (v := 1) X dX2_known_87 rfl ?_
          refine r_iadd X dX2_known_88 ?_
          refine r_iload_n X 2 dX2_known_89 rfl rfl ?_
          obtain ⟨g16, h⟩ := h
          refine r_iastL X hph 183 5544 ly_183 rfl g16 dX2_known_90 (fun s17 e18 => ?_)
          replace h := h s17 e18
          refine r_aload_n X 0 dX2_known_91 rfl rfl ?_
          refine gr_X2_7 X hph 13 182 183 ly_182 rfl rfl dX2_known_92 ?_
          refine r_bipush (v := 9) X dX2_known_95 rfl ?_
          refine r_dup2 X dX2_known_97 rfl rfl ?_
          refine r_ialdL X hph 183 5544 ly_183 tn_9 il_9_5544 dX2_known_98 ?_
          refine r_iconst (v := 1) X dX2_known_99 rfl ?_
          refine r_iadd X dX2_known_100 ?_
          refine r_iastL X hph 183 5544 ly_183 tn_9 il_9_5544 dX2_known_101 (fun s19 e20 => ?_)
          replace h := h s19 e20
          refine r_aload_n X 0 dX2_known_102 rfl rfl ?_
          refine gr_X2_7 X hph 13 182 183 ly_182 rfl rfl dX2_known_103 ?_
          refine r_bipush (v := 9) X dX2_known_106 rfl ?_
          refine r_ialdL X hph 183 5544 ly_183 tn_9 il_9_5544 dX2_known_108 ?_
          exact r_iret X h (Nat.le_of_ble_eq_true rfl) (Nat.le_of_ble_eq_true rfl) dX2_known_109
        · replace h := h.1 c12
          refine r_bipush (v := (-2)) X dX2_known_48 rfl ?_
          exact r_iret X h (Nat.le_of_ble_eq_true rfl) (Nat.le_of_ble_eq_true rfl) dX2_known_50
  · replace h := h.1 c1
    refine r_aload_n X 0 dX2_known_5 rfl rfl ?_
    refine gr_X2_7 X hph 13 182 183 ly_182 rfl rfl dX2_known_6 ?_
    refine r_bipush (v := 9) X dX2_known_9 rfl ?_
    refine r_iconst (v := 0) X dX2_known_11 rfl ?_
    refine r_iastL X hph 183 5544 ly_183 tn_9 il_9_5544 dX2_known_12 (fun s2 e3 => ?_)
    replace h := h s2 e3
    refine r_iconst (v := 0) X dX2_known_13 rfl ?_
    exact r_iret X h (Nat.le_of_ble_eq_true rfl) (Nat.le_of_ble_eq_true rfl) dX2_known_14
theorem m_X2_known (l : Launch) (G : GT) (g : GK G) (hph : kP G = 1) (p1 : Int32) (p2 : Int32) (s : PS) (Q : Int32 → PS → Prop) (h : w_X2_known G p1 p2 s Q) : Met l yX2_known (ws_ yX2_known cX2_known 3 (some .int)) rm_X2_known (va_Pc [.ref (kB G + 182), .int p1, .int p2] (Wr G s)) (va_Qi Q (fun u t => Wr G u t) (kF G)) 0 0 (kF G) := by
  refine Met.ofW (cc := cX2_known) (maxL := 3) (ret := (some .int)) (by decide) rfl ?_
  intro p e s0 m args below meth c s₁ B hml hv
  obtain ⟨rfl, hw⟩ := hv
  exact wb_of [.ref (kB G + 182), .int p1, .int p2] (Nat.le_of_ble_eq_true rfl) hw.1 rfl (e_X2_known (cx_of g B hml rfl hw) hph p1 p2 s Q h)
theorem tl_X2_isFitting_18 {x : CT} {G : GT} (X : Cx x G cX2_isFitting 5 RX2 (some .boolean) rm_X2_isFitting) (hph : kP G = 1) (Q : Int32 → PS → Prop) (K2 : Int32 → PS → Prop) (v1 : Int32) (v2 : Int32) (hK2 : ∀ (v2' : Int32) (s' : PS), K2 v2' s' → WB x G 5 (QfI x G 0 0 (fun r u => (r = 0 ∨ r = 1) ∧ Q r u)) 0 0 s' 2 [(0, .ref (kB G + 182)), (1, .int v1), (2, .int v2')] []) : ∀ (n : Nat) (v3 : Int32) (v4 : Int32) (s : PS) (h : l_X2_isFitting_18 G Q K2 v1 v2 n v3 v4 s), WB x G 5 (QfI x G 0 0 (fun r u => (r = 0 ∨ r = 1) ∧ Q r u)) 0 0 s 18 [(0, .ref (kB G + 182)), (1, .int v1), (2, .int v2), (3, .int v3), (4, .int v4)] [] := by
  intro n
  induction n with
  | zero =>
    intro v3 v4 s h
    exact False.elim h
  | succ n ih =>
    intro v3 v4 s h
    unfold l_X2_isFitting_18 at h
    refine r_iload X 4 dX2_isFitting_18 rfl ?_
    refine r_aload_n X 0 dX2_isFitting_20 rfl rfl ?_
    refine gr_X2_7 X hph 13 182 183 ly_182 rfl rfl dX2_isFitting_21 ?_
    refine r_iconst (v := 1) X dX2_isFitting_24 rfl ?_
    refine r_ialdL X hph 183 5544 ly_183 tn_1 il_1_5544 dX2_isFitting_25 ?_
    refine r_ic_ge X 71 dX2_isFitting_26 (by decide) (fun c1 => ?_) (fun c1 => ?_)
    · replace h := h.1 c1
      refine r_iload_n X 3 dX2_isFitting_71 rfl rfl ?_
      refine r_aload_n X 0 dX2_isFitting_72 rfl rfl ?_
      refine gr_X2_7 X hph 13 182 183 ly_182 rfl rfl dX2_isFitting_73 ?_
      refine r_sipush (v := 248) X dX2_isFitting_76 rfl ?_
      refine r_iconst (v := 2) X dX2_isFitting_79 rfl ?_
      refine r_iload_n X 2 dX2_isFitting_80 rfl rfl ?_
      refine r_imul X dX2_isFitting_81 ?_
      refine r_iadd X dX2_isFitting_82 ?_
      refine r_iconst (v := 1) X dX2_isFitting_83 rfl ?_
      refine r_iadd X dX2_isFitting_84 ?_
      obtain ⟨g2, h⟩ := h
      refine r_ialdL X hph 183 5544 ly_183 rfl g2 dX2_isFitting_85 ?_
      refine r_ic_eq X 91 dX2_isFitting_86 (by decide) (fun c3 => ?_) (fun c3 => ?_)
      · replace h := h.1 c3
        refine r_iinc (lv' := [(2, .int (v2 + 1)), (0, .ref (kB G + 182)), (1, .int v1), (3, .int v3), (4, .int v4)]) X 2 dX2_isFitting_91 rfl rfl (Nat.le_of_ble_eq_true rfl) rfl ?_
        refine r_goto X 2 dX2_isFitting_94 (by decide) ?_
        refine r_sub [1, 2, 0] rfl ?_
        exact hK2 (v2 + 1) s h
      · replace h := h.2 c3
        refine r_iconst (v := 0) X dX2_isFitting_89 rfl ?_
        exact r_zret X (Or.inl rfl) h (Nat.le_of_ble_eq_true rfl) (Nat.le_of_ble_eq_true rfl) dX2_isFitting_90
    · replace h := h.2 c1
      refine r_iload_n X 3 dX2_isFitting_29 rfl rfl ?_
      refine r_aload_n X 0 dX2_isFitting_30 rfl rfl ?_
      refine r_iload X 4 dX2_isFitting_31 rfl ?_
      refine r_iconst (v := 0) X dX2_isFitting_33 rfl ?_
      refine r_ci X (r_okVL (As := [.int v4, .int 0]) (rest := [.int v3]) X (m_X2_deedOf (xl x) G X.2.2.2.2.1 hph v4 0 s _ h) (cl_X2_84 X ⟨(Nat.le_of_ble_eq_true rfl), (Nat.le_of_ble_eq_true rfl)⟩) hph 2 ly_182 rfl rfl rfl rfl (Nat.le_of_ble_eq_true rfl) dX2_isFitting_34 ⟨Nat.le_of_ble_eq_true rfl, Nat.le_of_ble_eq_true rfl⟩) (fun r5 s4 h => ?_)
      refine r_aload_n X 0 dX2_isFitting_37 rfl rfl ?_
      refine gr_X2_7 X hph 13 182 183 ly_182 rfl rfl dX2_isFitting_38 ?_
      refine r_sipush (v := 248) X dX2_isFitting_41 rfl ?_
      refine r_iconst (v := 2) X dX2_isFitting_44 rfl ?_
      refine r_iload_n X 2 dX2_isFitting_45 rfl rfl ?_
      refine r_imul X dX2_isFitting_46 ?_
      refine r_iadd X dX2_isFitting_47 ?_
      obtain ⟨g6, h⟩ := h
      refine r_ialdL X hph 183 5544 ly_183 rfl g6 dX2_isFitting_48 ?_
      refine r_ic_ne X 62 dX2_isFitting_49 (by decide) (fun c7 => ?_) (fun c7 => ?_)
      · replace h := h.2 c7
        refine r_iconst (v := 0) X dX2_isFitting_62 rfl ?_
        refine r_iadd X dX2_isFitting_63 ?_
        refine r_nmI (fun y12 e13 => ?_)
        replace h := h y12 e13
        refine r_istore_n (lv' := [(3, .int y12), (0, .ref (kB G + 182)), (1, .int v1), (2, .int v2), (4, .int v4)]) X dX2_isFitting_64 rfl (Nat.le_of_ble_eq_true rfl) rfl ?_
        refine r_iinc (lv' := [(4, .int (v4 + 1)), (3, .int y12), (0, .ref (kB G + 182)), (1, .int v1), (2, .int v2)]) X 4 dX2_isFitting_65 rfl rfl (Nat.le_of_ble_eq_true rfl) rfl ?_
        refine r_goto X 18 dX2_isFitting_68 (by decide) ?_
        refine r_sub [2, 3, 4, 1, 0] rfl ?_
        exact ih y12 (v4 + 1) s4 h
      · replace h := h.1 c7
        refine r_aload_n X 0 dX2_isFitting_52 rfl rfl ?_
        refine r_iload_n X 1 dX2_isFitting_53 rfl rfl ?_
        refine r_iload X 4 dX2_isFitting_54 rfl ?_
        refine r_ci X (r_okVL (As := [.int v1, .int v4]) (rest := [.int v3]) X (m_X2_weightBy (xl x) G X.2.2.2.2.1 hph v1 v4 s4 _ h) (cl_X2_288 X ⟨(Nat.le_of_ble_eq_true rfl), (Nat.le_of_ble_eq_true rfl)⟩) hph 2 ly_182 rfl rfl rfl rfl (Nat.le_of_ble_eq_true rfl) dX2_isFitting_56 ⟨Nat.le_of_ble_eq_true rfl, Nat.le_of_ble_eq_true rfl⟩) (fun r9 s8 h => ?_)
        refine r_goto X 63 dX2_isFitting_59 (by decide) ?_
        refine r_iadd X dX2_isFitting_63 ?_
        refine r_nmI (fun y10 e11 => ?_)
        replace h := h y10 e11
        refine r_istore_n (lv' := [(3, .int y10), (0, .ref (kB G + 182)), (1, .int v1), (2, .int v2), (4, .int v4)]) X dX2_isFitting_64 rfl (Nat.le_of_ble_eq_true rfl) rfl ?_
        refine r_iinc (lv' := [(4, .int (v4 + 1)), (3, .int y10), (0, .ref (kB G + 182)), (1, .int v1), (2, .int v2)]) X 4 dX2_isFitting_65 rfl rfl (Nat.le_of_ble_eq_true rfl) rfl ?_
        refine r_goto X 18 dX2_isFitting_68 (by decide) ?_
        refine r_sub [2, 3, 4, 1, 0] rfl ?_
        exact ih y10 (v4 + 1) s8 h
theorem tl_X2_isFitting_2 {x : CT} {G : GT} (X : Cx x G cX2_isFitting 5 RX2 (some .boolean) rm_X2_isFitting) (hph : kP G = 1) (Q : Int32 → PS → Prop) (v1 : Int32) : ∀ (n : Nat) (v2 : Int32) (s : PS) (h : l_X2_isFitting_2 G Q v1 n v2 s), WB x G 5 (QfI x G 0 0 (fun r u => (r = 0 ∨ r = 1) ∧ Q r u)) 0 0 s 2 [(0, .ref (kB G + 182)), (1, .int v1), (2, .int v2)] [] := by
  intro n
  induction n with
  | zero =>
    intro v2 s h
    exact False.elim h
  | succ n ih =>
    intro v2 s h
    unfold l_X2_isFitting_2 at h
    refine r_iload_n X 2 dX2_isFitting_2 rfl rfl ?_
    refine r_aload_n X 0 dX2_isFitting_3 rfl rfl ?_
    refine gr_X2_7 X hph 13 182 183 ly_182 rfl rfl dX2_isFitting_4 ?_
    refine r_bipush (v := 9) X dX2_isFitting_7 rfl ?_
    refine r_ialdL X hph 183 5544 ly_183 tn_9 il_9_5544 dX2_isFitting_9 ?_
    refine r_ic_ge X 97 dX2_isFitting_10 (by decide) (fun c1 => ?_) (fun c1 => ?_)
    · replace h := h.1 c1
      refine r_iconst (v := 1) X dX2_isFitting_97 rfl ?_
      exact r_zret X (Or.inr rfl) h (Nat.le_of_ble_eq_true rfl) (Nat.le_of_ble_eq_true rfl) dX2_isFitting_98
    · replace h := h.2 c1
      refine r_iconst (v := 0) X dX2_isFitting_13 rfl ?_
      refine r_istore_n (lv' := [(3, .int 0), (0, .ref (kB G + 182)), (1, .int v1), (2, .int v2)]) X dX2_isFitting_14 rfl (Nat.le_of_ble_eq_true rfl) rfl ?_
      refine r_iconst (v := 0) X dX2_isFitting_15 rfl ?_
      refine r_istore (lv' := [(4, .int 0), (3, .int 0), (0, .ref (kB G + 182)), (1, .int v1), (2, .int v2)]) X dX2_isFitting_16 (Nat.le_of_ble_eq_true rfl) rfl ?_
      refine r_sub [2, 3, 4, 1, 0] rfl ?_
      obtain ⟨n2, h⟩ := h
      exact tl_X2_isFitting_18 X hph Q (l_X2_isFitting_2 G Q v1 n) v1 v2 ih n2 0 0 s h
theorem e_X2_isFitting {x : CT} {G : GT} (X : Cx x G cX2_isFitting 5 RX2 (some .boolean) rm_X2_isFitting) (hph : kP G = 1) (p1 : Int32) (s : PS) (Q : Int32 → PS → Prop) (h : w_X2_isFitting G p1 s Q) : WB x G 5 (QfI x G 0 0 (fun r u => (r = 0 ∨ r = 1) ∧ Q r u)) 0 0 s 0 [(0, .ref (kB G + 182)), (1, .int p1)] [] := by
  unfold w_X2_isFitting at h
  refine r_iconst (v := 0) X dX2_isFitting_0 rfl ?_
  refine r_istore_n (lv' := [(2, .int 0), (0, .ref (kB G + 182)), (1, .int p1)]) X dX2_isFitting_1 rfl (Nat.le_of_ble_eq_true rfl) rfl ?_
  refine r_sub [1, 2, 0] rfl ?_
  obtain ⟨n1, h⟩ := h
  exact tl_X2_isFitting_2 X hph Q p1 n1 0 s h
theorem m_X2_isFitting (l : Launch) (G : GT) (g : GK G) (hph : kP G = 1) (p1 : Int32) (s : PS) (Q : Int32 → PS → Prop) (h : w_X2_isFitting G p1 s Q) : Met l yX2_isFitting (ws_ yX2_isFitting cX2_isFitting 5 (some .boolean)) rm_X2_isFitting (va_Pc [.ref (kB G + 182), .int p1] (Wr G s)) (va_Qi (fun r u => (r = 0 ∨ r = 1) ∧ Q r u) (fun u t => Wr G u t) (kF G)) 0 0 (kF G) := by
  refine Met.ofW (cc := cX2_isFitting) (maxL := 5) (ret := (some .boolean)) (by decide) rfl ?_
  intro p e s0 m args below meth c s₁ B hml hv
  obtain ⟨rfl, hw⟩ := hv
  exact wb_of [.ref (kB G + 182), .int p1] (Nat.le_of_ble_eq_true rfl) hw.1 rfl (e_X2_isFitting (cx_of g B hml rfl hw) hph p1 s Q h)
theorem tl_X2_fit_4 {x : CT} {G : GT} (X : Cx x G cX2_fit 3 RX2 (some .int) rm_X2_fit) (hph : kP G = 1) (Q : Int32 → PS → Prop) : ∀ (n : Nat) (v1 : Int32) (v2 : Int32) (s : PS) (h : l_X2_fit_4 G Q n v1 v2 s), WB x G 3 (QfI x G 0 0 Q) 0 0 s 4 [(0, .ref (kB G + 182)), (1, .int v1), (2, .int v2)] [] := by
  intro n
  induction n with
  | zero =>
    intro v1 v2 s h
    exact False.elim h
  | succ n ih =>
    intro v1 v2 s h
    unfold l_X2_fit_4 at h
    refine r_iload_n X 2 dX2_fit_4 rfl rfl ?_
    refine r_aload_n X 0 dX2_fit_5 rfl rfl ?_
    refine gr_X2_7 X hph 13 182 183 ly_182 rfl rfl dX2_fit_6 ?_
    refine r_bipush (v := 6) X dX2_fit_9 rfl ?_
    refine r_ialdL X hph 183 5544 ly_183 tn_6 il_6_5544 dX2_fit_11 ?_
    refine r_ic_ge X 39 dX2_fit_12 (by decide) (fun c1 => ?_) (fun c1 => ?_)
    · replace h := h.1 c1
      refine r_iload_n X 1 dX2_fit_39 rfl rfl ?_
      exact r_iret X h (Nat.le_of_ble_eq_true rfl) (Nat.le_of_ble_eq_true rfl) dX2_fit_40
    · replace h := h.2 c1
      refine r_iload_n X 1 dX2_fit_15 rfl rfl ?_
      refine r_aload_n X 0 dX2_fit_16 rfl rfl ?_
      refine r_iload_n X 2 dX2_fit_17 rfl rfl ?_
      refine r_ci X (r_okVL (As := [.int v2]) (rest := [.int v1]) X (m_X2_isFitting (xl x) G X.2.2.2.2.1 hph v2 s _ h) (cl_X2_431 X ⟨(Nat.le_of_ble_eq_true rfl), (Nat.le_of_ble_eq_true rfl)⟩) hph 2 ly_182 rfl rfl rfl rfl (Nat.le_of_ble_eq_true rfl) dX2_fit_18 ⟨Nat.le_of_ble_eq_true rfl, Nat.le_of_ble_eq_true rfl⟩) (fun r3 s2 h => ?_)
      obtain ⟨z4, h⟩ := h
      have hJ : WB x G 3 (QfI x G 0 0 Q) 0 0 s2 31 [(0, .ref (kB G + 182)), (1, .int v1), (2, .int v2)] [.int (if r3 = 0 then 0 else ((1 : Int32) <<< (v2 &&& 31)) : Int32), .int v1] := by
        refine r_ior X dX2_fit_31 ?_
        refine r_nmI (fun y6 e7 => ?_)
        replace h := h y6 e7
        refine r_istore_n (lv' := [(1, .int y6), (0, .ref (kB G + 182)), (2, .int v2)]) X dX2_fit_32 rfl (Nat.le_of_ble_eq_true rfl) rfl ?_
        refine r_iinc (lv' := [(2, .int (v2 + 1)), (1, .int y6), (0, .ref (kB G + 182))]) X 2 dX2_fit_33 rfl rfl (Nat.le_of_ble_eq_true rfl) rfl ?_
        refine r_goto X 4 dX2_fit_36 (by decide) ?_
        refine r_sub [2, 1, 0] rfl ?_
        exact ih y6 (v2 + 1) s2 h
      refine r_if_eq X 30 dX2_fit_21 (by decide) (fun c5 => ?_) (fun c5 => ?_)
      · rw [if_pos c5] at hJ
        refine r_iconst (v := 0) X dX2_fit_30 rfl ?_
        exact hJ
      · rw [if_neg c5] at hJ
        refine r_iconst (v := 1) X dX2_fit_24 rfl ?_
        refine r_iload_n X 2 dX2_fit_25 rfl rfl ?_
        refine r_ishl X dX2_fit_26 ?_
        refine r_goto X 31 dX2_fit_27 (by decide) ?_
        exact hJ
theorem e_X2_fit {x : CT} {G : GT} (X : Cx x G cX2_fit 3 RX2 (some .int) rm_X2_fit) (hph : kP G = 1) (s : PS) (Q : Int32 → PS → Prop) (h : w_X2_fit G s Q) : WB x G 3 (QfI x G 0 0 Q) 0 0 s 0 [(0, .ref (kB G + 182))] [] := by
  unfold w_X2_fit at h
  refine r_iconst (v := 0) X dX2_fit_0 rfl ?_
  refine r_istore_n (lv' := [(1, .int 0), (0, .ref (kB G + 182))]) X dX2_fit_1 rfl (Nat.le_of_ble_eq_true rfl) rfl ?_
  refine r_iconst (v := 0) X dX2_fit_2 rfl ?_
  refine r_istore_n (lv' := [(2, .int 0), (1, .int 0), (0, .ref (kB G + 182))]) X dX2_fit_3 rfl (Nat.le_of_ble_eq_true rfl) rfl ?_
  refine r_sub [2, 1, 0] rfl ?_
  obtain ⟨n1, h⟩ := h
  exact tl_X2_fit_4 X hph Q n1 0 0 s h
theorem m_X2_fit (l : Launch) (G : GT) (g : GK G) (hph : kP G = 1) (s : PS) (Q : Int32 → PS → Prop) (h : w_X2_fit G s Q) : Met l yX2_fit (ws_ yX2_fit cX2_fit 3 (some .int)) rm_X2_fit (va_Pc [.ref (kB G + 182)] (Wr G s)) (va_Qi Q (fun u t => Wr G u t) (kF G)) 0 0 (kF G) := by
  refine Met.ofW (cc := cX2_fit) (maxL := 3) (ret := (some .int)) (by decide) rfl ?_
  intro p e s0 m args below meth c s₁ B hml hv
  obtain ⟨rfl, hw⟩ := hv
  exact wb_of [.ref (kB G + 182)] (Nat.le_of_ble_eq_true rfl) hw.1 rfl (e_X2_fit (cx_of g B hml rfl hw) hph s Q h)
theorem tl_X2_findFacts_92 {x : CT} {G : GT} (X : Cx x G cX2_findFacts 4 RX2 none rm_X2_findFacts) (hph : kP G = 1) (Q : PS → Prop) (K2 : Int32 → PS → Prop) (K39 : Int32 → PS → Prop) (v1 : Int32) (v2 : Int32) (hK2 : ∀ (v1' : Int32) (s' : PS), K2 v1' s' → WB x G 4 (QfV x G 0 0 Q) 0 0 s' 2 [(0, .ref (kB G + 182)), (1, .int v1')] []) (hK39 : ∀ (v2' : Int32) (s' : PS), K39 v2' s' → WB x G 4 (QfV x G 0 0 Q) 0 0 s' 39 [(0, .ref (kB G + 182)), (1, .int v1), (2, .int v2')] []) : ∀ (n : Nat) (v3 : Int32) (s : PS) (h : l_X2_findFacts_92 G Q K2 K39 v1 v2 n v3 s), WB x G 4 (QfV x G 0 0 Q) 0 0 s 92 [(0, .ref (kB G + 182)), (1, .int v1), (2, .int v2), (3, .int v3)] [] := by
  intro n
  induction n with
  | zero =>
    intro v3 s h
    exact False.elim h
  | succ n ih =>
    intro v3 s h
    unfold l_X2_findFacts_92 at h
    refine r_iload_n X 3 dX2_findFacts_92 rfl rfl ?_
    refine r_iconst (v := 3) X dX2_findFacts_93 rfl ?_
    refine r_ic_ge X 128 dX2_findFacts_94 (by decide) (fun c1 => ?_) (fun c1 => ?_)
    · replace h := h.1 c1
      refine r_iinc (lv' := [(2, .int (v2 + 1)), (0, .ref (kB G + 182)), (1, .int v1), (3, .int v3)]) X 2 dX2_findFacts_128 rfl rfl (Nat.le_of_ble_eq_true rfl) rfl ?_
      refine r_goto X 39 dX2_findFacts_131 (by decide) ?_
      refine r_sub [1, 2, 0] rfl ?_
      exact hK39 (v2 + 1) s h
    · replace h := h.2 c1
      refine r_aload_n X 0 dX2_findFacts_97 rfl rfl ?_
      refine gr_X2_64 X hph 13 182 198 ly_182 rfl rfl dX2_findFacts_98 ?_
      refine r_iconst (v := 4) X dX2_findFacts_101 rfl ?_
      refine r_iload_n X 1 dX2_findFacts_102 rfl rfl ?_
      refine r_imul X dX2_findFacts_103 ?_
      refine r_iconst (v := 1) X dX2_findFacts_104 rfl ?_
      refine r_iadd X dX2_findFacts_105 ?_
      refine r_iload_n X 3 dX2_findFacts_106 rfl rfl ?_
      refine r_iadd X dX2_findFacts_107 ?_
      refine r_dup2 X dX2_findFacts_108 rfl rfl ?_
      obtain ⟨g2, h⟩ := h
      refine r_ialdL X hph 198 32 ly_198 rfl g2 dX2_findFacts_109 ?_
      refine r_aload_n X 0 dX2_findFacts_110 rfl rfl ?_
      refine r_iload_n X 2 dX2_findFacts_111 rfl rfl ?_
      refine r_iconst (v := 3) X dX2_findFacts_112 rfl ?_
      refine r_ci X (r_okVL (As := [.int v2, .int 3]) (rest := [.int (gI s (kB G + 198) (((4 * v1) + 1) + v3).toNatClampNeg), .int (((4 * v1) + 1) + v3), .ref (kB G + 198)]) X (m_X2_deedOf (xl x) G X.2.2.2.2.1 hph v2 3 s _ h) (cl_X2_84 X ⟨(Nat.le_of_ble_eq_true rfl), (Nat.le_of_ble_eq_true rfl)⟩) hph 2 ly_182 rfl rfl rfl rfl (Nat.le_of_ble_eq_true rfl) dX2_findFacts_113 ⟨Nat.le_of_ble_eq_true rfl, Nat.le_of_ble_eq_true rfl⟩) (fun r4 s3 h => ?_)
      refine r_iload_n X 3 dX2_findFacts_116 rfl rfl ?_
      refine r_ishr X dX2_findFacts_117 ?_
      refine r_iconst (v := 1) X dX2_findFacts_118 rfl ?_
      refine r_iand X dX2_findFacts_119 ?_
      refine r_iadd X dX2_findFacts_120 ?_
      refine r_iastL X hph 198 32 ly_198 rfl g2 dX2_findFacts_121 (fun s5 e6 => ?_)
      replace h := h s5 e6
      refine r_iinc (lv' := [(3, .int (v3 + 1)), (0, .ref (kB G + 182)), (1, .int v1), (2, .int v2)]) X 3 dX2_findFacts_122 rfl rfl (Nat.le_of_ble_eq_true rfl) rfl ?_
      refine r_goto X 92 dX2_findFacts_125 (by decide) ?_
      refine r_sub [1, 2, 3, 0] rfl ?_
      exact ih (v3 + 1) s5 h
theorem tl_X2_findFacts_39 {x : CT} {G : GT} (X : Cx x G cX2_findFacts 4 RX2 none rm_X2_findFacts) (hph : kP G = 1) (Q : PS → Prop) (K2 : Int32 → PS → Prop) (v1 : Int32) (hK2 : ∀ (v1' : Int32) (s' : PS), K2 v1' s' → WB x G 4 (QfV x G 0 0 Q) 0 0 s' 2 [(0, .ref (kB G + 182)), (1, .int v1')] []) : ∀ (n : Nat) (v2 : Int32) (s : PS) (h : l_X2_findFacts_39 G Q K2 v1 n v2 s), WB x G 4 (QfV x G 0 0 Q) 0 0 s 39 [(0, .ref (kB G + 182)), (1, .int v1), (2, .int v2)] [] := by
  intro n
  induction n with
  | zero =>
    intro v2 s h
    exact False.elim h
  | succ n ih =>
    intro v2 s h
    unfold l_X2_findFacts_39 at h
    refine r_iload_n X 2 dX2_findFacts_39 rfl rfl ?_
    refine r_aload_n X 0 dX2_findFacts_40 rfl rfl ?_
    refine gr_X2_7 X hph 13 182 183 ly_182 rfl rfl dX2_findFacts_41 ?_
    refine r_iconst (v := 1) X dX2_findFacts_44 rfl ?_
    refine r_ialdL X hph 183 5544 ly_183 tn_1 il_1_5544 dX2_findFacts_45 ?_
    refine r_ic_ge X 134 dX2_findFacts_46 (by decide) (fun c1 => ?_) (fun c1 => ?_)
    · replace h := h.1 c1
      refine r_iinc (lv' := [(1, .int (v1 + 1)), (0, .ref (kB G + 182)), (2, .int v2)]) X 1 dX2_findFacts_134 rfl rfl (Nat.le_of_ble_eq_true rfl) rfl ?_
      refine r_goto X 2 dX2_findFacts_137 (by decide) ?_
      refine r_sub [1, 0] rfl ?_
      exact hK2 (v1 + 1) s h
    · replace h := h.2 c1
      refine r_aload_n X 0 dX2_findFacts_49 rfl rfl ?_
      refine r_iload_n X 2 dX2_findFacts_50 rfl rfl ?_
      refine r_iconst (v := 0) X dX2_findFacts_51 rfl ?_
      refine r_ci X (r_okVL (As := [.int v2, .int 0]) (rest := []) X (m_X2_deedOf (xl x) G X.2.2.2.2.1 hph v2 0 s _ h) (cl_X2_84 X ⟨(Nat.le_of_ble_eq_true rfl), (Nat.le_of_ble_eq_true rfl)⟩) hph 2 ly_182 rfl rfl rfl rfl (Nat.le_of_ble_eq_true rfl) dX2_findFacts_52 ⟨Nat.le_of_ble_eq_true rfl, Nat.le_of_ble_eq_true rfl⟩) (fun r3 s2 h => ?_)
      refine r_aload_n X 0 dX2_findFacts_55 rfl rfl ?_
      refine gr_X2_7 X hph 13 182 183 ly_182 rfl rfl dX2_findFacts_56 ?_
      refine r_sipush (v := 248) X dX2_findFacts_59 rfl ?_
      refine r_iconst (v := 2) X dX2_findFacts_62 rfl ?_
      refine r_iload_n X 1 dX2_findFacts_63 rfl rfl ?_
      refine r_imul X dX2_findFacts_64 ?_
      refine r_iadd X dX2_findFacts_65 ?_
      obtain ⟨g4, h⟩ := h
      refine r_ialdL X hph 183 5544 ly_183 rfl g4 dX2_findFacts_66 ?_
      refine r_ic_eq X 73 dX2_findFacts_67 (by decide) (fun c5 => ?_) (fun c5 => ?_)
      · replace h := h.1 c5
        refine r_aload_n X 0 dX2_findFacts_73 rfl rfl ?_
        refine gr_X2_64 X hph 13 182 198 ly_182 rfl rfl dX2_findFacts_74 ?_
        refine r_iconst (v := 4) X dX2_findFacts_77 rfl ?_
        refine r_iload_n X 1 dX2_findFacts_78 rfl rfl ?_
        refine r_imul X dX2_findFacts_79 ?_
        refine r_dup2 X dX2_findFacts_80 rfl rfl ?_
        obtain ⟨g6, h⟩ := h
        refine r_ialdL X hph 198 32 ly_198 rfl g6 dX2_findFacts_81 ?_
        refine r_aload_n X 0 dX2_findFacts_82 rfl rfl ?_
        refine r_iload_n X 2 dX2_findFacts_83 rfl rfl ?_
        refine r_iconst (v := 2) X dX2_findFacts_84 rfl ?_
        refine r_ci X (r_okVL (As := [.int v2, .int 2]) (rest := [.int (gI s2 (kB G + 198) (4 * v1).toNatClampNeg), .int (4 * v1), .ref (kB G + 198)]) X (m_X2_deedOf (xl x) G X.2.2.2.2.1 hph v2 2 s2 _ h) (cl_X2_84 X ⟨(Nat.le_of_ble_eq_true rfl), (Nat.le_of_ble_eq_true rfl)⟩) hph 2 ly_182 rfl rfl rfl rfl (Nat.le_of_ble_eq_true rfl) dX2_findFacts_85 ⟨Nat.le_of_ble_eq_true rfl, Nat.le_of_ble_eq_true rfl⟩) (fun r8 s7 h => ?_)
        refine r_iadd X dX2_findFacts_88 ?_
        refine r_iastL X hph 198 32 ly_198 rfl g6 dX2_findFacts_89 (fun s9 e10 => ?_)
        replace h := h s9 e10
        refine r_iconst (v := 0) X dX2_findFacts_90 rfl ?_
        refine r_istore_n (lv' := [(3, .int 0), (0, .ref (kB G + 182)), (1, .int v1), (2, .int v2)]) X dX2_findFacts_91 rfl (Nat.le_of_ble_eq_true rfl) rfl ?_
        refine r_sub [1, 2, 3, 0] rfl ?_
        obtain ⟨n11, h⟩ := h
        exact tl_X2_findFacts_92 X hph Q K2 (l_X2_findFacts_39 G Q K2 v1 n) v1 v2 hK2 ih n11 0 s9 h
      · replace h := h.2 c5
        refine r_goto X 128 dX2_findFacts_70 (by decide) ?_
        refine r_iinc (lv' := [(2, .int (v2 + 1)), (0, .ref (kB G + 182)), (1, .int v1)]) X 2 dX2_findFacts_128 rfl rfl (Nat.le_of_ble_eq_true rfl) rfl ?_
        refine r_goto X 39 dX2_findFacts_131 (by decide) ?_
        refine r_sub [1, 2, 0] rfl ?_
        exact ih (v2 + 1) s2 h
theorem tl_X2_findFacts_15 {x : CT} {G : GT} (X : Cx x G cX2_findFacts 4 RX2 none rm_X2_findFacts) (hph : kP G = 1) (Q : PS → Prop) (K2 : Int32 → PS → Prop) (v1 : Int32) (hK2 : ∀ (v1' : Int32) (s' : PS), K2 v1' s' → WB x G 4 (QfV x G 0 0 Q) 0 0 s' 2 [(0, .ref (kB G + 182)), (1, .int v1')] []) : ∀ (n : Nat) (v2 : Int32) (s : PS) (h : l_X2_findFacts_15 G Q K2 v1 n v2 s), WB x G 4 (QfV x G 0 0 Q) 0 0 s 15 [(0, .ref (kB G + 182)), (1, .int v1), (2, .int v2)] [] := by
  intro n
  induction n with
  | zero =>
    intro v2 s h
    exact False.elim h
  | succ n ih =>
    intro v2 s h
    unfold l_X2_findFacts_15 at h
    refine r_iload_n X 2 dX2_findFacts_15 rfl rfl ?_
    refine r_iconst (v := 4) X dX2_findFacts_16 rfl ?_
    refine r_ic_ge X 37 dX2_findFacts_17 (by decide) (fun c1 => ?_) (fun c1 => ?_)
    · replace h := h.1 c1
      refine r_iconst (v := 0) X dX2_findFacts_37 rfl ?_
      refine r_istore_n (lv' := [(2, .int 0), (0, .ref (kB G + 182)), (1, .int v1)]) X dX2_findFacts_38 rfl (Nat.le_of_ble_eq_true rfl) rfl ?_
      refine r_sub [1, 2, 0] rfl ?_
      obtain ⟨n2, h⟩ := h
      exact tl_X2_findFacts_39 X hph Q K2 v1 hK2 n2 0 s h
    · replace h := h.2 c1
      refine r_aload_n X 0 dX2_findFacts_20 rfl rfl ?_
      refine gr_X2_64 X hph 13 182 198 ly_182 rfl rfl dX2_findFacts_21 ?_
      refine r_iconst (v := 4) X dX2_findFacts_24 rfl ?_
      refine r_iload_n X 1 dX2_findFacts_25 rfl rfl ?_
      refine r_imul X dX2_findFacts_26 ?_
      refine r_iload_n X 2 dX2_findFacts_27 rfl rfl ?_
      refine r_iadd X dX2_findFacts_28 ?_
      refine r_iconst (v := 0) X dX2_findFacts_29 rfl ?_
      obtain ⟨g3, h⟩ := h
      refine r_iastL X hph 198 32 ly_198 rfl g3 dX2_findFacts_30 (fun s4 e5 => ?_)
      replace h := h s4 e5
      refine r_iinc (lv' := [(2, .int (v2 + 1)), (0, .ref (kB G + 182)), (1, .int v1)]) X 2 dX2_findFacts_31 rfl rfl (Nat.le_of_ble_eq_true rfl) rfl ?_
      refine r_goto X 15 dX2_findFacts_34 (by decide) ?_
      refine r_sub [1, 2, 0] rfl ?_
      exact ih (v2 + 1) s4 h
theorem tl_X2_findFacts_2 {x : CT} {G : GT} (X : Cx x G cX2_findFacts 4 RX2 none rm_X2_findFacts) (hph : kP G = 1) (Q : PS → Prop) : ∀ (n : Nat) (v1 : Int32) (s : PS) (h : l_X2_findFacts_2 G Q n v1 s), WB x G 4 (QfV x G 0 0 Q) 0 0 s 2 [(0, .ref (kB G + 182)), (1, .int v1)] [] := by
  intro n
  induction n with
  | zero =>
    intro v1 s h
    exact False.elim h
  | succ n ih =>
    intro v1 s h
    unfold l_X2_findFacts_2 at h
    refine r_iload_n X 1 dX2_findFacts_2 rfl rfl ?_
    refine r_aload_n X 0 dX2_findFacts_3 rfl rfl ?_
    refine gr_X2_7 X hph 13 182 183 ly_182 rfl rfl dX2_findFacts_4 ?_
    refine r_bipush (v := 9) X dX2_findFacts_7 rfl ?_
    refine r_ialdL X hph 183 5544 ly_183 tn_9 il_9_5544 dX2_findFacts_9 ?_
    refine r_ic_ge X 140 dX2_findFacts_10 (by decide) (fun c1 => ?_) (fun c1 => ?_)
    · replace h := h.1 c1
      exact r_vret X h (Nat.le_of_ble_eq_true rfl) (Nat.le_of_ble_eq_true rfl) dX2_findFacts_140
    · replace h := h.2 c1
      refine r_iconst (v := 0) X dX2_findFacts_13 rfl ?_
      refine r_istore_n (lv' := [(2, .int 0), (0, .ref (kB G + 182)), (1, .int v1)]) X dX2_findFacts_14 rfl (Nat.le_of_ble_eq_true rfl) rfl ?_
      refine r_sub [1, 2, 0] rfl ?_
      obtain ⟨n2, h⟩ := h
      exact tl_X2_findFacts_15 X hph Q (l_X2_findFacts_2 G Q n) v1 ih n2 0 s h
theorem e_X2_findFacts {x : CT} {G : GT} (X : Cx x G cX2_findFacts 4 RX2 none rm_X2_findFacts) (hph : kP G = 1) (s : PS) (Q : PS → Prop) (h : w_X2_findFacts G s Q) : WB x G 4 (QfV x G 0 0 Q) 0 0 s 0 [(0, .ref (kB G + 182))] [] := by
  unfold w_X2_findFacts at h
  refine r_iconst (v := 0) X dX2_findFacts_0 rfl ?_
  refine r_istore_n (lv' := [(1, .int 0), (0, .ref (kB G + 182))]) X dX2_findFacts_1 rfl (Nat.le_of_ble_eq_true rfl) rfl ?_
  refine r_sub [1, 0] rfl ?_
  obtain ⟨n1, h⟩ := h
  exact tl_X2_findFacts_2 X hph Q n1 0 s h
theorem m_X2_findFacts (l : Launch) (G : GT) (g : GK G) (hph : kP G = 1) (s : PS) (Q : PS → Prop) (h : w_X2_findFacts G s Q) : Met l yX2_findFacts (ws_ yX2_findFacts cX2_findFacts 4 none) rm_X2_findFacts (va_Pc [.ref (kB G + 182)] (Wr G s)) (va_Qv Q (fun u t => Wr G u t) (kF G)) 0 0 (kF G) := by
  refine Met.ofW (cc := cX2_findFacts) (maxL := 4) (ret := none) (by decide) rfl ?_
  intro p e s0 m args below meth c s₁ B hml hv
  obtain ⟨rfl, hw⟩ := hv
  exact wb_of [.ref (kB G + 182)] (Nat.le_of_ble_eq_true rfl) hw.1 rfl (e_X2_findFacts (cx_of g B hml rfl hw) hph s Q h)
theorem tl_X2_isRight_49 {x : CT} {G : GT} (X : Cx x G cX2_isRight 5 RX2 (some .boolean) rm_X2_isRight) (hph : kP G = 1) (Q : Int32 → PS → Prop) (K33 : Int32 → PS → Prop) (v2 : Int32) (hK33 : ∀ (v2' : Int32) (s' : PS), K33 v2' s' → WB x G 5 (QfI x G 0 0 (fun r u => (r = 0 ∨ r = 1) ∧ Q r u)) 0 0 s' 33 [(0, .ref (kB G + 182)), (2, .int v2')] []) : ∀ (n : Nat) (v3 : Int32) (v4 : Int32) (s : PS) (h : l_X2_isRight_49 G Q K33 v2 n v3 v4 s), WB x G 5 (QfI x G 0 0 (fun r u => (r = 0 ∨ r = 1) ∧ Q r u)) 0 0 s 49 [(0, .ref (kB G + 182)), (2, .int v2), (3, .int v3), (4, .int v4)] [] := by
  intro n
  induction n with
  | zero =>
    intro v3 v4 s h
    exact False.elim h
  | succ n ih =>
    intro v3 v4 s h
    unfold l_X2_isRight_49 at h
    refine r_iload X 3 dX2_isRight_49 rfl ?_
    refine r_iconst (v := 4) X dX2_isRight_51 rfl ?_
    refine r_ic_ge X 83 dX2_isRight_52 (by decide) (fun c1 => ?_) (fun c1 => ?_)
    · replace h := h.1 c1
      refine r_iload_n X 2 dX2_isRight_83 rfl rfl ?_
      refine r_aload_n X 0 dX2_isRight_84 rfl rfl ?_
      refine gr_X2_7 X hph 13 182 183 ly_182 rfl rfl dX2_isRight_85 ?_
      refine r_sipush (v := 248) X dX2_isRight_88 rfl ?_
      refine r_iconst (v := 2) X dX2_isRight_91 rfl ?_
      refine r_iload_n X 1 dX2_isRight_92 rfl rfl ?_
      refine r_imul X dX2_isRight_93 ?_
      refine r_iadd X dX2_isRight_94 ?_
      refine r_iconst (v := 1) X dX2_isRight_95 rfl ?_
      refine r_iadd X dX2_isRight_96 ?_
      obtain ⟨g2, h⟩ := h
      refine r_ialdL X hph 183 5544 ly_183 rfl g2 dX2_isRight_97 ?_
      refine r_ic_eq X 103 dX2_isRight_98 (by decide) (fun c3 => ?_) (fun c3 => ?_)
      · replace h := h.1 c3
        refine r_iinc (lv' := [(2, .int (v2 + 1)), (0, .ref (kB G + 182)), (3, .int v3), (4, .int v4)]) X 1 dX2_isRight_103 rfl rfl (Nat.le_of_ble_eq_true rfl) rfl ?_
        refine r_goto X 33 dX2_isRight_106 (by decide) ?_
        refine r_sub [1, 0] rfl ?_
        exact hK33 (v2 + 1) s h
      · replace h := h.2 c3
        refine r_iconst (v := 0) X dX2_isRight_101 rfl ?_
        exact r_zret X (Or.inl rfl) h (Nat.le_of_ble_eq_true rfl) (Nat.le_of_ble_eq_true rfl) dX2_isRight_102
    · replace h := h.2 c1
      refine r_iload_n X 2 dX2_isRight_55 rfl rfl ?_
      refine r_aload_n X 0 dX2_isRight_56 rfl rfl ?_
      refine gr_X2_67 X hph 13 182 199 ly_182 rfl rfl dX2_isRight_57 ?_
      refine r_iload X 3 dX2_isRight_60 rfl ?_
      obtain ⟨g4, h⟩ := h
      refine r_ialdL X hph 199 4 ly_199 rfl g4 dX2_isRight_62 ?_
      refine r_aload_n X 0 dX2_isRight_63 rfl rfl ?_
      refine gr_X2_64 X hph 13 182 198 ly_182 rfl rfl dX2_isRight_64 ?_
      refine r_iconst (v := 4) X dX2_isRight_67 rfl ?_
      refine r_iload_n X 1 dX2_isRight_68 rfl rfl ?_
      refine r_imul X dX2_isRight_69 ?_
      refine r_iload X 3 dX2_isRight_70 rfl ?_
      refine r_iadd X dX2_isRight_72 ?_
      obtain ⟨g5, h⟩ := h
      refine r_ialdL X hph 198 32 ly_198 rfl g5 dX2_isRight_73 ?_
      refine r_imul X dX2_isRight_74 ?_
      refine r_iadd X dX2_isRight_75 ?_
      refine r_nmI (fun y6 e7 => ?_)
      replace h := h y6 e7
      refine r_istore_n (lv' := [(3, .int y6), (0, .ref (kB G + 182)), (2, .int v2), (4, .int v4)]) X dX2_isRight_76 rfl (Nat.le_of_ble_eq_true rfl) rfl ?_
      refine r_iinc (lv' := [(4, .int (v4 + 1)), (3, .int y6), (0, .ref (kB G + 182)), (2, .int v2)]) X 3 dX2_isRight_77 rfl rfl (Nat.le_of_ble_eq_true rfl) rfl ?_
      refine r_goto X 49 dX2_isRight_80 (by decide) ?_
      refine r_sub [2, 3, 1, 0] rfl ?_
      exact ih y6 (v4 + 1) s h
theorem tl_X2_isRight_33 {x : CT} {G : GT} (X : Cx x G cX2_isRight 5 RX2 (some .boolean) rm_X2_isRight) (hph : kP G = 1) (Q : Int32 → PS → Prop) : ∀ (n : Nat) (v2 : Int32) (s : PS) (h : l_X2_isRight_33 G Q n v2 s), WB x G 5 (QfI x G 0 0 (fun r u => (r = 0 ∨ r = 1) ∧ Q r u)) 0 0 s 33 [(0, .ref (kB G + 182)), (2, .int v2)] [] := by
  intro n
  induction n with
  | zero =>
    intro v2 s h
    exact False.elim h
  | succ n ih =>
    intro v2 s h
    unfold l_X2_isRight_33 at h
    refine r_iload_n X 1 dX2_isRight_33 rfl rfl ?_
    refine r_aload_n X 0 dX2_isRight_34 rfl rfl ?_
    refine gr_X2_7 X hph 13 182 183 ly_182 rfl rfl dX2_isRight_35 ?_
    refine r_bipush (v := 9) X dX2_isRight_38 rfl ?_
    refine r_ialdL X hph 183 5544 ly_183 tn_9 il_9_5544 dX2_isRight_40 ?_
    refine r_ic_ge X 109 dX2_isRight_41 (by decide) (fun c1 => ?_) (fun c1 => ?_)
    · replace h := h.1 c1
      refine r_iconst (v := 1) X dX2_isRight_109 rfl ?_
      exact r_zret X (Or.inr rfl) h (Nat.le_of_ble_eq_true rfl) (Nat.le_of_ble_eq_true rfl) dX2_isRight_110
    · replace h := h.2 c1
      refine r_iconst (v := 0) X dX2_isRight_44 rfl ?_
      refine r_istore_n (lv' := [(3, .int 0), (0, .ref (kB G + 182)), (2, .int v2)]) X dX2_isRight_45 rfl (Nat.le_of_ble_eq_true rfl) rfl ?_
      refine r_iconst (v := 0) X dX2_isRight_46 rfl ?_
      refine r_istore (lv' := [(4, .int 0), (3, .int 0), (0, .ref (kB G + 182)), (2, .int v2)]) X dX2_isRight_47 (Nat.le_of_ble_eq_true rfl) rfl ?_
      refine r_sub [2, 3, 1, 0] rfl ?_
      obtain ⟨n2, h⟩ := h
      exact tl_X2_isRight_49 X hph Q (l_X2_isRight_33 G Q n) v2 ih n2 0 0 s h
theorem tl_X2_isRight_4 {x : CT} {G : GT} (X : Cx x G cX2_isRight 5 RX2 (some .boolean) rm_X2_isRight) (hph : kP G = 1) (Q : Int32 → PS → Prop) : ∀ (n : Nat) (v2 : Int32) (v3 : Int32) (s : PS) (h : l_X2_isRight_4 G Q n v2 v3 s), WB x G 5 (QfI x G 0 0 (fun r u => (r = 0 ∨ r = 1) ∧ Q r u)) 0 0 s 4 [(0, .ref (kB G + 182)), (2, .int v2), (3, .int v3)] [] := by
  intro n
  induction n with
  | zero =>
    intro v2 v3 s h
    exact False.elim h
  | succ n ih =>
    intro v2 v3 s h
    unfold l_X2_isRight_4 at h
    refine r_iload_n X 1 dX2_isRight_4 rfl rfl ?_
    refine r_if_lt X 31 dX2_isRight_5 (by decide) (fun c1 => ?_) (fun c1 => ?_)
    · replace h := h.1 c1
      refine r_iconst (v := 0) X dX2_isRight_31 rfl ?_
      refine r_istore_n (lv' := [(2, .int 0), (0, .ref (kB G + 182)), (3, .int v3)]) X dX2_isRight_32 rfl (Nat.le_of_ble_eq_true rfl) rfl ?_
      refine r_sub [1, 0] rfl ?_
      obtain ⟨n2, h⟩ := h
      exact tl_X2_isRight_33 X hph Q n2 0 s h
    · replace h := h.2 c1
      refine r_aload_n X 0 dX2_isRight_8 rfl rfl ?_
      refine gr_X2_67 X hph 13 182 199 ly_182 rfl rfl dX2_isRight_9 ?_
      refine r_iload_n X 1 dX2_isRight_12 rfl rfl ?_
      refine r_iload_n X 2 dX2_isRight_13 rfl rfl ?_
      refine r_bipush (v := 7) X dX2_isRight_14 rfl ?_
      refine r_irem X dX2_isRight_16 (by decide) ?_
      refine r_iconst (v := 3) X dX2_isRight_17 rfl ?_
      refine r_isub X dX2_isRight_18 ?_
      obtain ⟨g3, h⟩ := h
      refine r_iastL X hph 199 4 ly_199 rfl g3 dX2_isRight_19 (fun s4 e5 => ?_)
      replace h := h s4 e5
      refine r_iinc (lv' := [(2, .int (v2 + (-1))), (0, .ref (kB G + 182)), (3, .int v3)]) X 1 dX2_isRight_20 rfl rfl (Nat.le_of_ble_eq_true rfl) rfl ?_
      refine r_iload_n X 2 dX2_isRight_23 rfl rfl ?_
      refine r_bipush (v := 7) X dX2_isRight_24 rfl ?_
      refine r_idiv X dX2_isRight_26 (by decide) ?_
      refine r_nmI (fun y6 e7 => ?_)
      replace h := h y6 e7
      refine r_istore_n (lv' := [(3, .int y6), (2, .int (v2 + (-1))), (0, .ref (kB G + 182))]) X dX2_isRight_27 rfl (Nat.le_of_ble_eq_true rfl) rfl ?_
      refine r_goto X 4 dX2_isRight_28 (by decide) ?_
      refine r_sub [2, 1, 0] rfl ?_
      exact ih (v2 + (-1)) y6 s4 h
theorem e_X2_isRight {x : CT} {G : GT} (X : Cx x G cX2_isRight 5 RX2 (some .boolean) rm_X2_isRight) (hph : kP G = 1) (p1 : Int32) (s : PS) (Q : Int32 → PS → Prop) (h : w_X2_isRight G p1 s Q) : WB x G 5 (QfI x G 0 0 (fun r u => (r = 0 ∨ r = 1) ∧ Q r u)) 0 0 s 0 [(0, .ref (kB G + 182)), (1, .int p1)] [] := by
  unfold w_X2_isRight at h
  refine r_iconst (v := 3) X dX2_isRight_0 rfl ?_
  refine r_istore_n (lv' := [(2, .int 3), (0, .ref (kB G + 182)), (1, .int p1)]) X dX2_isRight_1 rfl (Nat.le_of_ble_eq_true rfl) rfl ?_
  refine r_iload_n X 2 dX2_isRight_2 rfl rfl ?_
  refine r_istore_n (lv' := [(3, .int p1), (2, .int 3), (0, .ref (kB G + 182)), (1, .int p1)]) X dX2_isRight_3 rfl (Nat.le_of_ble_eq_true rfl) rfl ?_
  refine r_sub [2, 1, 0] rfl ?_
  obtain ⟨n1, h⟩ := h
  exact tl_X2_isRight_4 X hph Q n1 3 p1 s h
theorem m_X2_isRight (l : Launch) (G : GT) (g : GK G) (hph : kP G = 1) (p1 : Int32) (s : PS) (Q : Int32 → PS → Prop) (h : w_X2_isRight G p1 s Q) : Met l yX2_isRight (ws_ yX2_isRight cX2_isRight 5 (some .boolean)) rm_X2_isRight (va_Pc [.ref (kB G + 182), .int p1] (Wr G s)) (va_Qi (fun r u => (r = 0 ∨ r = 1) ∧ Q r u) (fun u t => Wr G u t) (kF G)) 0 0 (kF G) := by
  refine Met.ofW (cc := cX2_isRight) (maxL := 5) (ret := (some .boolean)) (by decide) rfl ?_
  intro p e s0 m args below meth c s₁ B hml hv
  obtain ⟨rfl, hw⟩ := hv
  exact wb_of [.ref (kB G + 182), .int p1] (Nat.le_of_ble_eq_true rfl) hw.1 rfl (e_X2_isRight (cx_of g B hml rfl hw) hph p1 s Q h)
theorem e_X2_sizeOf {x : CT} {G : GT} (X : Cx x G cX2_sizeOf 1 RX2 (some .int) rm_X2_sizeOf) (p1 : Int32) (s : PS) (Q : Int32 → PS → Prop) (h : w_X2_sizeOf G p1 s Q) : WB x G 1 (QfI x G 0 0 Q) 0 0 s 0 [(0, .int p1)] [] := by
  unfold w_X2_sizeOf at h
  refine r_iload_n X 0 dX2_sizeOf_0 rfl rfl ?_
  have hJ : WB x G 1 (QfI x G 0 0 Q) 0 0 s 10 [(0, .int p1)] [.int (if 0 ≤ p1 then p1 else (-p1) : Int32)] := by
    exact r_iret X h (Nat.le_of_ble_eq_true rfl) (Nat.le_of_ble_eq_true rfl) dX2_sizeOf_10
  refine r_if_ge X 9 dX2_sizeOf_1 (by decide) (fun c1 => ?_) (fun c1 => ?_)
  · rw [if_pos c1] at hJ
    refine r_iload_n X 0 dX2_sizeOf_9 rfl rfl ?_
    exact hJ
  · rw [if_neg c1] at hJ
    refine r_iload_n X 0 dX2_sizeOf_4 rfl rfl ?_
    refine r_ineg X dX2_sizeOf_5 ?_
    refine r_goto X 10 dX2_sizeOf_6 (by decide) ?_
    exact hJ
theorem m_X2_sizeOf (l : Launch) (G : GT) (g : GK G) (p1 : Int32) (s : PS) (Q : Int32 → PS → Prop) (h : w_X2_sizeOf G p1 s Q) : Met l yX2_sizeOf (ws_ yX2_sizeOf cX2_sizeOf 1 (some .int)) rm_X2_sizeOf (va_Pc [.int p1] (Wr G s)) (va_Qi Q (fun u t => Wr G u t) (kF G)) 0 0 (kF G) := by
  refine Met.ofW (cc := cX2_sizeOf) (maxL := 1) (ret := (some .int)) (by decide) rfl ?_
  intro p e s0 m args below meth c s₁ B hml hv
  obtain ⟨rfl, hw⟩ := hv
  exact wb_of [.int p1] (Nat.le_of_ble_eq_true rfl) hw.1 rfl (e_X2_sizeOf (cx_of g B hml rfl hw) p1 s Q h)
theorem tl_X2_smallest_52 {x : CT} {G : GT} (X : Cx x G cX2_smallest 7 RX2 (some .int) rm_X2_smallest) (hph : kP G = 1) (Q : Int32 → PS → Prop) (K26 : Int32 → Int32 → Int32 → PS → Prop) (v1 : Int32) (v2 : Int32) (v3 : Int32) (v4 : Int32) (hK26 : ∀ (v2' : Int32) (v3' : Int32) (v4' : Int32) (s' : PS), K26 v2' v3' v4' s' → WB x G 7 (QfI x G 0 0 Q) 0 0 s' 26 [(0, .ref (kB G + 182)), (1, .int v1), (2, .int v2'), (3, .int v3'), (4, .int v4')] []) : ∀ (n : Nat) (v5 : Int32) (v6 : Int32) (s : PS) (h : l_X2_smallest_52 G Q K26 v1 v2 v3 v4 n v5 v6 s), WB x G 7 (QfI x G 0 0 Q) 0 0 s 52 [(0, .ref (kB G + 182)), (1, .int v1), (2, .int v2), (3, .int v3), (4, .int v4), (5, .int v5), (6, .int v6)] [] := by
  intro n
  induction n with
  | zero =>
    intro v5 v6 s h
    exact False.elim h
  | succ n ih =>
    intro v5 v6 s h
    unfold l_X2_smallest_52 at h
    refine r_iload X 6 dX2_smallest_52 rfl ?_
    refine r_iconst (v := 4) X dX2_smallest_54 rfl ?_
    refine r_ic_ge X 79 dX2_smallest_55 (by decide) (fun c1 => ?_) (fun c1 => ?_)
    · replace h := h.1 c1
      refine r_iload X 5 dX2_smallest_79 rfl ?_
      refine r_iload_n X 3 dX2_smallest_81 rfl rfl ?_
      refine r_ic_lt X 88 dX2_smallest_82 (by decide) (fun c2 => ?_) (fun c2 => ?_)
      · replace h := h.1 c2
        refine r_iload X 5 dX2_smallest_88 rfl ?_
        refine r_istore_n (lv' := [(3, .int v5), (0, .ref (kB G + 182)), (1, .int v1), (2, .int v2), (4, .int v4), (5, .int v5), (6, .int v6)]) X dX2_smallest_90 rfl (Nat.le_of_ble_eq_true rfl) rfl ?_
        refine r_aload_n X 1 dX2_smallest_91 rfl rfl ?_
        refine gr_X2_67 X hph 13 182 199 ly_182 rfl rfl dX2_smallest_92 ?_
        refine r_iload_n X 2 dX2_smallest_95 rfl rfl ?_
        obtain ⟨g3, h⟩ := h
        refine r_ialdL X hph 199 4 ly_199 rfl g3 dX2_smallest_96 ?_
        refine r_nmI (fun y4 e5 => ?_)
        replace h := h y4 e5
        refine r_istore_n (lv' := [(2, .int y4), (3, .int v5), (0, .ref (kB G + 182)), (1, .int v1), (4, .int v4), (5, .int v5), (6, .int v6)]) X dX2_smallest_97 rfl (Nat.le_of_ble_eq_true rfl) rfl ?_
        refine r_iinc (lv' := [(4, .int (v4 + 1)), (2, .int y4), (3, .int v5), (0, .ref (kB G + 182)), (1, .int v1), (5, .int v5), (6, .int v6)]) X 4 dX2_smallest_98 rfl rfl (Nat.le_of_ble_eq_true rfl) rfl ?_
        refine r_goto X 26 dX2_smallest_101 (by decide) ?_
        refine r_sub [3, 4, 1, 2, 0] rfl ?_
        exact hK26 y4 v5 (v4 + 1) s h
      · replace h := h.2 c2
        refine r_goto X 98 dX2_smallest_85 (by decide) ?_
        refine r_iinc (lv' := [(4, .int (v4 + 1)), (0, .ref (kB G + 182)), (1, .int v1), (2, .int v2), (3, .int v3), (5, .int v5), (6, .int v6)]) X 4 dX2_smallest_98 rfl rfl (Nat.le_of_ble_eq_true rfl) rfl ?_
        refine r_goto X 26 dX2_smallest_101 (by decide) ?_
        refine r_sub [1, 2, 3, 4, 0] rfl ?_
        exact hK26 v2 v3 (v4 + 1) s h
    · replace h := h.2 c1
      refine r_iload X 5 dX2_smallest_58 rfl ?_
      refine r_aload_n X 0 dX2_smallest_60 rfl rfl ?_
      refine gr_X2_67 X hph 13 182 199 ly_182 rfl rfl dX2_smallest_61 ?_
      refine r_iload X 6 dX2_smallest_64 rfl ?_
      obtain ⟨g6, h⟩ := h
      refine r_ialdL X hph 199 4 ly_199 rfl g6 dX2_smallest_66 ?_
      refine r_ci X (r_okS (As := [.int (gI s (kB G + 199) v6.toNatClampNeg)]) (rest := [.int v5]) X (m_X2_sizeOf (xl x) G X.2.2.2.2.1 (gI s (kB G + 199) v6.toNatClampNeg) s _ h) (cl_X2_441 X ⟨(Nat.le_of_ble_eq_true rfl), (Nat.le_of_ble_eq_true rfl)⟩) rfl rfl (Nat.le_of_ble_eq_true rfl) dX2_smallest_67 ⟨Nat.le_of_ble_eq_true rfl, Nat.le_of_ble_eq_true rfl⟩) (fun r8 s7 h => ?_)
      refine r_iadd X dX2_smallest_70 ?_
      refine r_nmI (fun y9 e10 => ?_)
      replace h := h y9 e10
      refine r_istore (lv' := [(5, .int y9), (0, .ref (kB G + 182)), (1, .int v1), (2, .int v2), (3, .int v3), (4, .int v4), (6, .int v6)]) X dX2_smallest_71 (Nat.le_of_ble_eq_true rfl) rfl ?_
      refine r_iinc (lv' := [(6, .int (v6 + 1)), (5, .int y9), (0, .ref (kB G + 182)), (1, .int v1), (2, .int v2), (3, .int v3), (4, .int v4)]) X 6 dX2_smallest_73 rfl rfl (Nat.le_of_ble_eq_true rfl) rfl ?_
      refine r_goto X 52 dX2_smallest_76 (by decide) ?_
      refine r_sub [2, 3, 4, 5, 6, 1, 0] rfl ?_
      exact ih y9 (v6 + 1) s7 h
theorem tl_X2_smallest_26 {x : CT} {G : GT} (X : Cx x G cX2_smallest 7 RX2 (some .int) rm_X2_smallest) (hph : kP G = 1) (Q : Int32 → PS → Prop) (v1 : Int32) : ∀ (n : Nat) (v2 : Int32) (v3 : Int32) (v4 : Int32) (s : PS) (h : l_X2_smallest_26 G Q v1 n v2 v3 v4 s), WB x G 7 (QfI x G 0 0 Q) 0 0 s 26 [(0, .ref (kB G + 182)), (1, .int v1), (2, .int v2), (3, .int v3), (4, .int v4)] [] := by
  intro n
  induction n with
  | zero =>
    intro v2 v3 v4 s h
    exact False.elim h
  | succ n ih =>
    intro v2 v3 v4 s h
    unfold l_X2_smallest_26 at h
    refine r_iload X 4 dX2_smallest_26 rfl ?_
    refine r_sipush (v := 2401) X dX2_smallest_28 rfl ?_
    refine r_ic_ge X 104 dX2_smallest_31 (by decide) (fun c1 => ?_) (fun c1 => ?_)
    · replace h := h.1 c1
      refine r_iload_n X 2 dX2_smallest_104 rfl rfl ?_
      exact r_iret X h (Nat.le_of_ble_eq_true rfl) (Nat.le_of_ble_eq_true rfl) dX2_smallest_105
    · replace h := h.2 c1
      refine r_aload_n X 0 dX2_smallest_34 rfl rfl ?_
      refine r_iload X 4 dX2_smallest_35 rfl ?_
      refine r_ci X (r_okVL (As := [.int v4]) (rest := []) X (m_X2_isRight (xl x) G X.2.2.2.2.1 hph v4 s _ h) (cl_X2_438 X ⟨(Nat.le_of_ble_eq_true rfl), (Nat.le_of_ble_eq_true rfl)⟩) hph 2 ly_182 rfl rfl rfl rfl (Nat.le_of_ble_eq_true rfl) dX2_smallest_37 ⟨Nat.le_of_ble_eq_true rfl, Nat.le_of_ble_eq_true rfl⟩) (fun r3 s2 h => ?_)
      obtain ⟨z4, h⟩ := h
      refine r_if_ne X 46 dX2_smallest_40 (by decide) (fun c5 => ?_) (fun c5 => ?_)
      · replace h := h.2 c5
        refine r_iconst (v := 0) X dX2_smallest_46 rfl ?_
        refine r_istore (lv' := [(5, .int 0), (0, .ref (kB G + 182)), (1, .int v1), (2, .int v2), (3, .int v3), (4, .int v4)]) X dX2_smallest_47 (Nat.le_of_ble_eq_true rfl) rfl ?_
        refine r_iconst (v := 0) X dX2_smallest_49 rfl ?_
        refine r_istore (lv' := [(6, .int 0), (5, .int 0), (0, .ref (kB G + 182)), (1, .int v1), (2, .int v2), (3, .int v3), (4, .int v4)]) X dX2_smallest_50 (Nat.le_of_ble_eq_true rfl) rfl ?_
        refine r_sub [2, 3, 4, 5, 6, 1, 0] rfl ?_
        obtain ⟨n6, h⟩ := h
        exact tl_X2_smallest_52 X hph Q (l_X2_smallest_26 G Q v1 n) v1 v2 v3 v4 ih n6 0 0 s2 h
      · replace h := h.1 c5
        refine r_goto X 98 dX2_smallest_43 (by decide) ?_
        refine r_iinc (lv' := [(4, .int (v4 + 1)), (0, .ref (kB G + 182)), (1, .int v1), (2, .int v2), (3, .int v3)]) X 4 dX2_smallest_98 rfl rfl (Nat.le_of_ble_eq_true rfl) rfl ?_
        refine r_goto X 26 dX2_smallest_101 (by decide) ?_
        refine r_sub [1, 2, 3, 4, 0] rfl ?_
        exact ih v2 v3 (v4 + 1) s2 h
theorem e_X2_smallest {x : CT} {G : GT} (X : Cx x G cX2_smallest 7 RX2 (some .int) rm_X2_smallest) (hph : kP G = 1) (p1 : Int32) (s : PS) (Q : Int32 → PS → Prop) (h : w_X2_smallest G p1 s Q) : WB x G 7 (QfI x G 0 0 Q) 0 0 s 0 [(0, .ref (kB G + 182)), (1, .int p1)] [] := by
  unfold w_X2_smallest at h
  refine r_iload_n X 1 dX2_smallest_0 rfl rfl ?_
  refine r_iconst (v := 0) X dX2_smallest_1 rfl ?_
  refine r_iconst (v := 3) X dX2_smallest_2 rfl ?_
  refine r_ci X (r_okS (As := [.int p1, .int 0, .int 3]) (rest := []) X (m_X2_isIn (xl x) G X.2.2.2.2.1 p1 0 3 s _ h) (cl_X2_80 X ⟨(Nat.le_of_ble_eq_true rfl), (Nat.le_of_ble_eq_true rfl)⟩) rfl rfl (Nat.le_of_ble_eq_true rfl) dX2_smallest_3 ⟨Nat.le_of_ble_eq_true rfl, Nat.le_of_ble_eq_true rfl⟩) (fun r2 s1 h => ?_)
  obtain ⟨z3, h⟩ := h
  refine r_if_ne X 12 dX2_smallest_6 (by decide) (fun c4 => ?_) (fun c4 => ?_)
  · replace h := h.2 c4
    refine r_aload_n X 0 dX2_smallest_12 rfl rfl ?_
    refine r_cv X (r_okVL (As := []) (rest := []) X (m_X2_findFacts (xl x) G X.2.2.2.2.1 hph s1 _ h) (cl_X2_434 X ⟨(Nat.le_of_ble_eq_true rfl), (Nat.le_of_ble_eq_true rfl)⟩) hph 2 ly_182 rfl rfl rfl rfl (Nat.le_of_ble_eq_true rfl) dX2_smallest_13 ⟨Nat.le_of_ble_eq_true rfl, Nat.le_of_ble_eq_true rfl⟩) (fun s5 h => ?_)
    refine r_bipush (v := (-100)) X dX2_smallest_16 rfl ?_
    refine r_istore_n (lv' := [(2, .int (-100)), (0, .ref (kB G + 182)), (1, .int p1)]) X dX2_smallest_18 rfl (Nat.le_of_ble_eq_true rfl) rfl ?_
    refine r_ldc_w X q1927 dX2_smallest_19 ?_
    refine r_istore_n (lv' := [(3, .int 1000000), (2, .int (-100)), (0, .ref (kB G + 182)), (1, .int p1)]) X dX2_smallest_22 rfl (Nat.le_of_ble_eq_true rfl) rfl ?_
    refine r_iconst (v := 0) X dX2_smallest_23 rfl ?_
    refine r_istore (lv' := [(4, .int 0), (3, .int 1000000), (2, .int (-100)), (0, .ref (kB G + 182)), (1, .int p1)]) X dX2_smallest_24 (Nat.le_of_ble_eq_true rfl) rfl ?_
    refine r_sub [3, 4, 2, 1, 0] rfl ?_
    obtain ⟨n6, h⟩ := h
    exact tl_X2_smallest_26 X hph Q p1 n6 (-100) 1000000 0 s5 h
  · replace h := h.1 c4
    refine r_bipush (v := (-100)) X dX2_smallest_9 rfl ?_
    exact r_iret X h (Nat.le_of_ble_eq_true rfl) (Nat.le_of_ble_eq_true rfl) dX2_smallest_11
theorem m_X2_smallest (l : Launch) (G : GT) (g : GK G) (hph : kP G = 1) (p1 : Int32) (s : PS) (Q : Int32 → PS → Prop) (h : w_X2_smallest G p1 s Q) : Met l yX2_smallest (ws_ yX2_smallest cX2_smallest 7 (some .int)) rm_X2_smallest (va_Pc [.ref (kB G + 182), .int p1] (Wr G s)) (va_Qi Q (fun u t => Wr G u t) (kF G)) 0 0 (kF G) := by
  refine Met.ofW (cc := cX2_smallest) (maxL := 7) (ret := (some .int)) (by decide) rfl ?_
  intro p e s0 m args below meth c s₁ B hml hv
  obtain ⟨rfl, hw⟩ := hv
  exact wb_of [.ref (kB G + 182), .int p1] (Nat.le_of_ble_eq_true rfl) hw.1 rfl (e_X2_smallest (cx_of g B hml rfl hw) hph p1 s Q h)
theorem tl_X2_alikeAt_23 {x : CT} {G : GT} (X : Cx x G cX2_alikeAt 7 RX2 (some .int) rm_X2_alikeAt) (hph : kP G = 1) (Q : Int32 → PS → Prop) (K5 : Int32 → Int32 → PS → Prop) (v1 : Int32) (v2 : Int32) (v3 : Int32) (v4 : Int32) (hK5 : ∀ (v3' : Int32) (v4' : Int32) (s' : PS), K5 v3' v4' s' → WB x G 7 (QfI x G 0 0 Q) 0 0 s' 5 [(0, .ref (kB G + 182)), (1, .int v1), (2, .int v2), (3, .int v3'), (4, .int v4')] []) : ∀ (n : Nat) (v5 : Int32) (v6 : Int32) (s : PS) (h : l_X2_alikeAt_23 G Q K5 v1 v2 v3 v4 n v5 v6 s), WB x G 7 (QfI x G 0 0 Q) 0 0 s 23 [(0, .ref (kB G + 182)), (1, .int v1), (2, .int v2), (3, .int v3), (4, .int v4), (5, .int v5), (6, .int v6)] [] := by
  intro n
  induction n with
  | zero =>
    intro v5 v6 s h
    exact False.elim h
  | succ n ih =>
    intro v5 v6 s h
    unfold l_X2_alikeAt_23 at h
    refine r_iload X 6 dX2_alikeAt_23 rfl ?_
    refine r_aload_n X 0 dX2_alikeAt_25 rfl rfl ?_
    refine gr_X2_7 X hph 13 182 183 ly_182 rfl rfl dX2_alikeAt_26 ?_
    refine r_bipush (v := 6) X dX2_alikeAt_29 rfl ?_
    refine r_ialdL X hph 183 5544 ly_183 tn_6 il_6_5544 dX2_alikeAt_31 ?_
    refine r_ic_ge X 77 dX2_alikeAt_32 (by decide) (fun c1 => ?_) (fun c1 => ?_)
    · replace h := h.1 c1
      refine r_iload_n X 2 dX2_alikeAt_77 rfl rfl ?_
      refine r_iload X 4 dX2_alikeAt_78 rfl ?_
      refine r_ci X (r_okS (As := [.int v2, .int v4]) (rest := []) X (m_X2_has (xl x) G X.2.2.2.2.1 v2 v4 s _ h) (cl_X2_224 X ⟨(Nat.le_of_ble_eq_true rfl), (Nat.le_of_ble_eq_true rfl)⟩) rfl rfl (Nat.le_of_ble_eq_true rfl) dX2_alikeAt_80 ⟨Nat.le_of_ble_eq_true rfl, Nat.le_of_ble_eq_true rfl⟩) (fun r3 s2 h => ?_)
      obtain ⟨z4, h⟩ := h
      have hJ : WB x G 7 (QfI x G 0 0 Q) 0 0 s2 98 [(0, .ref (kB G + 182)), (1, .int v1), (2, .int v2), (3, .int v3), (4, .int v4), (5, .int v5), (6, .int v6)] [.int (if r3 = 0 then v3 else (if v5 ≤ v3 then v3 else v5 : Int32) : Int32)] := by
        refine r_nmI (fun y7 e8 => ?_)
        replace h := h y7 e8
        refine r_istore_n (lv' := [(3, .int y7), (0, .ref (kB G + 182)), (1, .int v1), (2, .int v2), (4, .int v4), (5, .int v5), (6, .int v6)]) X dX2_alikeAt_98 rfl (Nat.le_of_ble_eq_true rfl) rfl ?_
        refine r_iinc (lv' := [(4, .int (v4 + 1)), (3, .int y7), (0, .ref (kB G + 182)), (1, .int v1), (2, .int v2), (5, .int v5), (6, .int v6)]) X 4 dX2_alikeAt_99 rfl rfl (Nat.le_of_ble_eq_true rfl) rfl ?_
        refine r_goto X 5 dX2_alikeAt_102 (by decide) ?_
        refine r_sub [2, 3, 4, 1, 0] rfl ?_
        exact hK5 y7 (v4 + 1) s2 h
      refine r_if_eq X 97 dX2_alikeAt_83 (by decide) (fun c6 => ?_) (fun c6 => ?_)
      · rw [if_pos c6] at hJ
        refine r_iload_n X 3 dX2_alikeAt_97 rfl rfl ?_
        exact hJ
      · rw [if_neg c6] at hJ
        refine r_iload X 5 dX2_alikeAt_86 rfl ?_
        refine r_iload_n X 3 dX2_alikeAt_88 rfl rfl ?_
        refine r_ic_le X 97 dX2_alikeAt_89 (by decide) (fun c5 => ?_) (fun c5 => ?_)
        · rw [if_pos c5] at hJ
          refine r_iload_n X 3 dX2_alikeAt_97 rfl rfl ?_
          exact hJ
        · rw [if_neg c5] at hJ
          refine r_iload X 5 dX2_alikeAt_92 rfl ?_
          refine r_goto X 98 dX2_alikeAt_94 (by decide) ?_
          exact hJ
    · replace h := h.2 c1
      refine r_iload X 5 dX2_alikeAt_35 rfl ?_
      refine r_iload_n X 2 dX2_alikeAt_37 rfl rfl ?_
      refine r_iload X 6 dX2_alikeAt_38 rfl ?_
      refine r_ci X (r_okS (As := [.int v2, .int v6]) (rest := [.int v5]) X (m_X2_has (xl x) G X.2.2.2.2.1 v2 v6 s _ h) (cl_X2_224 X ⟨(Nat.le_of_ble_eq_true rfl), (Nat.le_of_ble_eq_true rfl)⟩) rfl rfl (Nat.le_of_ble_eq_true rfl) dX2_alikeAt_40 ⟨Nat.le_of_ble_eq_true rfl, Nat.le_of_ble_eq_true rfl⟩) (fun r10 s9 h => ?_)
      obtain ⟨z11, h⟩ := h
      refine r_if_eq X 67 dX2_alikeAt_43 (by decide) (fun c12 => ?_) (fun c12 => ?_)
      · replace h := h.1 c12
        refine r_iconst (v := 0) X dX2_alikeAt_67 rfl ?_
        refine r_iadd X dX2_alikeAt_68 ?_
        refine r_nmI (fun y13 e14 => ?_)
        replace h := h y13 e14
        refine r_istore (lv' := [(5, .int y13), (0, .ref (kB G + 182)), (1, .int v1), (2, .int v2), (3, .int v3), (4, .int v4), (6, .int v6)]) X dX2_alikeAt_69 (Nat.le_of_ble_eq_true rfl) rfl ?_
        refine r_iinc (lv' := [(6, .int (v6 + 1)), (5, .int y13), (0, .ref (kB G + 182)), (1, .int v1), (2, .int v2), (3, .int v3), (4, .int v4)]) X 6 dX2_alikeAt_71 rfl rfl (Nat.le_of_ble_eq_true rfl) rfl ?_
        refine r_goto X 23 dX2_alikeAt_74 (by decide) ?_
        refine r_sub [2, 3, 4, 5, 6, 1, 0] rfl ?_
        exact ih y13 (v6 + 1) s9 h
      · replace h := h.2 c12
        refine r_aload_n X 0 dX2_alikeAt_46 rfl rfl ?_
        refine r_iload X 6 dX2_alikeAt_47 rfl ?_
        refine r_iload_n X 1 dX2_alikeAt_49 rfl rfl ?_
        refine r_ci X (r_okVL (As := [.int v6, .int v1]) (rest := [.int v5]) X (m_X2_weightBy (xl x) G X.2.2.2.2.1 hph v6 v1 s9 _ h) (cl_X2_288 X ⟨(Nat.le_of_ble_eq_true rfl), (Nat.le_of_ble_eq_true rfl)⟩) hph 2 ly_182 rfl rfl rfl rfl (Nat.le_of_ble_eq_true rfl) dX2_alikeAt_50 ⟨Nat.le_of_ble_eq_true rfl, Nat.le_of_ble_eq_true rfl⟩) (fun r16 s15 h => ?_)
        refine r_aload_n X 0 dX2_alikeAt_53 rfl rfl ?_
        refine r_iload X 4 dX2_alikeAt_54 rfl ?_
        refine r_iload_n X 1 dX2_alikeAt_56 rfl rfl ?_
        refine r_ci X (r_okVL (As := [.int v4, .int v1]) (rest := [.int r16, .int v5]) X (m_X2_weightBy (xl x) G X.2.2.2.2.1 hph v4 v1 s15 _ h) (cl_X2_288 X ⟨(Nat.le_of_ble_eq_true rfl), (Nat.le_of_ble_eq_true rfl)⟩) hph 2 ly_182 rfl rfl rfl rfl (Nat.le_of_ble_eq_true rfl) dX2_alikeAt_57 ⟨Nat.le_of_ble_eq_true rfl, Nat.le_of_ble_eq_true rfl⟩) (fun r18 s17 h => ?_)
        have hJ : WB x G 7 (QfI x G 0 0 Q) 0 0 s17 68 [(0, .ref (kB G + 182)), (1, .int v1), (2, .int v2), (3, .int v3), (4, .int v4), (5, .int v5), (6, .int v6)] [.int (if r16 = r18 then 1 else 0 : Int32), .int v5] := by
          refine r_iadd X dX2_alikeAt_68 ?_
          refine r_nmI (fun y20 e21 => ?_)
          replace h := h y20 e21
          refine r_istore (lv' := [(5, .int y20), (0, .ref (kB G + 182)), (1, .int v1), (2, .int v2), (3, .int v3), (4, .int v4), (6, .int v6)]) X dX2_alikeAt_69 (Nat.le_of_ble_eq_true rfl) rfl ?_
          refine r_iinc (lv' := [(6, .int (v6 + 1)), (5, .int y20), (0, .ref (kB G + 182)), (1, .int v1), (2, .int v2), (3, .int v3), (4, .int v4)]) X 6 dX2_alikeAt_71 rfl rfl (Nat.le_of_ble_eq_true rfl) rfl ?_
          refine r_goto X 23 dX2_alikeAt_74 (by decide) ?_
          refine r_sub [2, 3, 4, 5, 6, 1, 0] rfl ?_
          exact ih y20 (v6 + 1) s17 h
        refine r_ic_ne X 67 dX2_alikeAt_60 (by decide) (fun c19 => ?_) (fun c19 => ?_)
        · rw [if_neg c19] at hJ
          refine r_iconst (v := 0) X dX2_alikeAt_67 rfl ?_
          exact hJ
        · rw [if_pos c19] at hJ
          refine r_iconst (v := 1) X dX2_alikeAt_63 rfl ?_
          refine r_goto X 68 dX2_alikeAt_64 (by decide) ?_
          exact hJ
theorem tl_X2_alikeAt_5 {x : CT} {G : GT} (X : Cx x G cX2_alikeAt 7 RX2 (some .int) rm_X2_alikeAt) (hph : kP G = 1) (Q : Int32 → PS → Prop) (v1 : Int32) (v2 : Int32) : ∀ (n : Nat) (v3 : Int32) (v4 : Int32) (s : PS) (h : l_X2_alikeAt_5 G Q v1 v2 n v3 v4 s), WB x G 7 (QfI x G 0 0 Q) 0 0 s 5 [(0, .ref (kB G + 182)), (1, .int v1), (2, .int v2), (3, .int v3), (4, .int v4)] [] := by
  intro n
  induction n with
  | zero =>
    intro v3 v4 s h
    exact False.elim h
  | succ n ih =>
    intro v3 v4 s h
    unfold l_X2_alikeAt_5 at h
    refine r_iload X 4 dX2_alikeAt_5 rfl ?_
    refine r_aload_n X 0 dX2_alikeAt_7 rfl rfl ?_
    refine gr_X2_7 X hph 13 182 183 ly_182 rfl rfl dX2_alikeAt_8 ?_
    refine r_bipush (v := 6) X dX2_alikeAt_11 rfl ?_
    refine r_ialdL X hph 183 5544 ly_183 tn_6 il_6_5544 dX2_alikeAt_13 ?_
    refine r_ic_ge X 105 dX2_alikeAt_14 (by decide) (fun c1 => ?_) (fun c1 => ?_)
    · replace h := h.1 c1
      refine r_iload_n X 3 dX2_alikeAt_105 rfl rfl ?_
      exact r_iret X h (Nat.le_of_ble_eq_true rfl) (Nat.le_of_ble_eq_true rfl) dX2_alikeAt_106
    · replace h := h.2 c1
      refine r_iconst (v := 0) X dX2_alikeAt_17 rfl ?_
      refine r_istore (lv' := [(5, .int 0), (0, .ref (kB G + 182)), (1, .int v1), (2, .int v2), (3, .int v3), (4, .int v4)]) X dX2_alikeAt_18 (Nat.le_of_ble_eq_true rfl) rfl ?_
      refine r_iconst (v := 0) X dX2_alikeAt_20 rfl ?_
      refine r_istore (lv' := [(6, .int 0), (5, .int 0), (0, .ref (kB G + 182)), (1, .int v1), (2, .int v2), (3, .int v3), (4, .int v4)]) X dX2_alikeAt_21 (Nat.le_of_ble_eq_true rfl) rfl ?_
      refine r_sub [2, 3, 4, 5, 6, 1, 0] rfl ?_
      obtain ⟨n2, h⟩ := h
      exact tl_X2_alikeAt_23 X hph Q (l_X2_alikeAt_5 G Q v1 v2 n) v1 v2 v3 v4 ih n2 0 0 s h
theorem e_X2_alikeAt {x : CT} {G : GT} (X : Cx x G cX2_alikeAt 7 RX2 (some .int) rm_X2_alikeAt) (hph : kP G = 1) (p1 : Int32) (p2 : Int32) (s : PS) (Q : Int32 → PS → Prop) (h : w_X2_alikeAt G p1 p2 s Q) : WB x G 7 (QfI x G 0 0 Q) 0 0 s 0 [(0, .ref (kB G + 182)), (1, .int p1), (2, .int p2)] [] := by
  unfold w_X2_alikeAt at h
  refine r_iconst (v := 0) X dX2_alikeAt_0 rfl ?_
  refine r_istore_n (lv' := [(3, .int 0), (0, .ref (kB G + 182)), (1, .int p1), (2, .int p2)]) X dX2_alikeAt_1 rfl (Nat.le_of_ble_eq_true rfl) rfl ?_
  refine r_iconst (v := 0) X dX2_alikeAt_2 rfl ?_
  refine r_istore (lv' := [(4, .int 0), (3, .int 0), (0, .ref (kB G + 182)), (1, .int p1), (2, .int p2)]) X dX2_alikeAt_3 (Nat.le_of_ble_eq_true rfl) rfl ?_
  refine r_sub [2, 3, 4, 1, 0] rfl ?_
  obtain ⟨n1, h⟩ := h
  exact tl_X2_alikeAt_5 X hph Q p1 p2 n1 0 0 s h
theorem m_X2_alikeAt (l : Launch) (G : GT) (g : GK G) (hph : kP G = 1) (p1 : Int32) (p2 : Int32) (s : PS) (Q : Int32 → PS → Prop) (h : w_X2_alikeAt G p1 p2 s Q) : Met l yX2_alikeAt (ws_ yX2_alikeAt cX2_alikeAt 7 (some .int)) rm_X2_alikeAt (va_Pc [.ref (kB G + 182), .int p1, .int p2] (Wr G s)) (va_Qi Q (fun u t => Wr G u t) (kF G)) 0 0 (kF G) := by
  refine Met.ofW (cc := cX2_alikeAt) (maxL := 7) (ret := (some .int)) (by decide) rfl ?_
  intro p e s0 m args below meth c s₁ B hml hv
  obtain ⟨rfl, hw⟩ := hv
  exact wb_of [.ref (kB G + 182), .int p1, .int p2] (Nat.le_of_ble_eq_true rfl) hw.1 rfl (e_X2_alikeAt (cx_of g B hml rfl hw) hph p1 p2 s Q h)
theorem tl_X2_tells_14 {x : CT} {G : GT} (X : Cx x G cX2_tells 6 RX2 (some .int) rm_X2_tells) (hph : kP G = 1) (Q : Int32 → PS → Prop) (v1 : Int32) : ∀ (n : Nat) (v2 : Int32) (v3 : Int32) (v4 : Int32) (s : PS) (h : l_X2_tells_14 G Q v1 n v2 v3 v4 s), WB x G 6 (QfI x G 0 0 Q) 0 0 s 14 [(0, .ref (kB G + 182)), (1, .int v1), (2, .int v2), (3, .int v3), (4, .int v4)] [] := by
  intro n
  induction n with
  | zero =>
    intro v2 v3 v4 s h
    exact False.elim h
  | succ n ih =>
    intro v2 v3 v4 s h
    unfold l_X2_tells_14 at h
    refine r_iload X 4 dX2_tells_14 rfl ?_
    refine r_aload_n X 0 dX2_tells_16 rfl rfl ?_
    refine gr_X2_7 X hph 13 182 183 ly_182 rfl rfl dX2_tells_17 ?_
    refine r_iconst (v := 1) X dX2_tells_20 rfl ?_
    refine r_ialdL X hph 183 5544 ly_183 tn_1 il_1_5544 dX2_tells_21 ?_
    refine r_ic_ge X 59 dX2_tells_22 (by decide) (fun c1 => ?_) (fun c1 => ?_)
    · replace h := h.1 c1
      refine r_iload_n X 2 dX2_tells_59 rfl rfl ?_
      exact r_iret X h (Nat.le_of_ble_eq_true rfl) (Nat.le_of_ble_eq_true rfl) dX2_tells_60
    · replace h := h.2 c1
      refine r_iload_n X 1 dX2_tells_25 rfl rfl ?_
      refine r_if_eq X 59 dX2_tells_26 (by decide) (fun c2 => ?_) (fun c2 => ?_)
      · replace h := h.1 c2
        refine r_iload_n X 2 dX2_tells_59 rfl rfl ?_
        exact r_iret X h (Nat.le_of_ble_eq_true rfl) (Nat.le_of_ble_eq_true rfl) dX2_tells_60
      · replace h := h.2 c2
        refine r_aload_n X 0 dX2_tells_29 rfl rfl ?_
        refine r_iload X 4 dX2_tells_30 rfl ?_
        refine r_iload_n X 1 dX2_tells_32 rfl rfl ?_
        refine r_ci X (r_okVL (As := [.int v4, .int v1]) (rest := []) X (m_X2_alikeAt (xl x) G X.2.2.2.2.1 hph v4 v1 s _ h) (cl_X2_447 X ⟨(Nat.le_of_ble_eq_true rfl), (Nat.le_of_ble_eq_true rfl)⟩) hph 2 ly_182 rfl rfl rfl rfl (Nat.le_of_ble_eq_true rfl) dX2_tells_33 ⟨Nat.le_of_ble_eq_true rfl, Nat.le_of_ble_eq_true rfl⟩) (fun r4 s3 h => ?_)
        refine r_istore (lv' := [(5, .int r4), (0, .ref (kB G + 182)), (1, .int v1), (2, .int v2), (3, .int v3), (4, .int v4)]) X dX2_tells_36 (Nat.le_of_ble_eq_true rfl) rfl ?_
        refine r_iload X 0 dX2_tells_38 rfl ?_
        refine r_iload_n X 4 dX2_tells_40 rfl rfl ?_
        refine r_ic_lt X 47 dX2_tells_41 (by decide) (fun c5 => ?_) (fun c5 => ?_)
        · replace h := h.1 c5
          refine r_iload X 0 dX2_tells_47 rfl ?_
          refine r_istore_n (lv' := [(3, .int r4), (5, .int r4), (0, .ref (kB G + 182)), (1, .int v1), (2, .int v2), (4, .int v4)]) X dX2_tells_49 rfl (Nat.le_of_ble_eq_true rfl) rfl ?_
          refine r_iload X 5 dX2_tells_50 rfl ?_
          refine r_istore_n (lv' := [(2, .int v4), (3, .int r4), (5, .int r4), (0, .ref (kB G + 182)), (1, .int v1), (4, .int v4)]) X dX2_tells_52 rfl (Nat.le_of_ble_eq_true rfl) rfl ?_
          refine r_iinc (lv' := [(4, .int (v4 + 1)), (2, .int v4), (3, .int r4), (5, .int r4), (0, .ref (kB G + 182)), (1, .int v1)]) X 5 dX2_tells_53 rfl rfl (Nat.le_of_ble_eq_true rfl) rfl ?_
          refine r_goto X 14 dX2_tells_56 (by decide) ?_
          refine r_sub [4, 5, 1, 2, 0] rfl ?_
          exact ih v4 r4 (v4 + 1) s3 h
        · replace h := h.2 c5
          refine r_goto X 53 dX2_tells_44 (by decide) ?_
          refine r_iinc (lv' := [(4, .int (v4 + 1)), (5, .int r4), (0, .ref (kB G + 182)), (1, .int v1), (2, .int v2), (3, .int v3)]) X 5 dX2_tells_53 rfl rfl (Nat.le_of_ble_eq_true rfl) rfl ?_
          refine r_goto X 14 dX2_tells_56 (by decide) ?_
          refine r_sub [2, 3, 4, 5, 0] rfl ?_
          exact ih v2 v3 (v4 + 1) s3 h
theorem e_X2_tells {x : CT} {G : GT} (X : Cx x G cX2_tells 6 RX2 (some .int) rm_X2_tells) (hph : kP G = 1) (s : PS) (Q : Int32 → PS → Prop) (h : w_X2_tells G s Q) : WB x G 6 (QfI x G 0 0 Q) 0 0 s 0 [(0, .ref (kB G + 182))] [] := by
  unfold w_X2_tells at h
  refine r_aload_n X 0 dX2_tells_0 rfl rfl ?_
  refine r_ci X (r_okVL (As := []) (rest := []) X (m_X2_fit (xl x) G X.2.2.2.2.1 hph s _ h) (cl_X2_444 X ⟨(Nat.le_of_ble_eq_true rfl), (Nat.le_of_ble_eq_true rfl)⟩) hph 2 ly_182 rfl rfl rfl rfl (Nat.le_of_ble_eq_true rfl) dX2_tells_1 ⟨Nat.le_of_ble_eq_true rfl, Nat.le_of_ble_eq_true rfl⟩) (fun r2 s1 h => ?_)
  refine r_istore_n (lv' := [(1, .int r2), (0, .ref (kB G + 182))]) X dX2_tells_4 rfl (Nat.le_of_ble_eq_true rfl) rfl ?_
  refine r_iconst (v := (-1)) X dX2_tells_5 rfl ?_
  refine r_istore_n (lv' := [(2, .int (-1)), (1, .int r2), (0, .ref (kB G + 182))]) X dX2_tells_6 rfl (Nat.le_of_ble_eq_true rfl) rfl ?_
  refine r_ldc_w X q1927 dX2_tells_7 ?_
  refine r_istore_n (lv' := [(3, .int 1000000), (2, .int (-1)), (1, .int r2), (0, .ref (kB G + 182))]) X dX2_tells_10 rfl (Nat.le_of_ble_eq_true rfl) rfl ?_
  refine r_iconst (v := 0) X dX2_tells_11 rfl ?_
  refine r_istore (lv' := [(4, .int 0), (3, .int 1000000), (2, .int (-1)), (1, .int r2), (0, .ref (kB G + 182))]) X dX2_tells_12 (Nat.le_of_ble_eq_true rfl) rfl ?_
  refine r_sub [4, 3, 2, 1, 0] rfl ?_
  obtain ⟨n3, h⟩ := h
  exact tl_X2_tells_14 X hph Q r2 n3 (-1) 1000000 0 s1 h
theorem m_X2_tells (l : Launch) (G : GT) (g : GK G) (hph : kP G = 1) (s : PS) (Q : Int32 → PS → Prop) (h : w_X2_tells G s Q) : Met l yX2_tells (ws_ yX2_tells cX2_tells 6 (some .int)) rm_X2_tells (va_Pc [.ref (kB G + 182)] (Wr G s)) (va_Qi Q (fun u t => Wr G u t) (kF G)) 0 0 (kF G) := by
  refine Met.ofW (cc := cX2_tells) (maxL := 6) (ret := (some .int)) (by decide) rfl ?_
  intro p e s0 m args below meth c s₁ B hml hv
  obtain ⟨rfl, hw⟩ := hv
  exact wb_of [.ref (kB G + 182)] (Nat.le_of_ble_eq_true rfl) hw.1 rfl (e_X2_tells (cx_of g B hml rfl hw) hph s Q h)
theorem e_X2_should {x : CT} {G : GT} (X : Cx x G cX2_should 2 RX2 (some .boolean) rm_X2_should) (hph : kP G = 1) (p1 : Int32) (s : PS) (Q : Int32 → PS → Prop) (h : w_X2_should G p1 s Q) : WB x G 2 (QfI x G 0 0 (fun r u => (r = 0 ∨ r = 1) ∧ Q r u)) 0 0 s 0 [(0, .ref (kB G + 182)), (1, .int p1)] [] := by
  unfold w_X2_should at h
  refine r_aload_n X 0 dX2_should_0 rfl rfl ?_
  refine r_iload_n X 1 dX2_should_1 rfl rfl ?_
  refine r_ci X (r_okVL (As := [.int p1]) (rest := []) X (m_X2_areHearts (xl x) G X.2.2.2.2.1 hph p1 s _ h) (cl_X2_95 X ⟨(Nat.le_of_ble_eq_true rfl), (Nat.le_of_ble_eq_true rfl)⟩) hph 2 ly_182 rfl rfl rfl rfl (Nat.le_of_ble_eq_true rfl) dX2_should_2 ⟨Nat.le_of_ble_eq_true rfl, Nat.le_of_ble_eq_true rfl⟩) (fun r2 s1 h => ?_)
  obtain ⟨z3, h⟩ := h
  refine r_if_ne X 10 dX2_should_5 (by decide) (fun c4 => ?_) (fun c4 => ?_)
  · replace h := h.2 c4
    refine r_aload_n X 0 dX2_should_10 rfl rfl ?_
    refine gr_X2_7 X hph 13 182 183 ly_182 rfl rfl dX2_should_11 ?_
    refine r_bipush (v := 10) X dX2_should_14 rfl ?_
    refine r_iload_n X 1 dX2_should_16 rfl rfl ?_
    refine r_iastL X hph 183 5544 ly_183 tn_10 il_10_5544 dX2_should_17 (fun s5 e6 => ?_)
    replace h := h s5 e6
    refine r_iconst (v := 1) X dX2_should_18 rfl ?_
    exact r_zret X (Or.inr rfl) h (Nat.le_of_ble_eq_true rfl) (Nat.le_of_ble_eq_true rfl) dX2_should_19
  · replace h := h.1 c4
    refine r_iconst (v := 0) X dX2_should_8 rfl ?_
    exact r_zret X (Or.inl rfl) h (Nat.le_of_ble_eq_true rfl) (Nat.le_of_ble_eq_true rfl) dX2_should_9
theorem m_X2_should (l : Launch) (G : GT) (g : GK G) (hph : kP G = 1) (p1 : Int32) (s : PS) (Q : Int32 → PS → Prop) (h : w_X2_should G p1 s Q) : Met l yX2_should (ws_ yX2_should cX2_should 2 (some .boolean)) rm_X2_should (va_Pc [.ref (kB G + 182), .int p1] (Wr G s)) (va_Qi (fun r u => (r = 0 ∨ r = 1) ∧ Q r u) (fun u t => Wr G u t) (kF G)) 0 0 (kF G) := by
  refine Met.ofW (cc := cX2_should) (maxL := 2) (ret := (some .boolean)) (by decide) rfl ?_
  intro p e s0 m args below meth c s₁ B hml hv
  obtain ⟨rfl, hw⟩ := hv
  exact wb_of [.ref (kB G + 182), .int p1] (Nat.le_of_ble_eq_true rfl) hw.1 rfl (e_X2_should (cx_of g B hml rfl hw) hph p1 s Q h)
theorem tl_X2_featherForAll_56 {x : CT} {G : GT} (X : Cx x G cX2_featherForAll 7 RX2 (some .int) rm_X2_featherForAll) (hph : kP G = 1) (Q : Int32 → PS → Prop) (K42 : Int32 → Int32 → Int32 → PS → Prop) (v1 : Int32) (v2 : Int32) (v3 : Int32) (v4 : Int32) (hK42 : ∀ (v2' : Int32) (v3' : Int32) (v4' : Int32) (s' : PS), K42 v2' v3' v4' s' → WB x G 7 (QfI x G 0 0 Q) 0 0 s' 42 [(0, .ref (kB G + 182)), (1, .int v1), (2, .int v2'), (3, .int v3'), (4, .int v4')] []) : ∀ (n : Nat) (v5 : Int32) (v6 : Int32) (s : PS) (h : l_X2_featherForAll_56 G Q K42 v1 v2 v3 v4 n v5 v6 s), WB x G 7 (QfI x G 0 0 Q) 0 0 s 56 [(0, .ref (kB G + 182)), (1, .int v1), (2, .int v2), (3, .int v3), (4, .int v4), (5, .int v5), (6, .int v6)] [] := by
  intro n
  induction n with
  | zero =>
    intro v5 v6 s h
    exact False.elim h
  | succ n ih =>
    intro v5 v6 s h
    unfold l_X2_featherForAll_56 at h
    refine r_iload X 6 dX2_featherForAll_56 rfl ?_
    refine r_aload_n X 0 dX2_featherForAll_58 rfl rfl ?_
    refine gr_X2_7 X hph 13 182 183 ly_182 rfl rfl dX2_featherForAll_59 ?_
    refine r_iconst (v := 0) X dX2_featherForAll_62 rfl ?_
    refine r_ialdL X hph 183 5544 ly_183 tn_0 il_0_5544 dX2_featherForAll_63 ?_
    refine r_ic_ge X 115 dX2_featherForAll_64 (by decide) (fun c1 => ?_) (fun c1 => ?_)
    · replace h := h.1 c1
      refine r_iload X 5 dX2_featherForAll_115 rfl ?_
      refine r_iload_n X 3 dX2_featherForAll_117 rfl rfl ?_
      refine r_ic_lt X 124 dX2_featherForAll_118 (by decide) (fun c2 => ?_) (fun c2 => ?_)
      · replace h := h.1 c2
        refine r_iload X 5 dX2_featherForAll_124 rfl ?_
        refine r_istore_n (lv' := [(3, .int v5), (0, .ref (kB G + 182)), (1, .int v1), (2, .int v2), (4, .int v4), (5, .int v5), (6, .int v6)]) X dX2_featherForAll_126 rfl (Nat.le_of_ble_eq_true rfl) rfl ?_
        refine r_iload X 4 dX2_featherForAll_127 rfl ?_
        refine r_istore_n (lv' := [(2, .int v4), (3, .int v5), (0, .ref (kB G + 182)), (1, .int v1), (4, .int v4), (5, .int v5), (6, .int v6)]) X dX2_featherForAll_129 rfl (Nat.le_of_ble_eq_true rfl) rfl ?_
        refine r_iinc (lv' := [(4, .int (v4 + 1)), (2, .int v4), (3, .int v5), (0, .ref (kB G + 182)), (1, .int v1), (5, .int v5), (6, .int v6)]) X 4 dX2_featherForAll_130 rfl rfl (Nat.le_of_ble_eq_true rfl) rfl ?_
        refine r_goto X 42 dX2_featherForAll_133 (by decide) ?_
        refine r_sub [3, 4, 1, 2, 0] rfl ?_
        exact hK42 v4 v5 (v4 + 1) s h
      · replace h := h.2 c2
        refine r_goto X 130 dX2_featherForAll_121 (by decide) ?_
        refine r_iinc (lv' := [(4, .int (v4 + 1)), (0, .ref (kB G + 182)), (1, .int v1), (2, .int v2), (3, .int v3), (5, .int v5), (6, .int v6)]) X 4 dX2_featherForAll_130 rfl rfl (Nat.le_of_ble_eq_true rfl) rfl ?_
        refine r_goto X 42 dX2_featherForAll_133 (by decide) ?_
        refine r_sub [1, 2, 3, 4, 0] rfl ?_
        exact hK42 v2 v3 (v4 + 1) s h
    · replace h := h.2 c1
      refine r_iload X 5 dX2_featherForAll_67 rfl ?_
      refine r_aload_n X 0 dX2_featherForAll_69 rfl rfl ?_
      refine gr_X2_70 X hph 13 182 200 ly_182 rfl rfl dX2_featherForAll_70 ?_
      refine r_iload X 6 dX2_featherForAll_73 rfl ?_
      obtain ⟨g3, h⟩ := h
      refine r_ialdL X hph 200 6 ly_200 rfl g3 dX2_featherForAll_75 ?_
      refine r_iload X 4 dX2_featherForAll_76 rfl ?_
      have hJ : WB x G 7 (QfI x G 0 0 Q) 0 0 s 86 [(0, .ref (kB G + 182)), (1, .int v1), (2, .int v2), (3, .int v3), (4, .int v4), (5, .int v5), (6, .int v6)] [.int (if (gI s (kB G + 200) v6.toNatClampNeg) ≤ v4 then 0 else 1 : Int32), .int v5] := by
        refine r_aload_n X 0 dX2_featherForAll_86 rfl rfl ?_
        refine gr_X2_7 X hph 13 182 183 ly_182 rfl rfl dX2_featherForAll_87 ?_
        refine r_bipush (v := 10) X dX2_featherForAll_90 rfl ?_
        refine r_ialdL X hph 183 5544 ly_183 tn_10 il_10_5544 dX2_featherForAll_92 ?_
        refine r_iload X 6 dX2_featherForAll_93 rfl ?_
        refine r_ci X (r_okS (As := [.int (gI s (kB G + 183) 10), .int v6]) (rest := [.int (if (gI s (kB G + 200) v6.toNatClampNeg) ≤ v4 then 0 else 1 : Int32), .int v5]) X (m_X2_has (xl x) G X.2.2.2.2.1 (gI s (kB G + 183) 10) v6 s _ h) (cl_X2_224 X ⟨(Nat.le_of_ble_eq_true rfl), (Nat.le_of_ble_eq_true rfl)⟩) rfl rfl (Nat.le_of_ble_eq_true rfl) dX2_featherForAll_95 ⟨Nat.le_of_ble_eq_true rfl, Nat.le_of_ble_eq_true rfl⟩) (fun r6 s5 h => ?_)
        obtain ⟨z7, h⟩ := h
        have hJ : WB x G 7 (QfI x G 0 0 Q) 0 0 s5 106 [(0, .ref (kB G + 182)), (1, .int v1), (2, .int v2), (3, .int v3), (4, .int v4), (5, .int v5), (6, .int v6)] [.int (if (if (gI s (kB G + 200) v6.toNatClampNeg) ≤ v4 then 0 else 1 : Int32) = r6 then 1 else 0 : Int32), .int v5] := by
          refine r_iadd X dX2_featherForAll_106 ?_
          refine r_nmI (fun y9 e10 => ?_)
          replace h := h y9 e10
          refine r_istore (lv' := [(5, .int y9), (0, .ref (kB G + 182)), (1, .int v1), (2, .int v2), (3, .int v3), (4, .int v4), (6, .int v6)]) X dX2_featherForAll_107 (Nat.le_of_ble_eq_true rfl) rfl ?_
          refine r_iinc (lv' := [(6, .int (v6 + 1)), (5, .int y9), (0, .ref (kB G + 182)), (1, .int v1), (2, .int v2), (3, .int v3), (4, .int v4)]) X 6 dX2_featherForAll_109 rfl rfl (Nat.le_of_ble_eq_true rfl) rfl ?_
          refine r_goto X 56 dX2_featherForAll_112 (by decide) ?_
          refine r_sub [2, 3, 4, 5, 6, 1, 0] rfl ?_
          exact ih y9 (v6 + 1) s5 h
        refine r_ic_ne X 105 dX2_featherForAll_98 (by decide) (fun c8 => ?_) (fun c8 => ?_)
        · rw [if_neg c8] at hJ
          refine r_iconst (v := 0) X dX2_featherForAll_105 rfl ?_
          exact hJ
        · rw [if_pos c8] at hJ
          refine r_iconst (v := 1) X dX2_featherForAll_101 rfl ?_
          refine r_goto X 106 dX2_featherForAll_102 (by decide) ?_
          exact hJ
      refine r_ic_le X 85 dX2_featherForAll_78 (by decide) (fun c4 => ?_) (fun c4 => ?_)
      · rw [if_pos c4] at hJ
        refine r_iconst (v := 0) X dX2_featherForAll_85 rfl ?_
        exact hJ
      · rw [if_neg c4] at hJ
        refine r_iconst (v := 1) X dX2_featherForAll_81 rfl ?_
        refine r_goto X 86 dX2_featherForAll_82 (by decide) ?_
        exact hJ
theorem tl_X2_featherForAll_42 {x : CT} {G : GT} (X : Cx x G cX2_featherForAll 7 RX2 (some .int) rm_X2_featherForAll) (hph : kP G = 1) (Q : Int32 → PS → Prop) (v1 : Int32) : ∀ (n : Nat) (v2 : Int32) (v3 : Int32) (v4 : Int32) (s : PS) (h : l_X2_featherForAll_42 G Q v1 n v2 v3 v4 s), WB x G 7 (QfI x G 0 0 Q) 0 0 s 42 [(0, .ref (kB G + 182)), (1, .int v1), (2, .int v2), (3, .int v3), (4, .int v4)] [] := by
  intro n
  induction n with
  | zero =>
    intro v2 v3 v4 s h
    exact False.elim h
  | succ n ih =>
    intro v2 v3 v4 s h
    unfold l_X2_featherForAll_42 at h
    refine r_iload X 4 dX2_featherForAll_42 rfl ?_
    refine r_sipush (v := 1000) X dX2_featherForAll_44 rfl ?_
    refine r_ic_ge X 136 dX2_featherForAll_47 (by decide) (fun c1 => ?_) (fun c1 => ?_)
    · replace h := h.1 c1
      refine r_iload_n X 1 dX2_featherForAll_136 rfl rfl ?_
      have hJ : WB x G 7 (QfI x G 0 0 Q) 0 0 s 145 [(0, .ref (kB G + 182)), (1, .int v1), (2, .int v2), (3, .int v3), (4, .int v4)] [.int (if v1 = 0 then v2 else v3 : Int32)] := by
        exact r_iret X h (Nat.le_of_ble_eq_true rfl) (Nat.le_of_ble_eq_true rfl) dX2_featherForAll_145
      refine r_if_eq X 144 dX2_featherForAll_137 (by decide) (fun c2 => ?_) (fun c2 => ?_)
      · rw [if_pos c2] at hJ
        refine r_iload_n X 2 dX2_featherForAll_144 rfl rfl ?_
        exact hJ
      · rw [if_neg c2] at hJ
        refine r_iload_n X 3 dX2_featherForAll_140 rfl rfl ?_
        refine r_goto X 145 dX2_featherForAll_141 (by decide) ?_
        exact hJ
    · replace h := h.2 c1
      refine r_iconst (v := 0) X dX2_featherForAll_50 rfl ?_
      refine r_istore (lv' := [(5, .int 0), (0, .ref (kB G + 182)), (1, .int v1), (2, .int v2), (3, .int v3), (4, .int v4)]) X dX2_featherForAll_51 (Nat.le_of_ble_eq_true rfl) rfl ?_
      refine r_iconst (v := 0) X dX2_featherForAll_53 rfl ?_
      refine r_istore (lv' := [(6, .int 0), (5, .int 0), (0, .ref (kB G + 182)), (1, .int v1), (2, .int v2), (3, .int v3), (4, .int v4)]) X dX2_featherForAll_54 (Nat.le_of_ble_eq_true rfl) rfl ?_
      refine r_sub [2, 3, 4, 5, 6, 1, 0] rfl ?_
      obtain ⟨n3, h⟩ := h
      exact tl_X2_featherForAll_56 X hph Q (l_X2_featherForAll_42 G Q v1 n) v1 v2 v3 v4 ih n3 0 0 s h
theorem tl_X2_featherForAll_9 {x : CT} {G : GT} (X : Cx x G cX2_featherForAll 7 RX2 (some .int) rm_X2_featherForAll) (hph : kP G = 1) (Q : Int32 → PS → Prop) (v1 : Int32) (v2 : Int32) (v3 : Int32) : ∀ (n : Nat) (v4 : Int32) (s : PS) (h : l_X2_featherForAll_9 G Q v1 v2 v3 n v4 s), WB x G 7 (QfI x G 0 0 Q) 0 0 s 9 [(0, .ref (kB G + 182)), (1, .int v1), (2, .int v2), (3, .int v3), (4, .int v4)] [] := by
  intro n
  induction n with
  | zero =>
    intro v4 s h
    exact False.elim h
  | succ n ih =>
    intro v4 s h
    unfold l_X2_featherForAll_9 at h
    refine r_iload X 4 dX2_featherForAll_9 rfl ?_
    refine r_aload_n X 0 dX2_featherForAll_11 rfl rfl ?_
    refine gr_X2_7 X hph 13 182 183 ly_182 rfl rfl dX2_featherForAll_12 ?_
    refine r_iconst (v := 0) X dX2_featherForAll_15 rfl ?_
    refine r_ialdL X hph 183 5544 ly_183 tn_0 il_0_5544 dX2_featherForAll_16 ?_
    refine r_ic_ge X 39 dX2_featherForAll_17 (by decide) (fun c1 => ?_) (fun c1 => ?_)
    · replace h := h.1 c1
      refine r_iconst (v := 0) X dX2_featherForAll_39 rfl ?_
      refine r_istore (lv' := [(4, .int 0), (0, .ref (kB G + 182)), (1, .int v1), (2, .int v2), (3, .int v3)]) X dX2_featherForAll_40 (Nat.le_of_ble_eq_true rfl) rfl ?_
      refine r_sub [1, 2, 3, 4, 0] rfl ?_
      obtain ⟨n2, h⟩ := h
      exact tl_X2_featherForAll_42 X hph Q v1 n2 v2 v3 0 s h
    · replace h := h.2 c1
      refine r_aload_n X 0 dX2_featherForAll_20 rfl rfl ?_
      refine gr_X2_70 X hph 13 182 200 ly_182 rfl rfl dX2_featherForAll_21 ?_
      refine r_iload X 4 dX2_featherForAll_24 rfl ?_
      refine r_aload_n X 0 dX2_featherForAll_26 rfl rfl ?_
      refine r_iload X 4 dX2_featherForAll_27 rfl ?_
      refine r_ci X (r_okVL (As := [.int v4]) (rest := [.int v4, .ref (kB G + 200)]) X (m_X2_burdenOf (xl x) G X.2.2.2.2.1 hph v4 s _ h) (cl_X2_379 X ⟨(Nat.le_of_ble_eq_true rfl), (Nat.le_of_ble_eq_true rfl)⟩) hph 2 ly_182 rfl rfl rfl rfl (Nat.le_of_ble_eq_true rfl) dX2_featherForAll_29 ⟨Nat.le_of_ble_eq_true rfl, Nat.le_of_ble_eq_true rfl⟩) (fun r4 s3 h => ?_)
      obtain ⟨g5, h⟩ := h
      refine r_iastL X hph 200 6 ly_200 rfl g5 dX2_featherForAll_32 (fun s6 e7 => ?_)
      replace h := h s6 e7
      refine r_iinc (lv' := [(4, .int (v4 + 1)), (0, .ref (kB G + 182)), (1, .int v1), (2, .int v2), (3, .int v3)]) X 4 dX2_featherForAll_33 rfl rfl (Nat.le_of_ble_eq_true rfl) rfl ?_
      refine r_goto X 9 dX2_featherForAll_36 (by decide) ?_
      refine r_sub [1, 2, 3, 4, 0] rfl ?_
      exact ih (v4 + 1) s6 h
theorem e_X2_featherForAll {x : CT} {G : GT} (X : Cx x G cX2_featherForAll 7 RX2 (some .int) rm_X2_featherForAll) (hph : kP G = 1) (p1 : Int32) (s : PS) (Q : Int32 → PS → Prop) (h : w_X2_featherForAll G p1 s Q) : WB x G 7 (QfI x G 0 0 Q) 0 0 s 0 [(0, .ref (kB G + 182)), (1, .int p1)] [] := by
  unfold w_X2_featherForAll at h
  refine r_iconst (v := 0) X dX2_featherForAll_0 rfl ?_
  refine r_istore_n (lv' := [(2, .int 0), (0, .ref (kB G + 182)), (1, .int p1)]) X dX2_featherForAll_1 rfl (Nat.le_of_ble_eq_true rfl) rfl ?_
  refine r_ldc_w X q1927 dX2_featherForAll_2 ?_
  refine r_istore_n (lv' := [(3, .int 1000000), (2, .int 0), (0, .ref (kB G + 182)), (1, .int p1)]) X dX2_featherForAll_5 rfl (Nat.le_of_ble_eq_true rfl) rfl ?_
  refine r_iconst (v := 0) X dX2_featherForAll_6 rfl ?_
  refine r_istore (lv' := [(4, .int 0), (3, .int 1000000), (2, .int 0), (0, .ref (kB G + 182)), (1, .int p1)]) X dX2_featherForAll_7 (Nat.le_of_ble_eq_true rfl) rfl ?_
  refine r_sub [3, 4, 2, 1, 0] rfl ?_
  obtain ⟨n1, h⟩ := h
  exact tl_X2_featherForAll_9 X hph Q p1 0 1000000 n1 0 s h
theorem m_X2_featherForAll (l : Launch) (G : GT) (g : GK G) (hph : kP G = 1) (p1 : Int32) (s : PS) (Q : Int32 → PS → Prop) (h : w_X2_featherForAll G p1 s Q) : Met l yX2_featherForAll (ws_ yX2_featherForAll cX2_featherForAll 7 (some .int)) rm_X2_featherForAll (va_Pc [.ref (kB G + 182), .int p1] (Wr G s)) (va_Qi Q (fun u t => Wr G u t) (kF G)) 0 0 (kF G) := by
  refine Met.ofW (cc := cX2_featherForAll) (maxL := 7) (ret := (some .int)) (by decide) rfl ?_
  intro p e s0 m args below meth c s₁ B hml hv
  obtain ⟨rfl, hw⟩ := hv
  exact wb_of [.ref (kB G + 182), .int p1] (Nat.le_of_ble_eq_true rfl) hw.1 rfl (e_X2_featherForAll (cx_of g B hml rfl hw) hph p1 s Q h)
theorem e_X2_isOdd {x : CT} {G : GT} (X : Cx x G cX2_isOdd 1 RX2 (some .boolean) rm_X2_isOdd) (p1 : Int32) (s : PS) (Q : Int32 → PS → Prop) (h : w_X2_isOdd G p1 s Q) : WB x G 1 (QfI x G 0 0 (fun r u => (r = 0 ∨ r = 1) ∧ Q r u)) 0 0 s 0 [(0, .int p1)] [] := by
  unfold w_X2_isOdd at h
  refine r_iload_n X 0 dX2_isOdd_0 rfl rfl ?_
  refine r_iconst (v := 1) X dX2_isOdd_1 rfl ?_
  refine r_bipush (v := 15) X dX2_isOdd_2 rfl ?_
  refine r_ci X (r_okS (As := [.int p1, .int 1, .int 15]) (rest := []) X (m_X2_isIn (xl x) G X.2.2.2.2.1 p1 1 15 s _ h) (cl_X2_80 X ⟨(Nat.le_of_ble_eq_true rfl), (Nat.le_of_ble_eq_true rfl)⟩) rfl rfl (Nat.le_of_ble_eq_true rfl) dX2_isOdd_4 ⟨Nat.le_of_ble_eq_true rfl, Nat.le_of_ble_eq_true rfl⟩) (fun r2 s1 h => ?_)
  obtain ⟨z3, h⟩ := h
  refine r_if_eq X 21 dX2_isOdd_7 (by decide) (fun c4 => ?_) (fun c4 => ?_)
  · replace h := h.1 c4
    refine r_iconst (v := 0) X dX2_isOdd_21 rfl ?_
    exact r_zret X (Or.inl rfl) h (Nat.le_of_ble_eq_true rfl) (Nat.le_of_ble_eq_true rfl) dX2_isOdd_22
  · replace h := h.2 c4
    refine r_iload_n X 0 dX2_isOdd_10 rfl rfl ?_
    refine r_iconst (v := 2) X dX2_isOdd_11 rfl ?_
    refine r_irem X dX2_isOdd_12 (by decide) ?_
    refine r_iconst (v := 1) X dX2_isOdd_13 rfl ?_
    have hJ : WB x G 1 (QfI x G 0 0 (fun r u => (r = 0 ∨ r = 1) ∧ Q r u)) 0 0 s1 22 [(0, .int p1)] [.int (if (p1 - p1 / 2 * 2) = 1 then 1 else 0 : Int32)] := by
      exact r_zret X (by (repeat' split) <;> first | exact Or.inl rfl | exact Or.inr rfl) h (Nat.le_of_ble_eq_true rfl) (Nat.le_of_ble_eq_true rfl) dX2_isOdd_22
    refine r_ic_ne X 21 dX2_isOdd_14 (by decide) (fun c5 => ?_) (fun c5 => ?_)
    · rw [if_neg c5] at hJ
      refine r_iconst (v := 0) X dX2_isOdd_21 rfl ?_
      exact hJ
    · rw [if_pos c5] at hJ
      refine r_iconst (v := 1) X dX2_isOdd_17 rfl ?_
      refine r_goto X 22 dX2_isOdd_18 (by decide) ?_
      exact hJ
theorem m_X2_isOdd (l : Launch) (G : GT) (g : GK G) (p1 : Int32) (s : PS) (Q : Int32 → PS → Prop) (h : w_X2_isOdd G p1 s Q) : Met l yX2_isOdd (ws_ yX2_isOdd cX2_isOdd 1 (some .boolean)) rm_X2_isOdd (va_Pc [.int p1] (Wr G s)) (va_Qi (fun r u => (r = 0 ∨ r = 1) ∧ Q r u) (fun u t => Wr G u t) (kF G)) 0 0 (kF G) := by
  refine Met.ofW (cc := cX2_isOdd) (maxL := 1) (ret := (some .boolean)) (by decide) rfl ?_
  intro p e s0 m args below meth c s₁ B hml hv
  obtain ⟨rfl, hw⟩ := hv
  exact wb_of [.int p1] (Nat.le_of_ble_eq_true rfl) hw.1 rfl (e_X2_isOdd (cx_of g B hml rfl hw) p1 s Q h)
theorem tl_X2_rightWays_41 {x : CT} {G : GT} (X : Cx x G cX2_rightWays 6 RX2 (some .long) rm_X2_rightWays) (hph : kP G = 1) (Q : Int64 → PS → Prop) (K31 : Int32 → PS → Prop) (v1 : Int32) (v2 : Int32) (v3 : Int32) (hK31 : ∀ (v3' : Int32) (s' : PS), K31 v3' s' → WB x G 6 (QfL x G 0 0 Q) 0 0 s' 31 [(0, .ref (kB G + 182)), (1, .int v1), (2, .int v2), (3, .int v3')] []) : ∀ (n : Nat) (v4 : Int32) (s : PS) (h : l_X2_rightWays_41 G Q K31 v1 v2 v3 n v4 s), WB x G 6 (QfL x G 0 0 Q) 0 0 s 41 [(0, .ref (kB G + 182)), (1, .int v1), (2, .int v2), (3, .int v3), (4, .int v4)] [] := by
  intro n
  induction n with
  | zero =>
    intro v4 s h
    exact False.elim h
  | succ n ih =>
    intro v4 s h
    unfold l_X2_rightWays_41 at h
    refine r_iload X 4 dX2_rightWays_41 rfl ?_
    refine r_if_le X 85 dX2_rightWays_43 (by decide) (fun c1 => ?_) (fun c1 => ?_)
    · replace h := h.1 c1
      refine r_aload_n X 0 dX2_rightWays_85 rfl rfl ?_
      refine gr_X2_73 X hph 13 182 201 ly_182 rfl rfl dX2_rightWays_86 ?_
      refine r_iconst (v := 0) X dX2_rightWays_89 rfl ?_
      refine r_dup2 X dX2_rightWays_90 rfl rfl ?_
      refine r_laldL X hph 201 17 ly_201 tn_0 il_0_17 dX2_rightWays_91 ?_
      refine r_iload_n X 1 dX2_rightWays_92 rfl rfl ?_
      refine r_i2l X dX2_rightWays_93 ?_
      refine r_lmul X dX2_rightWays_94 ?_
      refine r_lastL X hph 201 17 ly_201 tn_0 il_0_17 dX2_rightWays_95 (fun s2 e3 => ?_)
      replace h := h s2 e3
      refine r_iinc (lv' := [(3, .int (v3 + 1)), (0, .ref (kB G + 182)), (1, .int v1), (2, .int v2), (4, .int v4)]) X 3 dX2_rightWays_96 rfl rfl (Nat.le_of_ble_eq_true rfl) rfl ?_
      refine r_goto X 31 dX2_rightWays_99 (by decide) ?_
      refine r_sub [1, 2, 3, 0] rfl ?_
      exact hK31 (v3 + 1) s2 h
    · replace h := h.2 c1
      refine r_aload_n X 0 dX2_rightWays_46 rfl rfl ?_
      refine gr_X2_73 X hph 13 182 201 ly_182 rfl rfl dX2_rightWays_47 ?_
      refine r_iload X 4 dX2_rightWays_50 rfl ?_
      refine r_aload_n X 0 dX2_rightWays_52 rfl rfl ?_
      refine gr_X2_73 X hph 13 182 201 ly_182 rfl rfl dX2_rightWays_53 ?_
      refine r_iload X 4 dX2_rightWays_56 rfl ?_
      obtain ⟨g4, h⟩ := h
      refine r_laldL X hph 201 17 ly_201 rfl g4 dX2_rightWays_58 ?_
      refine r_iload_n X 1 dX2_rightWays_59 rfl rfl ?_
      refine r_i2l X dX2_rightWays_60 ?_
      refine r_lmul X dX2_rightWays_61 ?_
      refine r_aload_n X 0 dX2_rightWays_62 rfl rfl ?_
      refine gr_X2_73 X hph 13 182 201 ly_182 rfl rfl dX2_rightWays_63 ?_
      refine r_iload X 4 dX2_rightWays_66 rfl ?_
      refine r_iconst (v := 1) X dX2_rightWays_68 rfl ?_
      refine r_isub X dX2_rightWays_69 ?_
      obtain ⟨g5, h⟩ := h
      refine r_laldL X hph 201 17 ly_201 rfl g5 dX2_rightWays_70 ?_
      refine r_bipush (v := 10) X dX2_rightWays_71 rfl ?_
      refine r_iload_n X 1 dX2_rightWays_73 rfl rfl ?_
      refine r_isub X dX2_rightWays_74 ?_
      refine r_i2l X dX2_rightWays_75 ?_
      refine r_lmul X dX2_rightWays_76 ?_
      refine r_ladd X dX2_rightWays_77 ?_
      refine r_lastL X hph 201 17 ly_201 rfl g4 dX2_rightWays_78 (fun s6 e7 => ?_)
      replace h := h s6 e7
      refine r_iinc (lv' := [(4, .int (v4 + (-1))), (0, .ref (kB G + 182)), (1, .int v1), (2, .int v2), (3, .int v3)]) X 4 dX2_rightWays_79 rfl rfl (Nat.le_of_ble_eq_true rfl) rfl ?_
      refine r_goto X 41 dX2_rightWays_82 (by decide) ?_
      refine r_sub [1, 2, 3, 4, 0] rfl ?_
      exact ih (v4 + (-1)) s6 h
theorem tl_X2_rightWays_111 {x : CT} {G : GT} (X : Cx x G cX2_rightWays 6 RX2 (some .long) rm_X2_rightWays) (hph : kP G = 1) (Q : Int64 → PS → Prop) : ∀ (n : Nat) (v3 : Int64) (v5 : Int32) (s : PS) (h : l_X2_rightWays_111 G Q n v3 v5 s), WB x G 6 (QfL x G 0 0 Q) 0 0 s 111 [(0, .ref (kB G + 182)), (3, .long v3), (5, .int v5)] [] := by
  intro n
  induction n with
  | zero =>
    intro v3 v5 s h
    exact False.elim h
  | succ n ih =>
    intro v3 v5 s h
    unfold l_X2_rightWays_111 at h
    refine r_iload X 2 dX2_rightWays_111 rfl ?_
    refine r_bipush (v := 17) X dX2_rightWays_113 rfl ?_
    refine r_ic_ge X 134 dX2_rightWays_115 (by decide) (fun c1 => ?_) (fun c1 => ?_)
    · replace h := h.1 c1
      refine r_lload_n X 1 dX2_rightWays_134 rfl rfl ?_
      exact r_lret X h (Nat.le_of_ble_eq_true rfl) (Nat.le_of_ble_eq_true rfl) dX2_rightWays_135
    · replace h := h.2 c1
      refine r_lload_n X 1 dX2_rightWays_118 rfl rfl ?_
      refine r_aload_n X 0 dX2_rightWays_119 rfl rfl ?_
      refine gr_X2_73 X hph 13 182 201 ly_182 rfl rfl dX2_rightWays_120 ?_
      refine r_iload X 2 dX2_rightWays_123 rfl ?_
      obtain ⟨g2, h⟩ := h
      refine r_laldL X hph 201 17 ly_201 rfl g2 dX2_rightWays_125 ?_
      refine r_ladd X dX2_rightWays_126 ?_
      refine r_nmL (fun y3 e4 => ?_)
      replace h := h y3 e4
      refine r_lstore_n (lv' := [(3, .long y3), (0, .ref (kB G + 182)), (5, .int v5)]) X dX2_rightWays_127 rfl (Nat.le_of_ble_eq_true rfl) rfl ?_
      refine r_iinc (lv' := [(5, .int (v5 + 1)), (3, .long y3), (0, .ref (kB G + 182))]) X 2 dX2_rightWays_128 rfl rfl (Nat.le_of_ble_eq_true rfl) rfl ?_
      refine r_goto X 111 dX2_rightWays_131 (by decide) ?_
      refine r_sub [2, 1, 0] rfl ?_
      exact ih y3 (v5 + 1) s h
theorem tl_X2_rightWays_31 {x : CT} {G : GT} (X : Cx x G cX2_rightWays 6 RX2 (some .long) rm_X2_rightWays) (hph : kP G = 1) (Q : Int64 → PS → Prop) (v1 : Int32) (v2 : Int32) : ∀ (n : Nat) (v3 : Int32) (s : PS) (h : l_X2_rightWays_31 G Q v1 v2 n v3 s), WB x G 6 (QfL x G 0 0 Q) 0 0 s 31 [(0, .ref (kB G + 182)), (1, .int v1), (2, .int v2), (3, .int v3)] [] := by
  intro n
  induction n with
  | zero =>
    intro v3 s h
    exact False.elim h
  | succ n ih =>
    intro v3 s h
    unfold l_X2_rightWays_31 at h
    refine r_iload_n X 3 dX2_rightWays_31 rfl rfl ?_
    refine r_iload_n X 2 dX2_rightWays_32 rfl rfl ?_
    refine r_ic_ge X 102 dX2_rightWays_33 (by decide) (fun c1 => ?_) (fun c1 => ?_)
    · replace h := h.1 c1
      refine r_lconst (v := 0) X dX2_rightWays_102 rfl ?_
      refine r_lstore_n (lv' := [(3, .long 0), (0, .ref (kB G + 182)), (1, .int v1), (2, .int v2)]) X dX2_rightWays_103 rfl (Nat.le_of_ble_eq_true rfl) rfl ?_
      refine r_iload_n X 3 dX2_rightWays_104 rfl rfl ?_
      refine r_iconst (v := 2) X dX2_rightWays_105 rfl ?_
      refine r_idiv X dX2_rightWays_106 (by decide) ?_
      refine r_iconst (v := 1) X dX2_rightWays_107 rfl ?_
      refine r_iadd X dX2_rightWays_108 ?_
      refine r_nmI (fun y2 e3 => ?_)
      replace h := h y2 e3
      refine r_istore (lv' := [(5, .int y2), (3, .long 0), (0, .ref (kB G + 182)), (1, .int v1), (2, .int v2)]) X dX2_rightWays_109 (Nat.le_of_ble_eq_true rfl) rfl ?_
      refine r_sub [2, 1, 0] rfl ?_
      obtain ⟨n4, h⟩ := h
      exact tl_X2_rightWays_111 X hph Q n4 0 y2 s h
    · replace h := h.2 c1
      refine r_iload_n X 3 dX2_rightWays_36 rfl rfl ?_
      refine r_iconst (v := 1) X dX2_rightWays_37 rfl ?_
      refine r_iadd X dX2_rightWays_38 ?_
      refine r_nmI (fun y5 e6 => ?_)
      replace h := h y5 e6
      refine r_istore (lv' := [(4, .int y5), (0, .ref (kB G + 182)), (1, .int v1), (2, .int v2), (3, .int v3)]) X dX2_rightWays_39 (Nat.le_of_ble_eq_true rfl) rfl ?_
      refine r_sub [1, 2, 3, 4, 0] rfl ?_
      obtain ⟨n7, h⟩ := h
      exact tl_X2_rightWays_41 X hph Q (l_X2_rightWays_31 G Q v1 v2 n) v1 v2 v3 ih n7 y5 s h
theorem tl_X2_rightWays_2 {x : CT} {G : GT} (X : Cx x G cX2_rightWays 6 RX2 (some .long) rm_X2_rightWays) (hph : kP G = 1) (Q : Int64 → PS → Prop) (v1 : Int32) (v2 : Int32) : ∀ (n : Nat) (v3 : Int32) (s : PS) (h : l_X2_rightWays_2 G Q v1 v2 n v3 s), WB x G 6 (QfL x G 0 0 Q) 0 0 s 2 [(0, .ref (kB G + 182)), (1, .int v1), (2, .int v2), (3, .int v3)] [] := by
  intro n
  induction n with
  | zero =>
    intro v3 s h
    exact False.elim h
  | succ n ih =>
    intro v3 s h
    unfold l_X2_rightWays_2 at h
    refine r_iload_n X 3 dX2_rightWays_2 rfl rfl ?_
    refine r_bipush (v := 17) X dX2_rightWays_3 rfl ?_
    refine r_ic_ge X 29 dX2_rightWays_5 (by decide) (fun c1 => ?_) (fun c1 => ?_)
    · replace h := h.1 c1
      refine r_iconst (v := 0) X dX2_rightWays_29 rfl ?_
      refine r_istore_n (lv' := [(3, .int 0), (0, .ref (kB G + 182)), (1, .int v1), (2, .int v2)]) X dX2_rightWays_30 rfl (Nat.le_of_ble_eq_true rfl) rfl ?_
      refine r_sub [1, 2, 3, 0] rfl ?_
      obtain ⟨n2, h⟩ := h
      exact tl_X2_rightWays_31 X hph Q v1 v2 n2 0 s h
    · replace h := h.2 c1
      refine r_aload_n X 0 dX2_rightWays_8 rfl rfl ?_
      refine gr_X2_73 X hph 13 182 201 ly_182 rfl rfl dX2_rightWays_9 ?_
      refine r_iload_n X 3 dX2_rightWays_12 rfl rfl ?_
      refine r_iload_n X 3 dX2_rightWays_13 rfl rfl ?_
      have hJ : WB x G 6 (QfL x G 0 0 Q) 0 0 s 22 [(0, .ref (kB G + 182)), (1, .int v1), (2, .int v2), (3, .int v3)] [.long (if v3 = 0 then 1 else 0 : Int64), .int v3, .ref (kB G + 201)] := by
        obtain ⟨g4, h⟩ := h
        refine r_lastL X hph 201 17 ly_201 rfl g4 dX2_rightWays_22 (fun s5 e6 => ?_)
        replace h := h s5 e6
        refine r_iinc (lv' := [(3, .int (v3 + 1)), (0, .ref (kB G + 182)), (1, .int v1), (2, .int v2)]) X 3 dX2_rightWays_23 rfl rfl (Nat.le_of_ble_eq_true rfl) rfl ?_
        refine r_goto X 2 dX2_rightWays_26 (by decide) ?_
        refine r_sub [1, 2, 3, 0] rfl ?_
        exact ih (v3 + 1) s5 h
      refine r_if_ne X 21 dX2_rightWays_14 (by decide) (fun c3 => ?_) (fun c3 => ?_)
      · rw [if_neg c3] at hJ
        refine r_lconst (v := 0) X dX2_rightWays_21 rfl ?_
        exact hJ
      · rw [if_pos c3] at hJ
        refine r_lconst (v := 1) X dX2_rightWays_17 rfl ?_
        refine r_goto X 22 dX2_rightWays_18 (by decide) ?_
        exact hJ
theorem e_X2_rightWays {x : CT} {G : GT} (X : Cx x G cX2_rightWays 6 RX2 (some .long) rm_X2_rightWays) (hph : kP G = 1) (p1 : Int32) (p2 : Int32) (s : PS) (Q : Int64 → PS → Prop) (h : w_X2_rightWays G p1 p2 s Q) : WB x G 6 (QfL x G 0 0 Q) 0 0 s 0 [(0, .ref (kB G + 182)), (1, .int p1), (2, .int p2)] [] := by
  unfold w_X2_rightWays at h
  refine r_iconst (v := 0) X dX2_rightWays_0 rfl ?_
  refine r_istore_n (lv' := [(3, .int 0), (0, .ref (kB G + 182)), (1, .int p1), (2, .int p2)]) X dX2_rightWays_1 rfl (Nat.le_of_ble_eq_true rfl) rfl ?_
  refine r_sub [1, 2, 3, 0] rfl ?_
  obtain ⟨n1, h⟩ := h
  exact tl_X2_rightWays_2 X hph Q p1 p2 n1 0 s h
theorem m_X2_rightWays (l : Launch) (G : GT) (g : GK G) (hph : kP G = 1) (p1 : Int32) (p2 : Int32) (s : PS) (Q : Int64 → PS → Prop) (h : w_X2_rightWays G p1 p2 s Q) : Met l yX2_rightWays (ws_ yX2_rightWays cX2_rightWays 6 (some .long)) rm_X2_rightWays (va_Pc [.ref (kB G + 182), .int p1, .int p2] (Wr G s)) (va_Ql Q (fun u t => Wr G u t) (kF G)) 0 0 (kF G) := by
  refine Met.ofW (cc := cX2_rightWays) (maxL := 6) (ret := (some .long)) (by decide) rfl ?_
  intro p e s0 m args below meth c s₁ B hml hv
  obtain ⟨rfl, hw⟩ := hv
  exact wb_of [.ref (kB G + 182), .int p1, .int p2] (Nat.le_of_ble_eq_true rfl) hw.1 rfl (e_X2_rightWays (cx_of g B hml rfl hw) hph p1 p2 s Q h)
theorem tl_X2_tenTo_4 {x : CT} {G : GT} (X : Cx x G cX2_tenTo 4 RX2 (some .long) rm_X2_tenTo) (Q : Int64 → PS → Prop) (v0 : Int32) : ∀ (n : Nat) (v1 : Int64) (v3 : Int32) (s : PS) (h : l_X2_tenTo_4 G Q v0 n v1 v3 s), WB x G 4 (QfL x G 0 0 Q) 0 0 s 4 [(0, .int v0), (1, .long v1), (3, .int v3)] [] := by
  intro n
  induction n with
  | zero =>
    intro v1 v3 s h
    exact False.elim h
  | succ n ih =>
    intro v1 v3 s h
    unfold l_X2_tenTo_4 at h
    refine r_iload_n X 2 dX2_tenTo_4 rfl rfl ?_
    refine r_iload_n X 0 dX2_tenTo_5 rfl rfl ?_
    refine r_ic_ge X 21 dX2_tenTo_6 (by decide) (fun c1 => ?_) (fun c1 => ?_)
    · replace h := h.1 c1
      refine r_lload_n X 1 dX2_tenTo_21 rfl rfl ?_
      exact r_lret X h (Nat.le_of_ble_eq_true rfl) (Nat.le_of_ble_eq_true rfl) dX2_tenTo_22
    · replace h := h.2 c1
      refine r_lload_n X 1 dX2_tenTo_9 rfl rfl ?_
      refine r_ldc2 X q1967 dX2_tenTo_10 ?_
      refine r_lmul X dX2_tenTo_13 ?_
      refine r_nmL (fun y2 e3 => ?_)
      replace h := h y2 e3
      refine r_lstore_n (lv' := [(1, .long y2), (0, .int v0), (3, .int v3)]) X dX2_tenTo_14 rfl (Nat.le_of_ble_eq_true rfl) rfl ?_
      refine r_iinc (lv' := [(3, .int (v3 + 1)), (1, .long y2), (0, .int v0)]) X 2 dX2_tenTo_15 rfl rfl (Nat.le_of_ble_eq_true rfl) rfl ?_
      refine r_goto X 4 dX2_tenTo_18 (by decide) ?_
      refine r_sub [2, 1, 0] rfl ?_
      exact ih y2 (v3 + 1) s h
theorem e_X2_tenTo {x : CT} {G : GT} (X : Cx x G cX2_tenTo 4 RX2 (some .long) rm_X2_tenTo) (p1 : Int32) (s : PS) (Q : Int64 → PS → Prop) (h : w_X2_tenTo G p1 s Q) : WB x G 4 (QfL x G 0 0 Q) 0 0 s 0 [(0, .int p1)] [] := by
  unfold w_X2_tenTo at h
  refine r_lconst (v := 1) X dX2_tenTo_0 rfl ?_
  refine r_lstore_n (lv' := [(1, .long 1), (0, .int p1)]) X dX2_tenTo_1 rfl (Nat.le_of_ble_eq_true rfl) rfl ?_
  refine r_iconst (v := 0) X dX2_tenTo_2 rfl ?_
  refine r_istore_n (lv' := [(3, .int 0), (1, .long 1), (0, .int p1)]) X dX2_tenTo_3 rfl (Nat.le_of_ble_eq_true rfl) rfl ?_
  refine r_sub [2, 1, 0] rfl ?_
  obtain ⟨n1, h⟩ := h
  exact tl_X2_tenTo_4 X Q p1 n1 1 0 s h
theorem m_X2_tenTo (l : Launch) (G : GT) (g : GK G) (p1 : Int32) (s : PS) (Q : Int64 → PS → Prop) (h : w_X2_tenTo G p1 s Q) : Met l yX2_tenTo (ws_ yX2_tenTo cX2_tenTo 4 (some .long)) rm_X2_tenTo (va_Pc [.int p1] (Wr G s)) (va_Ql Q (fun u t => Wr G u t) (kF G)) 0 0 (kF G) := by
  refine Met.ofW (cc := cX2_tenTo) (maxL := 4) (ret := (some .long)) (by decide) rfl ?_
  intro p e s0 m args below meth c s₁ B hml hv
  obtain ⟨rfl, hw⟩ := hv
  exact wb_of [.int p1] (Nat.le_of_ble_eq_true rfl) hw.1 rfl (e_X2_tenTo (cx_of g B hml rfl hw) p1 s Q h)
theorem tl_X2_common_6 {x : CT} {G : GT} (X : Cx x G cX2_common 10 RX2 (some .long) rm_X2_common) (Q : Int64 → PS → Prop) : ∀ (n : Nat) (v4 : Int64) (v6 : Int64) (s : PS) (h : l_X2_common_6 G Q n v4 v6 s), WB x G 10 (QfL x G 0 0 Q) 0 0 s 6 [(4, .long v4), (6, .long v6)] [] := by
  intro n
  induction n with
  | zero =>
    intro v4 v6 s h
    exact False.elim h
  | succ n ih =>
    intro v4 v6 s h
    unfold l_X2_common_6 at h
    refine r_lload X 1 dX2_common_6 rfl ?_
    refine r_lconst (v := 0) X dX2_common_8 rfl ?_
    refine r_lcmp X dX2_common_9 ?_
    refine r_if_eq X 31 dX2_common_10 (by decide) (fun c1 => ?_) (fun c1 => ?_)
    · replace h := h.1 c1
      refine r_lload X 0 dX2_common_31 rfl ?_
      exact r_lret X h (Nat.le_of_ble_eq_true rfl) (Nat.le_of_ble_eq_true rfl) dX2_common_33
    · replace h := h.2 c1
      refine r_lload X 0 dX2_common_13 rfl ?_
      refine r_lload X 1 dX2_common_15 rfl ?_
      obtain ⟨g2, h⟩ := h
      refine r_lrem X dX2_common_17 g2 ?_
      refine r_nmL (fun y3 e4 => ?_)
      replace h := h y3 e4
      refine r_lstore (lv' := [(8, .long y3), (4, .long v4), (6, .long v6)]) X dX2_common_18 (Nat.le_of_ble_eq_true rfl) rfl ?_
      refine r_lload X 2 dX2_common_20 rfl ?_
      refine r_lstore (lv' := [(4, .long v6), (8, .long y3), (6, .long v6)]) X dX2_common_22 (Nat.le_of_ble_eq_true rfl) rfl ?_
      refine r_lload X 1 dX2_common_24 rfl ?_
      refine r_lstore (lv' := [(6, .long y3), (4, .long v6), (8, .long y3)]) X dX2_common_26 (Nat.le_of_ble_eq_true rfl) rfl ?_
      refine r_goto X 6 dX2_common_28 (by decide) ?_
      refine r_sub [1, 0] rfl ?_
      exact ih v6 y3 s h
theorem e_X2_common {x : CT} {G : GT} (X : Cx x G cX2_common 10 RX2 (some .long) rm_X2_common) (p1 : Int64) (p2 : Int64) (s : PS) (Q : Int64 → PS → Prop) (h : w_X2_common G p1 p2 s Q) : WB x G 10 (QfL x G 0 0 Q) 0 0 s 0 [(0, .long p1), (2, .long p2)] [] := by
  unfold w_X2_common at h
  refine r_lload_n X 0 dX2_common_0 rfl rfl ?_
  refine r_lstore (lv' := [(4, .long p1), (0, .long p1), (2, .long p2)]) X dX2_common_1 (Nat.le_of_ble_eq_true rfl) rfl ?_
  refine r_lload_n X 2 dX2_common_3 rfl rfl ?_
  refine r_lstore (lv' := [(6, .long p2), (4, .long p1), (0, .long p1), (2, .long p2)]) X dX2_common_4 (Nat.le_of_ble_eq_true rfl) rfl ?_
  refine r_sub [1, 0] rfl ?_
  obtain ⟨n1, h⟩ := h
  exact tl_X2_common_6 X Q n1 p1 p2 s h
theorem m_X2_common (l : Launch) (G : GT) (g : GK G) (p1 : Int64) (p2 : Int64) (s : PS) (Q : Int64 → PS → Prop) (h : w_X2_common G p1 p2 s Q) : Met l yX2_common (ws_ yX2_common cX2_common 10 (some .long)) rm_X2_common (va_Pc [.long p1, .long p2] (Wr G s)) (va_Ql Q (fun u t => Wr G u t) (kF G)) 0 0 (kF G) := by
  refine Met.ofW (cc := cX2_common) (maxL := 10) (ret := (some .long)) (by decide) rfl ?_
  intro p e s0 m args below meth c s₁ B hml hv
  obtain ⟨rfl, hw⟩ := hv
  exact wb_of [.long p1, .long p2] (Nat.le_of_ble_eq_true rfl) hw.1 rfl (e_X2_common (cx_of g B hml rfl hw) p1 p2 s Q h)
theorem e_X2_odds {x : CT} {G : GT} (X : Cx x G cX2_odds 8 RX2 (some .long) rm_X2_odds) (hph : kP G = 1) (p1 : Int32) (p2 : Int32) (p3 : Int32) (s : PS) (Q : Int64 → PS → Prop) (h : w_X2_odds G p1 p2 p3 s Q) : WB x G 8 (QfL x G 0 0 Q) 0 0 s 0 [(0, .ref (kB G + 182)), (1, .int p1), (2, .int p2), (3, .int p3)] [] := by
  unfold w_X2_odds at h
  refine r_iload_n X 1 dX2_odds_0 rfl rfl ?_
  refine r_iconst (v := 0) X dX2_odds_1 rfl ?_
  refine r_bipush (v := 10) X dX2_odds_2 rfl ?_
  refine r_ci X (r_okS (As := [.int p1, .int 0, .int 10]) (rest := []) X (m_X2_isIn (xl x) G X.2.2.2.2.1 p1 0 10 s _ h) (cl_X2_80 X ⟨(Nat.le_of_ble_eq_true rfl), (Nat.le_of_ble_eq_true rfl)⟩) rfl rfl (Nat.le_of_ble_eq_true rfl) dX2_odds_4 ⟨Nat.le_of_ble_eq_true rfl, Nat.le_of_ble_eq_true rfl⟩) (fun r2 s1 h => ?_)
  obtain ⟨z3, h⟩ := h
  refine r_if_eq X 17 dX2_odds_7 (by decide) (fun c4 => ?_) (fun c4 => ?_)
  · replace h := h.1 c4
    refine r_ldc2 X q1959 dX2_odds_17 ?_
    exact r_lret X h (Nat.le_of_ble_eq_true rfl) (Nat.le_of_ble_eq_true rfl) dX2_odds_20
  · replace h := h.2 c4
    refine r_iload_n X 2 dX2_odds_10 rfl rfl ?_
    refine r_ci X (r_okS (As := [.int p2]) (rest := []) X (m_X2_isOdd (xl x) G X.2.2.2.2.1 p2 s1 _ h) (cl_X2_452 X ⟨(Nat.le_of_ble_eq_true rfl), (Nat.le_of_ble_eq_true rfl)⟩) rfl rfl (Nat.le_of_ble_eq_true rfl) dX2_odds_11 ⟨Nat.le_of_ble_eq_true rfl, Nat.le_of_ble_eq_true rfl⟩) (fun r6 s5 h => ?_)
    obtain ⟨z7, h⟩ := h
    refine r_if_ne X 21 dX2_odds_14 (by decide) (fun c8 => ?_) (fun c8 => ?_)
    · replace h := h.2 c8
      refine r_aload_n X 0 dX2_odds_21 rfl rfl ?_
      refine r_iload_n X 1 dX2_odds_22 rfl rfl ?_
      refine r_iload_n X 2 dX2_odds_23 rfl rfl ?_
      refine r_cl X (r_okVL (As := [.int p1, .int p2]) (rest := []) X (m_X2_rightWays (xl x) G X.2.2.2.2.1 hph p1 p2 s5 _ h) (cl_X2_457 X ⟨(Nat.le_of_ble_eq_true rfl), (Nat.le_of_ble_eq_true rfl)⟩) hph 2 ly_182 rfl rfl rfl rfl (Nat.le_of_ble_eq_true rfl) dX2_odds_24 ⟨Nat.le_of_ble_eq_true rfl, Nat.le_of_ble_eq_true rfl⟩) (fun r10 s9 h => ?_)
      refine r_lstore (lv' := [(4, .long r10), (0, .ref (kB G + 182)), (1, .int p1), (2, .int p2), (3, .int p3)]) X dX2_odds_27 (Nat.le_of_ble_eq_true rfl) rfl ?_
      refine r_iload_n X 3 dX2_odds_29 rfl rfl ?_
      refine r_cl X (r_okS (As := [.int p2]) (rest := []) X (m_X2_tenTo (xl x) G X.2.2.2.2.1 p2 s9 _ h) (cl_X2_461 X ⟨(Nat.le_of_ble_eq_true rfl), (Nat.le_of_ble_eq_true rfl)⟩) rfl rfl (Nat.le_of_ble_eq_true rfl) dX2_odds_30 ⟨Nat.le_of_ble_eq_true rfl, Nat.le_of_ble_eq_true rfl⟩) (fun r12 s11 h => ?_)
      refine r_lstore (lv' := [(6, .long r12), (4, .long r10), (0, .ref (kB G + 182)), (1, .int p1), (2, .int p2), (3, .int p3)]) X dX2_odds_33 (Nat.le_of_ble_eq_true rfl) rfl ?_
      refine r_iload_n X 5 dX2_odds_35 rfl rfl ?_
      have hJ : WB x G 8 (QfL x G 0 0 Q) 0 0 s11 46 [(6, .long r12), (4, .long r10), (0, .ref (kB G + 182)), (1, .int p1), (2, .int p2), (3, .int p3)] [.long (if p3 = 0 then r10 else r12 : Int64)] := by
        refine r_lload X 1 dX2_odds_46 rfl ?_
        refine r_lload X 0 dX2_odds_48 rfl ?_
        refine r_cl X (r_okS (As := [.long r10, .long r12]) (rest := [.long (if p3 = 0 then r10 else r12 : Int64)]) X (m_X2_common (xl x) G X.2.2.2.2.1 r10 r12 s11 _ h) (cl_X2_465 X ⟨(Nat.le_of_ble_eq_true rfl), (Nat.le_of_ble_eq_true rfl)⟩) rfl rfl (Nat.le_of_ble_eq_true rfl) dX2_odds_50 ⟨Nat.le_of_ble_eq_true rfl, Nat.le_of_ble_eq_true rfl⟩) (fun r15 s14 h => ?_)
        obtain ⟨g16, h⟩ := h
        refine r_ldiv X dX2_odds_53 g16 ?_
        exact r_lret X h (Nat.le_of_ble_eq_true rfl) (Nat.le_of_ble_eq_true rfl) dX2_odds_54
      refine r_if_eq X 44 dX2_odds_36 (by decide) (fun c13 => ?_) (fun c13 => ?_)
      · rw [if_pos c13] at hJ
        refine r_lload X 1 dX2_odds_44 rfl ?_
        exact hJ
      · rw [if_neg c13] at hJ
        refine r_lload X 0 dX2_odds_39 rfl ?_
        refine r_goto X 46 dX2_odds_41 (by decide) ?_
        exact hJ
    · replace h := h.1 c8
      refine r_ldc2 X q1959 dX2_odds_17 ?_
      exact r_lret X h (Nat.le_of_ble_eq_true rfl) (Nat.le_of_ble_eq_true rfl) dX2_odds_20
theorem m_X2_odds (l : Launch) (G : GT) (g : GK G) (hph : kP G = 1) (p1 : Int32) (p2 : Int32) (p3 : Int32) (s : PS) (Q : Int64 → PS → Prop) (h : w_X2_odds G p1 p2 p3 s Q) : Met l yX2_odds (ws_ yX2_odds cX2_odds 8 (some .long)) rm_X2_odds (va_Pc [.ref (kB G + 182), .int p1, .int p2, .int p3] (Wr G s)) (va_Ql Q (fun u t => Wr G u t) (kF G)) 0 0 (kF G) := by
  refine Met.ofW (cc := cX2_odds) (maxL := 8) (ret := (some .long)) (by decide) rfl ?_
  intro p e s0 m args below meth c s₁ B hml hv
  obtain ⟨rfl, hw⟩ := hv
  exact wb_of [.ref (kB G + 182), .int p1, .int p2, .int p3] (Nat.le_of_ble_eq_true rfl) hw.1 rfl (e_X2_odds (cx_of g B hml rfl hw) hph p1 p2 p3 s Q h)
theorem tl_X2_often_24 {x : CT} {G : GT} (X : Cx x G cX2_often 4 RX2 (some .int) rm_X2_often) (hph : kP G = 1) (Q : Int32 → PS → Prop) (v1 : Int32) (v2 : Int32) : ∀ (n : Nat) (v3 : Int32) (s : PS) (h : l_X2_often_24 G Q v1 v2 n v3 s), WB x G 4 (QfI x G 0 0 Q) 0 0 s 24 [(0, .ref (kB G + 182)), (1, .int v1), (2, .int v2), (3, .int v3)] [] := by
  intro n
  induction n with
  | zero =>
    intro v3 s h
    exact False.elim h
  | succ n ih =>
    intro v3 s h
    unfold l_X2_often_24 at h
    refine r_iload_n X 3 dX2_often_24 rfl rfl ?_
    refine r_bipush (v := 16) X dX2_often_25 rfl ?_
    refine r_ic_ge X 59 dX2_often_27 (by decide) (fun c1 => ?_) (fun c1 => ?_)
    · replace h := h.1 c1
      refine r_iconst (v := (-1)) X dX2_often_59 rfl ?_
      exact r_iret X h (Nat.le_of_ble_eq_true rfl) (Nat.le_of_ble_eq_true rfl) dX2_often_60
    · replace h := h.2 c1
      refine r_aload_n X 0 dX2_often_30 rfl rfl ?_
      refine r_iload_n X 1 dX2_often_31 rfl rfl ?_
      refine r_iload_n X 3 dX2_often_32 rfl rfl ?_
      refine r_cl X (r_okVL (As := [.int v1, .int v3]) (rest := []) X (m_X2_rightWays (xl x) G X.2.2.2.2.1 hph v1 v3 s _ h) (cl_X2_457 X ⟨(Nat.le_of_ble_eq_true rfl), (Nat.le_of_ble_eq_true rfl)⟩) hph 2 ly_182 rfl rfl rfl rfl (Nat.le_of_ble_eq_true rfl) dX2_often_33 ⟨Nat.le_of_ble_eq_true rfl, Nat.le_of_ble_eq_true rfl⟩) (fun r3 s2 h => ?_)
      refine r_ldc2 X q1975 dX2_often_36 ?_
      refine r_lmul X dX2_often_39 ?_
      refine r_iload_n X 2 dX2_often_40 rfl rfl ?_
      refine r_i2l X dX2_often_41 ?_
      refine r_iload_n X 3 dX2_often_42 rfl rfl ?_
      refine r_cl X (r_okS (As := [.int v3]) (rest := [.long v2.toInt64, .long (r3 * 100)]) X (m_X2_tenTo (xl x) G X.2.2.2.2.1 v3 s2 _ h) (cl_X2_461 X ⟨(Nat.le_of_ble_eq_true rfl), (Nat.le_of_ble_eq_true rfl)⟩) rfl rfl (Nat.le_of_ble_eq_true rfl) dX2_often_43 ⟨Nat.le_of_ble_eq_true rfl, Nat.le_of_ble_eq_true rfl⟩) (fun r5 s4 h => ?_)
      refine r_lmul X dX2_often_46 ?_
      refine r_lcmp X dX2_often_47 ?_
      refine r_if_lt X 53 dX2_often_48 (by decide) (fun c6 => ?_) (fun c6 => ?_)
      · replace h := h.1 c6
        refine r_iinc (lv' := [(3, .int (v3 + 2)), (0, .ref (kB G + 182)), (1, .int v1), (2, .int v2)]) X 3 dX2_often_53 rfl rfl (Nat.le_of_ble_eq_true rfl) rfl ?_
        refine r_goto X 24 dX2_often_56 (by decide) ?_
        refine r_sub [1, 2, 3, 0] rfl ?_
        exact ih (v3 + 2) s4 h
      · replace h := h.2 c6
        refine r_iload_n X 3 dX2_often_51 rfl rfl ?_
        exact r_iret X h (Nat.le_of_ble_eq_true rfl) (Nat.le_of_ble_eq_true rfl) dX2_often_52
theorem e_X2_often {x : CT} {G : GT} (X : Cx x G cX2_often 4 RX2 (some .int) rm_X2_often) (hph : kP G = 1) (p1 : Int32) (p2 : Int32) (s : PS) (Q : Int32 → PS → Prop) (h : w_X2_often G p1 p2 s Q) : WB x G 4 (QfI x G 0 0 Q) 0 0 s 0 [(0, .ref (kB G + 182)), (1, .int p1), (2, .int p2)] [] := by
  unfold w_X2_often at h
  refine r_iload_n X 1 dX2_often_0 rfl rfl ?_
  refine r_iconst (v := 0) X dX2_often_1 rfl ?_
  refine r_bipush (v := 10) X dX2_often_2 rfl ?_
  refine r_ci X (r_okS (As := [.int p1, .int 0, .int 10]) (rest := []) X (m_X2_isIn (xl x) G X.2.2.2.2.1 p1 0 10 s _ h) (cl_X2_80 X ⟨(Nat.le_of_ble_eq_true rfl), (Nat.le_of_ble_eq_true rfl)⟩) rfl rfl (Nat.le_of_ble_eq_true rfl) dX2_often_4 ⟨Nat.le_of_ble_eq_true rfl, Nat.le_of_ble_eq_true rfl⟩) (fun r2 s1 h => ?_)
  obtain ⟨z3, h⟩ := h
  refine r_if_eq X 20 dX2_often_7 (by decide) (fun c4 => ?_) (fun c4 => ?_)
  · replace h := h.1 c4
    refine r_iconst (v := (-1)) X dX2_often_20 rfl ?_
    exact r_iret X h (Nat.le_of_ble_eq_true rfl) (Nat.le_of_ble_eq_true rfl) dX2_often_21
  · replace h := h.2 c4
    refine r_iload_n X 2 dX2_often_10 rfl rfl ?_
    refine r_iconst (v := 1) X dX2_often_11 rfl ?_
    refine r_bipush (v := 100) X dX2_often_12 rfl ?_
    refine r_ci X (r_okS (As := [.int p2, .int 1, .int 100]) (rest := []) X (m_X2_isIn (xl x) G X.2.2.2.2.1 p2 1 100 s1 _ h) (cl_X2_80 X ⟨(Nat.le_of_ble_eq_true rfl), (Nat.le_of_ble_eq_true rfl)⟩) rfl rfl (Nat.le_of_ble_eq_true rfl) dX2_often_14 ⟨Nat.le_of_ble_eq_true rfl, Nat.le_of_ble_eq_true rfl⟩) (fun r6 s5 h => ?_)
    obtain ⟨z7, h⟩ := h
    refine r_if_ne X 22 dX2_often_17 (by decide) (fun c8 => ?_) (fun c8 => ?_)
    · replace h := h.2 c8
      refine r_iconst (v := 1) X dX2_often_22 rfl ?_
      refine r_istore_n (lv' := [(3, .int 1), (0, .ref (kB G + 182)), (1, .int p1), (2, .int p2)]) X dX2_often_23 rfl (Nat.le_of_ble_eq_true rfl) rfl ?_
      refine r_sub [1, 2, 3, 0] rfl ?_
      obtain ⟨n9, h⟩ := h
      exact tl_X2_often_24 X hph Q p1 p2 n9 1 s5 h
    · replace h := h.1 c8
      refine r_iconst (v := (-1)) X dX2_often_20 rfl ?_
      exact r_iret X h (Nat.le_of_ble_eq_true rfl) (Nat.le_of_ble_eq_true rfl) dX2_often_21
theorem m_X2_often (l : Launch) (G : GT) (g : GK G) (hph : kP G = 1) (p1 : Int32) (p2 : Int32) (s : PS) (Q : Int32 → PS → Prop) (h : w_X2_often G p1 p2 s Q) : Met l yX2_often (ws_ yX2_often cX2_often 4 (some .int)) rm_X2_often (va_Pc [.ref (kB G + 182), .int p1, .int p2] (Wr G s)) (va_Qi Q (fun u t => Wr G u t) (kF G)) 0 0 (kF G) := by
  refine Met.ofW (cc := cX2_often) (maxL := 4) (ret := (some .int)) (by decide) rfl ?_
  intro p e s0 m args below meth c s₁ B hml hv
  obtain ⟨rfl, hw⟩ := hv
  exact wb_of [.ref (kB G + 182), .int p1, .int p2] (Nat.le_of_ble_eq_true rfl) hw.1 rfl (e_X2_often (cx_of g B hml rfl hw) hph p1 p2 s Q h)
theorem e_X2_image {x : CT} {G : GT} (X : Cx x G cX2_image 1 RX2 (some .int) rm_X2_image) (hph : kP G = 1) (s : PS) (Q : Int32 → PS → Prop) (h : w_X2_image G s Q) : WB x G 1 (QfI x G 0 0 Q) 0 0 s 0 [(0, .ref (kB G + 182))] [] := by
  unfold w_X2_image at h
  refine r_aload_n X 0 dX2_image_0 rfl rfl ?_
  refine gr_X2_7 X hph 13 182 183 ly_182 rfl rfl dX2_image_1 ?_
  refine r_aload_n X 0 dX2_image_4 rfl rfl ?_
  refine gr_X2_13 X hph 13 182 184 ly_182 rfl rfl dX2_image_5 ?_
  refine r_cv X (r_okS (As := [.ref (kB G + 183), .ref (kB G + 184)]) (rest := []) X (m_X2_copy (xl x) G X.2.2.2.2.1 (kB G + 183) (kB G + 184) s _ h) (cl_X2_76 X ⟨(Nat.le_of_ble_eq_true rfl), (Nat.le_of_ble_eq_true rfl)⟩) rfl rfl (Nat.le_of_ble_eq_true rfl) dX2_image_8 ⟨Nat.le_of_ble_eq_true rfl, Nat.le_of_ble_eq_true rfl⟩) (fun s1 h => ?_)
  refine r_aload_n X 0 dX2_image_11 rfl rfl ?_
  refine gr_X2_7 X hph 13 182 183 ly_182 rfl rfl dX2_image_12 ?_
  refine r_iconst (v := 4) X dX2_image_15 rfl ?_
  refine r_ialdL X hph 183 5544 ly_183 tn_4 il_4_5544 dX2_image_16 ?_
  exact r_iret X h (Nat.le_of_ble_eq_true rfl) (Nat.le_of_ble_eq_true rfl) dX2_image_17
theorem m_X2_image (l : Launch) (G : GT) (g : GK G) (hph : kP G = 1) (s : PS) (Q : Int32 → PS → Prop) (h : w_X2_image G s Q) : Met l yX2_image (ws_ yX2_image cX2_image 1 (some .int)) rm_X2_image (va_Pc [.ref (kB G + 182)] (Wr G s)) (va_Qi Q (fun u t => Wr G u t) (kF G)) 0 0 (kF G) := by
  refine Met.ofW (cc := cX2_image) (maxL := 1) (ret := (some .int)) (by decide) rfl ?_
  intro p e s0 m args below meth c s₁ B hml hv
  obtain ⟨rfl, hw⟩ := hv
  exact wb_of [.ref (kB G + 182)] (Nat.le_of_ble_eq_true rfl) hw.1 rfl (e_X2_image (cx_of g B hml rfl hw) hph s Q h)
theorem e_X2_back {x : CT} {G : GT} (X : Cx x G cX2_back 1 RX2 (some .int) rm_X2_back) (hph : kP G = 1) (s : PS) (Q : Int32 → PS → Prop) (h : w_X2_back G s Q) : WB x G 1 (QfI x G 0 0 Q) 0 0 s 0 [(0, .ref (kB G + 182))] [] := by
  unfold w_X2_back at h
  refine r_aload_n X 0 dX2_back_0 rfl rfl ?_
  refine gr_X2_13 X hph 13 182 184 ly_182 rfl rfl dX2_back_1 ?_
  refine r_aload_n X 0 dX2_back_4 rfl rfl ?_
  refine gr_X2_7 X hph 13 182 183 ly_182 rfl rfl dX2_back_5 ?_
  refine r_cv X (r_okS (As := [.ref (kB G + 184), .ref (kB G + 183)]) (rest := []) X (m_X2_copy (xl x) G X.2.2.2.2.1 (kB G + 184) (kB G + 183) s _ h) (cl_X2_76 X ⟨(Nat.le_of_ble_eq_true rfl), (Nat.le_of_ble_eq_true rfl)⟩) rfl rfl (Nat.le_of_ble_eq_true rfl) dX2_back_8 ⟨Nat.le_of_ble_eq_true rfl, Nat.le_of_ble_eq_true rfl⟩) (fun s1 h => ?_)
  refine r_aload_n X 0 dX2_back_11 rfl rfl ?_
  refine gr_X2_7 X hph 13 182 183 ly_182 rfl rfl dX2_back_12 ?_
  refine r_iconst (v := 4) X dX2_back_15 rfl ?_
  refine r_ialdL X hph 183 5544 ly_183 tn_4 il_4_5544 dX2_back_16 ?_
  exact r_iret X h (Nat.le_of_ble_eq_true rfl) (Nat.le_of_ble_eq_true rfl) dX2_back_17
theorem m_X2_back (l : Launch) (G : GT) (g : GK G) (hph : kP G = 1) (s : PS) (Q : Int32 → PS → Prop) (h : w_X2_back G s Q) : Met l yX2_back (ws_ yX2_back cX2_back 1 (some .int)) rm_X2_back (va_Pc [.ref (kB G + 182)] (Wr G s)) (va_Qi Q (fun u t => Wr G u t) (kF G)) 0 0 (kF G) := by
  refine Met.ofW (cc := cX2_back) (maxL := 1) (ret := (some .int)) (by decide) rfl ?_
  intro p e s0 m args below meth c s₁ B hml hv
  obtain ⟨rfl, hw⟩ := hv
  exact wb_of [.ref (kB G + 182)] (Nat.le_of_ble_eq_true rfl) hw.1 rfl (e_X2_back (cx_of g B hml rfl hw) hph s Q h)
theorem e_X2_about {x : CT} {G : GT} (X : Cx x G cX2_about 2 RX2 (some .int) rm_X2_about) (hph : kP G = 1) (p1 : Int32) (s : PS) (Q : Int32 → PS → Prop) (h : w_X2_about G p1 s Q) : WB x G 2 (QfI x G 0 0 Q) 0 0 s 0 [(0, .ref (kB G + 182)), (1, .int p1)] [] := by
  unfold w_X2_about at h
  refine r_iload_n X 1 dX2_about_0 rfl rfl ?_
  refine r_iconst (v := 0) X dX2_about_1 rfl ?_
  refine r_bipush (v := 10) X dX2_about_2 rfl ?_
  refine r_ci X (r_okS (As := [.int p1, .int 0, .int 10]) (rest := []) X (m_X2_isIn (xl x) G X.2.2.2.2.1 p1 0 10 s _ h) (cl_X2_80 X ⟨(Nat.le_of_ble_eq_true rfl), (Nat.le_of_ble_eq_true rfl)⟩) rfl rfl (Nat.le_of_ble_eq_true rfl) dX2_about_4 ⟨Nat.le_of_ble_eq_true rfl, Nat.le_of_ble_eq_true rfl⟩) (fun r2 s1 h => ?_)
  obtain ⟨z3, h⟩ := h
  refine r_if_eq X 19 dX2_about_7 (by decide) (fun c5 => ?_) (fun c5 => ?_)
  · replace h := h.1 c5
    refine r_iload_n X 1 dX2_about_19 rfl rfl ?_
    refine r_bipush (v := 11) X dX2_about_20 rfl ?_
    have hJ : WB x G 2 (QfI x G 0 0 Q) 0 0 s1 34 [(0, .ref (kB G + 182)), (1, .int p1)] [.int (if p1 = 11 then (gI s1 (kB G + 182) 4) else (-2) : Int32)] := by
      exact r_iret X h (Nat.le_of_ble_eq_true rfl) (Nat.le_of_ble_eq_true rfl) dX2_about_34
    refine r_ic_ne X 32 dX2_about_22 (by decide) (fun c6 => ?_) (fun c6 => ?_)
    · rw [if_neg c6] at hJ
      refine r_bipush (v := (-2)) X dX2_about_32 rfl ?_
      exact hJ
    · rw [if_pos c6] at hJ
      refine r_aload_n X 0 dX2_about_25 rfl rfl ?_
      refine gl_X2_98 X hph 182 ly_182 dX2_about_26 ?_
      refine r_goto X 34 dX2_about_29 (by decide) ?_
      exact hJ
  · replace h := h.2 c5
    refine r_aload_n X 0 dX2_about_10 rfl rfl ?_
    refine gr_X2_7 X hph 13 182 183 ly_182 rfl rfl dX2_about_11 ?_
    refine r_iload_n X 1 dX2_about_14 rfl rfl ?_
    obtain ⟨g7, h⟩ := h
    refine r_ialdL X hph 183 5544 ly_183 rfl g7 dX2_about_15 ?_
    refine r_goto X 34 dX2_about_16 (by decide) ?_
    exact r_iret X h (Nat.le_of_ble_eq_true rfl) (Nat.le_of_ble_eq_true rfl) dX2_about_34
theorem m_X2_about (l : Launch) (G : GT) (g : GK G) (hph : kP G = 1) (p1 : Int32) (s : PS) (Q : Int32 → PS → Prop) (h : w_X2_about G p1 s Q) : Met l yX2_about (ws_ yX2_about cX2_about 2 (some .int)) rm_X2_about (va_Pc [.ref (kB G + 182), .int p1] (Wr G s)) (va_Qi Q (fun u t => Wr G u t) (kF G)) 0 0 (kF G) := by
  refine Met.ofW (cc := cX2_about) (maxL := 2) (ret := (some .int)) (by decide) rfl ?_
  intro p e s0 m args below meth c s₁ B hml hv
  obtain ⟨rfl, hw⟩ := hv
  exact wb_of [.ref (kB G + 182), .int p1] (Nat.le_of_ble_eq_true rfl) hw.1 rfl (e_X2_about (cx_of g B hml rfl hw) hph p1 s Q h)
