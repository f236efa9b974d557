set_option maxRecDepth 100000
theorem cl_L_13 {x : CT} {G : GT} {cc : ByteArray} {nL : Nat} {ret : Option FieldType} {R0 : Room} (X : Cx x G cc nL RL ret R0) (hR : rm_X0_heart.frames + 1 ≤ R0.frames ∧ 8 + (2 + 11) + rm_X0_heart.locals ≤ R0.locals) : CallW R0 (xs x) (xa x) RL RX0 13 yX0_heart cX0_heart 2 (some .int) (ws_ yX0_heart cX0_heart 2 (some .int)) rm_X0_heart 0 0 1 := cwV 1 X.1.2.2.2.2 (lw_V q312 q313 q314 q137 q315) rfl rfl rfl (by decide +kernel) hR
theorem cl_L_17 {x : CT} {G : GT} {cc : ByteArray} {nL : Nat} {ret : Option FieldType} {R0 : Room} (X : Cx x G cc nL RL ret R0) (hR : rm_X2_heart.frames + 1 ≤ R0.frames ∧ 8 + (4 + 11) + rm_X2_heart.locals ≤ R0.locals) : CallW R0 (xs x) (xa x) RL RX2 17 yX2_heart cX2_heart 4 (some .int) (ws_ yX2_heart cX2_heart 4 (some .int)) rm_X2_heart 0 0 1 := cwV 1 X.1.2.2.2.2 (lw_V q1449 q1450 q1451 q140 q1452) rfl rfl rfl (by decide +kernel) hR
theorem cl_L_18 {x : CT} {G : GT} {cc : ByteArray} {nL : Nat} {ret : Option FieldType} {R0 : Room} (X : Cx x G cc nL RL ret R0) (hR : rm_X0_deed.frames + 1 ≤ R0.frames ∧ 8 + (8 + 11) + rm_X0_deed.locals ≤ R0.locals) : CallW R0 (xs x) (xa x) RL RX0 18 yX0_deed cX0_deed 8 (some .int) (ws_ yX0_deed cX0_deed 8 (some .int)) rm_X0_deed 1 6 5 := cwV 5 X.1.2.2.2.2 (lw_V q319 q320 q321 q137 q322) rfl rfl rfl (by decide +kernel) hR
theorem cl_L_22 {x : CT} {G : GT} {cc : ByteArray} {nL : Nat} {ret : Option FieldType} {R0 : Room} (X : Cx x G cc nL RL ret R0) (hR : rm_X2_deed.frames + 1 ≤ R0.frames ∧ 8 + (7 + 11) + rm_X2_deed.locals ≤ R0.locals) : CallW R0 (xs x) (xa x) RL RX2 22 yX2_deed cX2_deed 7 (some .int) (ws_ yX2_deed cX2_deed 7 (some .int)) rm_X2_deed 0 0 5 := cwV 5 X.1.2.2.2.2 (lw_V q1456 q1457 q1458 q140 q1459) rfl rfl rfl (by decide +kernel) hR
theorem cl_L_23 {x : CT} {G : GT} {cc : ByteArray} {nL : Nat} {ret : Option FieldType} {R0 : Room} (X : Cx x G cc nL RL ret R0) (hR : rm_X0_witness.frames + 1 ≤ R0.frames ∧ 8 + (3 + 11) + rm_X0_witness.locals ≤ R0.locals) : CallW R0 (xs x) (xa x) RL RX0 23 yX0_witness cX0_witness 3 (some .boolean) (ws_ yX0_witness cX0_witness 3 (some .boolean)) rm_X0_witness 0 0 2 := cwV 2 X.1.2.2.2.2 (lw_V q328 q329 q330 q137 q331) rfl rfl rfl (by decide +kernel) hR
theorem cl_L_27 {x : CT} {G : GT} {cc : ByteArray} {nL : Nat} {ret : Option FieldType} {R0 : Room} (X : Cx x G cc nL RL ret R0) (hR : rm_X2_witness.frames + 1 ≤ R0.frames ∧ 8 + (3 + 11) + rm_X2_witness.locals ≤ R0.locals) : CallW R0 (xs x) (xa x) RL RX2 27 yX2_witness cX2_witness 3 (some .boolean) (ws_ yX2_witness cX2_witness 3 (some .boolean)) rm_X2_witness 0 0 2 := cwV 2 X.1.2.2.2.2 (lw_V q1464 q1465 q1466 q140 q1467) rfl rfl rfl (by decide +kernel) hR
theorem cl_L_28 {x : CT} {G : GT} {cc : ByteArray} {nL : Nat} {ret : Option FieldType} {R0 : Room} (X : Cx x G cc nL RL ret R0) (hR : rm_X0_judge.frames + 1 ≤ R0.frames ∧ 8 + (2 + 11) + rm_X0_judge.locals ≤ R0.locals) : CallW R0 (xs x) (xa x) RL RX0 28 yX0_judge cX0_judge 2 (some .int) (ws_ yX0_judge cX0_judge 2 (some .int)) rm_X0_judge 0 0 1 := cwV 1 X.1.2.2.2.2 (lw_V q340 q341 q342 q137 q343) rfl rfl rfl (by decide +kernel) hR
theorem cl_L_31 {x : CT} {G : GT} {cc : ByteArray} {nL : Nat} {ret : Option FieldType} {R0 : Room} (X : Cx x G cc nL RL ret R0) (hR : rm_X2_judge.frames + 1 ≤ R0.frames ∧ 8 + (2 + 11) + rm_X2_judge.locals ≤ R0.locals) : CallW R0 (xs x) (xa x) RL RX2 31 yX2_judge cX2_judge 2 (some .int) (ws_ yX2_judge cX2_judge 2 (some .int)) rm_X2_judge 0 0 1 := cwV 1 X.1.2.2.2.2 (lw_V q1476 q1477 q1478 q140 q1479) rfl rfl rfl (by decide +kernel) hR
theorem cl_L_32 {x : CT} {G : GT} {cc : ByteArray} {nL : Nat} {ret : Option FieldType} {R0 : Room} (X : Cx x G cc nL RL ret R0) (hR : rm_X0_stick.frames + 1 ≤ R0.frames ∧ 8 + (2 + 11) + rm_X0_stick.locals ≤ R0.locals) : CallW R0 (xs x) (xa x) RL RX0 32 yX0_stick cX0_stick 2 (some .boolean) (ws_ yX0_stick cX0_stick 2 (some .boolean)) rm_X0_stick 0 0 1 := cwV 1 X.1.2.2.2.2 (lw_V q344 q345 q346 q137 q347) rfl rfl rfl (by decide +kernel) hR
theorem cl_L_36 {x : CT} {G : GT} {cc : ByteArray} {nL : Nat} {ret : Option FieldType} {R0 : Room} (X : Cx x G cc nL RL ret R0) (hR : rm_X2_stick.frames + 1 ≤ R0.frames ∧ 8 + (2 + 11) + rm_X2_stick.locals ≤ R0.locals) : CallW R0 (xs x) (xa x) RL RX2 36 yX2_stick cX2_stick 2 (some .boolean) (ws_ yX2_stick cX2_stick 2 (some .boolean)) rm_X2_stick 0 0 1 := cwV 1 X.1.2.2.2.2 (lw_V q1480 q1481 q1482 q140 q1483) rfl rfl rfl (by decide +kernel) hR
theorem cl_L_37 {x : CT} {G : GT} {cc : ByteArray} {nL : Nat} {ret : Option FieldType} {R0 : Room} (X : Cx x G cc nL RL ret R0) (hR : rm_X0_bond.frames + 1 ≤ R0.frames ∧ 8 + (4 + 11) + rm_X0_bond.locals ≤ R0.locals) : CallW R0 (xs x) (xa x) RL RX0 37 yX0_bond cX0_bond 4 (some .boolean) (ws_ yX0_bond cX0_bond 4 (some .boolean)) rm_X0_bond 0 0 3 := cwV 3 X.1.2.2.2.2 (lw_V q348 q349 q350 q137 q351) rfl rfl rfl (by decide +kernel) hR
theorem cl_L_41 {x : CT} {G : GT} {cc : ByteArray} {nL : Nat} {ret : Option FieldType} {R0 : Room} (X : Cx x G cc nL RL ret R0) (hR : rm_X2_bond.frames + 1 ≤ R0.frames ∧ 8 + (4 + 11) + rm_X2_bond.locals ≤ R0.locals) : CallW R0 (xs x) (xa x) RL RX2 41 yX2_bond cX2_bond 4 (some .boolean) (ws_ yX2_bond cX2_bond 4 (some .boolean)) rm_X2_bond 0 0 3 := cwV 3 X.1.2.2.2.2 (lw_V q1484 q1485 q1486 q140 q1487) rfl rfl rfl (by decide +kernel) hR
theorem cl_L_42 {x : CT} {G : GT} {cc : ByteArray} {nL : Nat} {ret : Option FieldType} {R0 : Room} (X : Cx x G cc nL RL ret R0) (hR : rm_X0_feed.frames + 1 ≤ R0.frames ∧ 8 + (6 + 11) + rm_X0_feed.locals ≤ R0.locals) : CallW R0 (xs x) (xa x) RL RX0 42 yX0_feed cX0_feed 6 (some .int) (ws_ yX0_feed cX0_feed 6 (some .int)) rm_X0_feed 0 0 5 := cwV 5 X.1.2.2.2.2 (lw_V q352 q353 q354 q137 q355) rfl rfl rfl (by decide +kernel) hR
theorem cl_L_45 {x : CT} {G : GT} {cc : ByteArray} {nL : Nat} {ret : Option FieldType} {R0 : Room} (X : Cx x G cc nL RL ret R0) (hR : rm_X2_feed.frames + 1 ≤ R0.frames ∧ 8 + (6 + 11) + rm_X2_feed.locals ≤ R0.locals) : CallW R0 (xs x) (xa x) RL RX2 45 yX2_feed cX2_feed 6 (some .int) (ws_ yX2_feed cX2_feed 6 (some .int)) rm_X2_feed 0 0 5 := cwV 5 X.1.2.2.2.2 (lw_V q1488 q1489 q1490 q140 q1491) rfl rfl rfl (by decide +kernel) hR
theorem cl_L_46 {x : CT} {G : GT} {cc : ByteArray} {nL : Nat} {ret : Option FieldType} {R0 : Room} (X : Cx x G cc nL RL ret R0) (hR : rm_X0_end.frames + 1 ≤ R0.frames ∧ 8 + (2 + 11) + rm_X0_end.locals ≤ R0.locals) : CallW R0 (xs x) (xa x) RL RX0 46 yX0_end cX0_end 2 (some .int) (ws_ yX0_end cX0_end 2 (some .int)) rm_X0_end 0 0 1 := cwV 1 X.1.2.2.2.2 (lw_V q360 q361 q362 q137 q363) rfl rfl rfl (by decide +kernel) hR
theorem cl_L_49 {x : CT} {G : GT} {cc : ByteArray} {nL : Nat} {ret : Option FieldType} {R0 : Room} (X : Cx x G cc nL RL ret R0) (hR : rm_X2_end.frames + 1 ≤ R0.frames ∧ 8 + (2 + 11) + rm_X2_end.locals ≤ R0.locals) : CallW R0 (xs x) (xa x) RL RX2 49 yX2_end cX2_end 2 (some .int) (ws_ yX2_end cX2_end 2 (some .int)) rm_X2_end 0 0 1 := cwV 1 X.1.2.2.2.2 (lw_V q1496 q1497 q1498 q140 q1499) rfl rfl rfl (by decide +kernel) hR
theorem cl_L_50 {x : CT} {G : GT} {cc : ByteArray} {nL : Nat} {ret : Option FieldType} {R0 : Room} {A B : Nat} (X : Cx x G cc nL RL ret R0) (hR : (rm_X0_text A B).frames + 1 ≤ R0.frames ∧ 8 + (5 + 11) + (rm_X0_text A B).locals ≤ R0.locals) : vx_CVW R0 (xs x) (xa x) RL RX0 50 yX0_text cX0_text 5 (some .int) [((30 : Nat), (62 : Nat), (70 : Nat), (128 : Nat)), ((30 : Nat), (62 : Nat), (96 : Nat), (0 : Nat)), ((70 : Nat), (89 : Nat), (96 : Nat), (0 : Nat)), ((96 : Nat), (98 : Nat), (96 : Nat), (0 : Nat))] (wsH_ yX0_text cX0_text 5 (some .int) [((30 : Nat), (62 : Nat), (70 : Nat), (128 : Nat)), ((30 : Nat), (62 : Nat), (96 : Nat), (0 : Nat)), ((70 : Nat), (89 : Nat), (96 : Nat), (0 : Nat)), ((96 : Nat), (98 : Nat), (96 : Nat), (0 : Nat))]) (rm_X0_text A B) A B 0 := vx_cwVW 0 X.1.2.2.2.2 (lw_VH q364 q365 q366 q137 q367) rfl rfl rfl (by decide +kernel) hR
theorem cl_L_54 {x : CT} {G : GT} {cc : ByteArray} {nL : Nat} {ret : Option FieldType} {R0 : Room} (X : Cx x G cc nL RL ret R0) (hR : rm_X2_text.frames + 1 ≤ R0.frames ∧ 8 + (1 + 11) + rm_X2_text.locals ≤ R0.locals) : CallW R0 (xs x) (xa x) RL RX2 54 yX2_text cX2_text 1 (some .int) (ws_ yX2_text cX2_text 1 (some .int)) rm_X2_text 0 0 0 := cwV 0 X.1.2.2.2.2 (lw_V q1500 q1501 q1502 q140 q1503) rfl rfl rfl (by decide +kernel) hR
theorem cl_L_55 {x : CT} {G : GT} {cc : ByteArray} {nL : Nat} {ret : Option FieldType} {R0 : Room} (X : Cx x G cc nL RL ret R0) (hR : rm_X0_fault.frames + 1 ≤ R0.frames ∧ 8 + (2 + 11) + rm_X0_fault.locals ≤ R0.locals) : CallW R0 (xs x) (xa x) RL RX0 55 yX0_fault cX0_fault 2 (some .int) (ws_ yX0_fault cX0_fault 2 (some .int)) rm_X0_fault 0 0 1 := cwV 1 X.1.2.2.2.2 (lw_V q814 q815 q816 q137 q817) rfl rfl rfl (by decide +kernel) hR
theorem cl_L_58 {x : CT} {G : GT} {cc : ByteArray} {nL : Nat} {ret : Option FieldType} {R0 : Room} (X : Cx x G cc nL RL ret R0) (hR : rm_X2_fault.frames + 1 ≤ R0.frames ∧ 8 + (2 + 11) + rm_X2_fault.locals ≤ R0.locals) : CallW R0 (xs x) (xa x) RL RX2 58 yX2_fault cX2_fault 2 (some .int) (ws_ yX2_fault cX2_fault 2 (some .int)) rm_X2_fault 0 0 1 := cwV 1 X.1.2.2.2.2 (lw_V q1634 q1635 q1636 q140 q1637) rfl rfl rfl (by decide +kernel) hR
theorem cl_L_59 {x : CT} {G : GT} {cc : ByteArray} {nL : Nat} {ret : Option FieldType} {R0 : Room} (X : Cx x G cc nL RL ret R0) (hR : rm_X0_by.frames + 1 ≤ R0.frames ∧ 8 + (2 + 11) + rm_X0_by.locals ≤ R0.locals) : CallW R0 (xs x) (xa x) RL RX0 59 yX0_by cX0_by 2 (some .boolean) (ws_ yX0_by cX0_by 2 (some .boolean)) rm_X0_by 0 0 1 := cwV 1 X.1.2.2.2.2 (lw_V q818 q819 q820 q137 q821) rfl rfl rfl (by decide +kernel) hR
theorem cl_L_62 {x : CT} {G : GT} {cc : ByteArray} {nL : Nat} {ret : Option FieldType} {R0 : Room} (X : Cx x G cc nL RL ret R0) (hR : rm_X2_by.frames + 1 ≤ R0.frames ∧ 8 + (2 + 11) + rm_X2_by.locals ≤ R0.locals) : CallW R0 (xs x) (xa x) RL RX2 62 yX2_by cX2_by 2 (some .boolean) (ws_ yX2_by cX2_by 2 (some .boolean)) rm_X2_by 0 0 1 := cwV 1 X.1.2.2.2.2 (lw_V q1638 q1639 q1640 q140 q1641) rfl rfl rfl (by decide +kernel) hR
theorem cl_L_63 {x : CT} {G : GT} {cc : ByteArray} {nL : Nat} {ret : Option FieldType} {R0 : Room} (X : Cx x G cc nL RL ret R0) (hR : rm_X0_lend.frames + 1 ≤ R0.frames ∧ 8 + (4 + 11) + rm_X0_lend.locals ≤ R0.locals) : CallW R0 (xs x) (xa x) RL RX0 63 yX0_lend cX0_lend 4 (some .boolean) (ws_ yX0_lend cX0_lend 4 (some .boolean)) rm_X0_lend 0 0 3 := cwV 3 X.1.2.2.2.2 (lw_V q826 q827 q828 q137 q829) rfl rfl rfl (by decide +kernel) hR
theorem cl_L_66 {x : CT} {G : GT} {cc : ByteArray} {nL : Nat} {ret : Option FieldType} {R0 : Room} (X : Cx x G cc nL RL ret R0) (hR : rm_X2_lend.frames + 1 ≤ R0.frames ∧ 8 + (4 + 11) + rm_X2_lend.locals ≤ R0.locals) : CallW R0 (xs x) (xa x) RL RX2 66 yX2_lend cX2_lend 4 (some .boolean) (ws_ yX2_lend cX2_lend 4 (some .boolean)) rm_X2_lend 0 0 3 := cwV 3 X.1.2.2.2.2 (lw_V q1646 q1647 q1648 q140 q1649) rfl rfl rfl (by decide +kernel) hR
theorem cl_L_67 {x : CT} {G : GT} {cc : ByteArray} {nL : Nat} {ret : Option FieldType} {R0 : Room} (X : Cx x G cc nL RL ret R0) (hR : rm_X0_weigh.frames + 1 ≤ R0.frames ∧ 8 + (2 + 11) + rm_X0_weigh.locals ≤ R0.locals) : CallW R0 (xs x) (xa x) RL RX0 67 yX0_weigh cX0_weigh 2 (some .int) (ws_ yX0_weigh cX0_weigh 2 (some .int)) rm_X0_weigh 1 6 1 := cwV 1 X.1.2.2.2.2 (lw_V q838 q839 q840 q137 q841) rfl rfl rfl (by decide +kernel) hR
theorem cl_L_70 {x : CT} {G : GT} {cc : ByteArray} {nL : Nat} {ret : Option FieldType} {R0 : Room} (X : Cx x G cc nL RL ret R0) (hR : rm_X2_weigh.frames + 1 ≤ R0.frames ∧ 8 + (2 + 11) + rm_X2_weigh.locals ≤ R0.locals) : CallW R0 (xs x) (xa x) RL RX2 70 yX2_weigh cX2_weigh 2 (some .int) (ws_ yX2_weigh cX2_weigh 2 (some .int)) rm_X2_weigh 0 0 1 := cwV 1 X.1.2.2.2.2 (lw_V q1654 q1655 q1656 q140 q1657) rfl rfl rfl (by decide +kernel) hR
theorem cl_L_71 {x : CT} {G : GT} {cc : ByteArray} {nL : Nat} {ret : Option FieldType} {R0 : Room} (X : Cx x G cc nL RL ret R0) (hR : rm_X0_lay.frames + 1 ≤ R0.frames ∧ 8 + (2 + 11) + rm_X0_lay.locals ≤ R0.locals) : CallW R0 (xs x) (xa x) RL RX0 71 yX0_lay cX0_lay 2 (some .int) (ws_ yX0_lay cX0_lay 2 (some .int)) rm_X0_lay 1 6 1 := cwV 1 X.1.2.2.2.2 (lw_V q988 q989 q990 q137 q991) rfl rfl rfl (by decide +kernel) hR
theorem cl_L_74 {x : CT} {G : GT} {cc : ByteArray} {nL : Nat} {ret : Option FieldType} {R0 : Room} (X : Cx x G cc nL RL ret R0) (hR : rm_X2_lay.frames + 1 ≤ R0.frames ∧ 8 + (2 + 11) + rm_X2_lay.locals ≤ R0.locals) : CallW R0 (xs x) (xa x) RL RX2 74 yX2_lay cX2_lay 2 (some .int) (ws_ yX2_lay cX2_lay 2 (some .int)) rm_X2_lay 0 0 1 := cwV 1 X.1.2.2.2.2 (lw_V q1694 q1695 q1696 q140 q1697) rfl rfl rfl (by decide +kernel) hR
theorem cl_L_75 {x : CT} {G : GT} {cc : ByteArray} {nL : Nat} {ret : Option FieldType} {R0 : Room} (X : Cx x G cc nL RL ret R0) (hR : rm_X0_answer.frames + 1 ≤ R0.frames ∧ 8 + (3 + 11) + rm_X0_answer.locals ≤ R0.locals) : CallW R0 (xs x) (xa x) RL RX0 75 yX0_answer cX0_answer 3 (some .int) (ws_ yX0_answer cX0_answer 3 (some .int)) rm_X0_answer 1 6 2 := cwV 2 X.1.2.2.2.2 (lw_V q1018 q1019 q1020 q137 q1021) rfl rfl rfl (by decide +kernel) hR
theorem cl_L_79 {x : CT} {G : GT} {cc : ByteArray} {nL : Nat} {ret : Option FieldType} {R0 : Room} (X : Cx x G cc nL RL ret R0) (hR : rm_X2_answer.frames + 1 ≤ R0.frames ∧ 8 + (3 + 11) + rm_X2_answer.locals ≤ R0.locals) : CallW R0 (xs x) (xa x) RL RX2 79 yX2_answer cX2_answer 3 (some .int) (ws_ yX2_answer cX2_answer 3 (some .int)) rm_X2_answer 0 0 2 := cwV 2 X.1.2.2.2.2 (lw_V q1714 q1715 q1716 q140 q1717) rfl rfl rfl (by decide +kernel) hR
theorem cl_L_80 {x : CT} {G : GT} {cc : ByteArray} {nL : Nat} {ret : Option FieldType} {R0 : Room} (X : Cx x G cc nL RL ret R0) (hR : rm_X0_judged.frames + 1 ≤ R0.frames ∧ 8 + (1 + 11) + rm_X0_judged.locals ≤ R0.locals) : CallW R0 (xs x) (xa x) RL RX0 80 yX0_judged cX0_judged 1 (some .int) (ws_ yX0_judged cX0_judged 1 (some .int)) rm_X0_judged 1 5 0 := cwV 0 X.1.2.2.2.2 (lw_V q1048 q1049 q1050 q137 q1051) rfl rfl rfl (by decide +kernel) hR
theorem cl_L_83 {x : CT} {G : GT} {cc : ByteArray} {nL : Nat} {ret : Option FieldType} {R0 : Room} (X : Cx x G cc nL RL ret R0) (hR : rm_X2_judged.frames + 1 ≤ R0.frames ∧ 8 + (1 + 11) + rm_X2_judged.locals ≤ R0.locals) : CallW R0 (xs x) (xa x) RL RX2 83 yX2_judged cX2_judged 1 (some .int) (ws_ yX2_judged cX2_judged 1 (some .int)) rm_X2_judged 0 0 0 := cwV 0 X.1.2.2.2.2 (lw_V q1734 q1735 q1736 q140 q1737) rfl rfl rfl (by decide +kernel) hR
theorem cl_L_84 {x : CT} {G : GT} {cc : ByteArray} {nL : Nat} {ret : Option FieldType} {R0 : Room} {A B : Nat} (X : Cx x G cc nL RL ret R0) (hR : (rm_X0_played A B).frames + 1 ≤ R0.frames ∧ 8 + (4 + 11) + (rm_X0_played A B).locals ≤ R0.locals) : CallW R0 (xs x) (xa x) RL RX0 84 yX0_played cX0_played 4 (some .int) (ws_ yX0_played cX0_played 4 (some .int)) (rm_X0_played A B) A B 1 := cwV 1 X.1.2.2.2.2 (lw_V q1073 q1074 q1075 q137 q1076) rfl rfl rfl (by decide +kernel) hR
theorem cl_L_87 {x : CT} {G : GT} {cc : ByteArray} {nL : Nat} {ret : Option FieldType} {R0 : Room} (X : Cx x G cc nL RL ret R0) (hR : rm_X2_played.frames + 1 ≤ R0.frames ∧ 8 + (3 + 11) + rm_X2_played.locals ≤ R0.locals) : CallW R0 (xs x) (xa x) RL RX2 87 yX2_played cX2_played 3 (some .int) (ws_ yX2_played cX2_played 3 (some .int)) rm_X2_played 0 0 1 := cwV 1 X.1.2.2.2.2 (lw_V q1754 q1755 q1756 q140 q1757) rfl rfl rfl (by decide +kernel) hR
theorem cl_L_88 {x : CT} {G : GT} {cc : ByteArray} {nL : Nat} {ret : Option FieldType} {R0 : Room} {A B : Nat} (X : Cx x G cc nL RL ret R0) (hR : (rm_X0_day A B).frames + 1 ≤ R0.frames ∧ 8 + (10 + 11) + (rm_X0_day A B).locals ≤ R0.locals) : CallW R0 (xs x) (xa x) RL RX0 88 yX0_day cX0_day 10 (some .int) (ws_ yX0_day cX0_day 10 (some .int)) (rm_X0_day A B) A B 2 := cwV 2 X.1.2.2.2.2 (lw_V q1116 q1117 q1118 q137 q1119) rfl rfl rfl (by decide +kernel) hR
theorem cl_L_92 {x : CT} {G : GT} {cc : ByteArray} {nL : Nat} {ret : Option FieldType} {R0 : Room} (X : Cx x G cc nL RL ret R0) (hR : rm_X2_day.frames + 1 ≤ R0.frames ∧ 8 + (5 + 11) + rm_X2_day.locals ≤ R0.locals) : CallW R0 (xs x) (xa x) RL RX2 92 yX2_day cX2_day 5 (some .int) (ws_ yX2_day cX2_day 5 (some .int)) rm_X2_day 0 0 2 := cwV 2 X.1.2.2.2.2 (lw_V q1770 q1771 q1772 q140 q1773) rfl rfl rfl (by decide +kernel) hR
theorem cl_L_93 {x : CT} {G : GT} {cc : ByteArray} {nL : Nat} {ret : Option FieldType} {R0 : Room} (X : Cx x G cc nL RL ret R0) (hR : rm_X0_undo.frames + 1 ≤ R0.frames ∧ 8 + (1 + 11) + rm_X0_undo.locals ≤ R0.locals) : CallW R0 (xs x) (xa x) RL RX0 93 yX0_undo cX0_undo 1 (some .int) (ws_ yX0_undo cX0_undo 1 (some .int)) rm_X0_undo 0 0 0 := cwV 0 X.1.2.2.2.2 (lw_V q1129 q1130 q1131 q137 q1132) rfl rfl rfl (by decide +kernel) hR
theorem cl_L_96 {x : CT} {G : GT} {cc : ByteArray} {nL : Nat} {ret : Option FieldType} {R0 : Room} (X : Cx x G cc nL RL ret R0) (hR : rm_X2_undo.frames + 1 ≤ R0.frames ∧ 8 + (3 + 11) + rm_X2_undo.locals ≤ R0.locals) : CallW R0 (xs x) (xa x) RL RX2 96 yX2_undo cX2_undo 3 (some .int) (ws_ yX2_undo cX2_undo 3 (some .int)) rm_X2_undo 0 0 0 := cwV 0 X.1.2.2.2.2 (lw_V q1642 q1643 q1644 q140 q1645) rfl rfl rfl (by decide +kernel) hR
theorem cl_L_97 {x : CT} {G : GT} {cc : ByteArray} {nL : Nat} {ret : Option FieldType} {R0 : Room} (X : Cx x G cc nL RL ret R0) (hR : rm_X0_scale.frames + 1 ≤ R0.frames ∧ 8 + (2 + 11) + rm_X0_scale.locals ≤ R0.locals) : CallW R0 (xs x) (xa x) RL RX0 97 yX0_scale cX0_scale 2 (some .int) (ws_ yX0_scale cX0_scale 2 (some .int)) rm_X0_scale 0 0 1 := cwV 1 X.1.2.2.2.2 (lw_V q1133 q1134 q1135 q137 q1136) rfl rfl rfl (by decide +kernel) hR
theorem cl_L_100 {x : CT} {G : GT} {cc : ByteArray} {nL : Nat} {ret : Option FieldType} {R0 : Room} (X : Cx x G cc nL RL ret R0) (hR : rm_X2_scale.frames + 1 ≤ R0.frames ∧ 8 + (2 + 11) + rm_X2_scale.locals ≤ R0.locals) : CallW R0 (xs x) (xa x) RL RX2 100 yX2_scale cX2_scale 2 (some .int) (ws_ yX2_scale cX2_scale 2 (some .int)) rm_X2_scale 0 0 1 := cwV 1 X.1.2.2.2.2 (lw_V q1786 q1787 q1788 q140 q1789) rfl rfl rfl (by decide +kernel) hR
theorem cl_L_101 {x : CT} {G : GT} {cc : ByteArray} {nL : Nat} {ret : Option FieldType} {R0 : Room} (X : Cx x G cc nL RL ret R0) (hR : rm_X0_ofHeart.frames + 1 ≤ R0.frames ∧ 8 + (3 + 11) + rm_X0_ofHeart.locals ≤ R0.locals) : CallW R0 (xs x) (xa x) RL RX0 101 yX0_ofHeart cX0_ofHeart 3 (some .int) (ws_ yX0_ofHeart cX0_ofHeart 3 (some .int)) rm_X0_ofHeart 0 0 2 := cwV 2 X.1.2.2.2.2 (lw_V q1137 q1138 q1139 q137 q1140) rfl rfl rfl (by decide +kernel) hR
theorem cl_L_104 {x : CT} {G : GT} {cc : ByteArray} {nL : Nat} {ret : Option FieldType} {R0 : Room} (X : Cx x G cc nL RL ret R0) (hR : rm_X2_ofHeart.frames + 1 ≤ R0.frames ∧ 8 + (3 + 11) + rm_X2_ofHeart.locals ≤ R0.locals) : CallW R0 (xs x) (xa x) RL RX2 104 yX2_ofHeart cX2_ofHeart 3 (some .int) (ws_ yX2_ofHeart cX2_ofHeart 3 (some .int)) rm_X2_ofHeart 0 0 2 := cwV 2 X.1.2.2.2.2 (lw_V q1790 q1791 q1792 q140 q1793) rfl rfl rfl (by decide +kernel) hR
theorem cl_L_105 {x : CT} {G : GT} {cc : ByteArray} {nL : Nat} {ret : Option FieldType} {R0 : Room} (X : Cx x G cc nL RL ret R0) (hR : rm_X0_ofDeed.frames + 1 ≤ R0.frames ∧ 8 + (3 + 11) + rm_X0_ofDeed.locals ≤ R0.locals) : CallW R0 (xs x) (xa x) RL RX0 105 yX0_ofDeed cX0_ofDeed 3 (some .int) (ws_ yX0_ofDeed cX0_ofDeed 3 (some .int)) rm_X0_ofDeed 0 0 2 := cwV 2 X.1.2.2.2.2 (lw_V q1150 q1151 q1152 q137 q1153) rfl rfl rfl (by decide +kernel) hR
theorem cl_L_108 {x : CT} {G : GT} {cc : ByteArray} {nL : Nat} {ret : Option FieldType} {R0 : Room} (X : Cx x G cc nL RL ret R0) (hR : rm_X2_ofDeed.frames + 1 ≤ R0.frames ∧ 8 + (3 + 11) + rm_X2_ofDeed.locals ≤ R0.locals) : CallW R0 (xs x) (xa x) RL RX2 108 yX2_ofDeed cX2_ofDeed 3 (some .int) (ws_ yX2_ofDeed cX2_ofDeed 3 (some .int)) rm_X2_ofDeed 0 0 2 := cwV 2 X.1.2.2.2.2 (lw_V q1802 q1803 q1804 q140 q1805) rfl rfl rfl (by decide +kernel) hR
theorem cl_L_109 {x : CT} {G : GT} {cc : ByteArray} {nL : Nat} {ret : Option FieldType} {R0 : Room} (X : Cx x G cc nL RL ret R0) (hR : rm_X0_isSo.frames + 1 ≤ R0.frames ∧ 8 + (3 + 11) + rm_X0_isSo.locals ≤ R0.locals) : CallW R0 (xs x) (xa x) RL RX0 109 yX0_isSo cX0_isSo 3 (some .int) (ws_ yX0_isSo cX0_isSo 3 (some .int)) rm_X0_isSo 0 0 2 := cwV 2 X.1.2.2.2.2 (lw_V q1154 q1155 q1156 q137 q1157) rfl rfl rfl (by decide +kernel) hR
theorem cl_L_112 {x : CT} {G : GT} {cc : ByteArray} {nL : Nat} {ret : Option FieldType} {R0 : Room} (X : Cx x G cc nL RL ret R0) (hR : rm_X2_isSo.frames + 1 ≤ R0.frames ∧ 8 + (3 + 11) + rm_X2_isSo.locals ≤ R0.locals) : CallW R0 (xs x) (xa x) RL RX2 112 yX2_isSo cX2_isSo 3 (some .int) (ws_ yX2_isSo cX2_isSo 3 (some .int)) rm_X2_isSo 0 0 2 := cwV 2 X.1.2.2.2.2 (lw_V q1806 q1807 q1808 q140 q1809) rfl rfl rfl (by decide +kernel) hR
theorem cl_L_113 {x : CT} {G : GT} {cc : ByteArray} {nL : Nat} {ret : Option FieldType} {R0 : Room} (X : Cx x G cc nL RL ret R0) (hR : rm_X0_book.frames + 1 ≤ R0.frames ∧ 8 + (3 + 11) + rm_X0_book.locals ≤ R0.locals) : CallW R0 (xs x) (xa x) RL RX0 113 yX0_book cX0_book 3 (some .int) (ws_ yX0_book cX0_book 3 (some .int)) rm_X0_book 0 0 2 := cwV 2 X.1.2.2.2.2 (lw_V q1158 q1159 q1160 q137 q1161) rfl rfl rfl (by decide +kernel) hR
theorem cl_L_116 {x : CT} {G : GT} {cc : ByteArray} {nL : Nat} {ret : Option FieldType} {R0 : Room} (X : Cx x G cc nL RL ret R0) (hR : rm_X2_book.frames + 1 ≤ R0.frames ∧ 8 + (4 + 11) + rm_X2_book.locals ≤ R0.locals) : CallW R0 (xs x) (xa x) RL RX2 116 yX2_book cX2_book 4 (some .int) (ws_ yX2_book cX2_book 4 (some .int)) rm_X2_book 0 0 2 := cwV 2 X.1.2.2.2.2 (lw_V q1810 q1811 q1812 q140 q1813) rfl rfl rfl (by decide +kernel) hR
theorem cl_L_117 {x : CT} {G : GT} {cc : ByteArray} {nL : Nat} {ret : Option FieldType} {R0 : Room} (X : Cx x G cc nL RL ret R0) (hR : rm_X0_lightest.frames + 1 ≤ R0.frames ∧ 8 + (4 + 11) + rm_X0_lightest.locals ≤ R0.locals) : CallW R0 (xs x) (xa x) RL RX0 117 yX0_lightest cX0_lightest 4 (some .int) (ws_ yX0_lightest cX0_lightest 4 (some .int)) rm_X0_lightest 0 0 3 := cwV 3 X.1.2.2.2.2 (lw_V q1162 q1163 q1164 q137 q1165) rfl rfl rfl (by decide +kernel) hR
theorem cl_L_121 {x : CT} {G : GT} {cc : ByteArray} {nL : Nat} {ret : Option FieldType} {R0 : Room} (X : Cx x G cc nL RL ret R0) (hR : rm_X2_lightest.frames + 1 ≤ R0.frames ∧ 8 + (6 + 11) + rm_X2_lightest.locals ≤ R0.locals) : CallW R0 (xs x) (xa x) RL RX2 121 yX2_lightest cX2_lightest 6 (some .int) (ws_ yX2_lightest cX2_lightest 6 (some .int)) rm_X2_lightest 0 0 3 := cwV 3 X.1.2.2.2.2 (lw_V q1814 q1815 q1816 q140 q1817) rfl rfl rfl (by decide +kernel) hR
theorem cl_L_122 {x : CT} {G : GT} {cc : ByteArray} {nL : Nat} {ret : Option FieldType} {R0 : Room} (X : Cx x G cc nL RL ret R0) (hR : rm_X0_passing.frames + 1 ≤ R0.frames ∧ 8 + (3 + 11) + rm_X0_passing.locals ≤ R0.locals) : CallW R0 (xs x) (xa x) RL RX0 122 yX0_passing cX0_passing 3 (some .int) (ws_ yX0_passing cX0_passing 3 (some .int)) rm_X0_passing 0 0 2 := cwV 2 X.1.2.2.2.2 (lw_V q1184 q1185 q1186 q137 q1187) rfl rfl rfl (by decide +kernel) hR
theorem cl_L_125 {x : CT} {G : GT} {cc : ByteArray} {nL : Nat} {ret : Option FieldType} {R0 : Room} (X : Cx x G cc nL RL ret R0) (hR : rm_X2_passing.frames + 1 ≤ R0.frames ∧ 8 + (6 + 11) + rm_X2_passing.locals ≤ R0.locals) : CallW R0 (xs x) (xa x) RL RX2 125 yX2_passing cX2_passing 6 (some .int) (ws_ yX2_passing cX2_passing 6 (some .int)) rm_X2_passing 0 0 2 := cwV 2 X.1.2.2.2.2 (lw_V q1846 q1847 q1848 q140 q1849) rfl rfl rfl (by decide +kernel) hR
theorem cl_L_126 {x : CT} {G : GT} {cc : ByteArray} {nL : Nat} {ret : Option FieldType} {R0 : Room} (X : Cx x G cc nL RL ret R0) (hR : rm_X0_orderless.frames + 1 ≤ R0.frames ∧ 8 + (2 + 11) + rm_X0_orderless.locals ≤ R0.locals) : CallW R0 (xs x) (xa x) RL RX0 126 yX0_orderless cX0_orderless 2 (some .int) (ws_ yX0_orderless cX0_orderless 2 (some .int)) rm_X0_orderless 0 0 1 := cwV 1 X.1.2.2.2.2 (lw_V q1188 q1189 q1190 q137 q1191) rfl rfl rfl (by decide +kernel) hR
theorem cl_L_129 {x : CT} {G : GT} {cc : ByteArray} {nL : Nat} {ret : Option FieldType} {R0 : Room} (X : Cx x G cc nL RL ret R0) (hR : rm_X2_orderless.frames + 1 ≤ R0.frames ∧ 8 + (3 + 11) + rm_X2_orderless.locals ≤ R0.locals) : CallW R0 (xs x) (xa x) RL RX2 129 yX2_orderless cX2_orderless 3 (some .int) (ws_ yX2_orderless cX2_orderless 3 (some .int)) rm_X2_orderless 0 0 1 := cwV 1 X.1.2.2.2.2 (lw_V q1850 q1851 q1852 q140 q1853) rfl rfl rfl (by decide +kernel) hR
theorem cl_L_130 {x : CT} {G : GT} {cc : ByteArray} {nL : Nat} {ret : Option FieldType} {R0 : Room} (X : Cx x G cc nL RL ret R0) (hR : rm_X0_sticking.frames + 1 ≤ R0.frames ∧ 8 + (5 + 11) + rm_X0_sticking.locals ≤ R0.locals) : CallW R0 (xs x) (xa x) RL RX0 130 yX0_sticking cX0_sticking 5 (some .int) (ws_ yX0_sticking cX0_sticking 5 (some .int)) rm_X0_sticking 0 0 1 := cwV 1 X.1.2.2.2.2 (lw_V q1196 q1197 q1198 q137 q1199) rfl rfl rfl (by decide +kernel) hR
theorem cl_L_133 {x : CT} {G : GT} {cc : ByteArray} {nL : Nat} {ret : Option FieldType} {R0 : Room} (X : Cx x G cc nL RL ret R0) (hR : rm_X2_sticking.frames + 1 ≤ R0.frames ∧ 8 + (3 + 11) + rm_X2_sticking.locals ≤ R0.locals) : CallW R0 (xs x) (xa x) RL RX2 133 yX2_sticking cX2_sticking 3 (some .int) (ws_ yX2_sticking cX2_sticking 3 (some .int)) rm_X2_sticking 0 0 1 := cwV 1 X.1.2.2.2.2 (lw_V q1858 q1859 q1860 q140 q1861) rfl rfl rfl (by decide +kernel) hR
theorem cl_L_134 {x : CT} {G : GT} {cc : ByteArray} {nL : Nat} {ret : Option FieldType} {R0 : Room} (X : Cx x G cc nL RL ret R0) (hR : rm_X0_truly.frames + 1 ≤ R0.frames ∧ 8 + (4 + 11) + rm_X0_truly.locals ≤ R0.locals) : CallW R0 (xs x) (xa x) RL RX0 134 yX0_truly cX0_truly 4 (some .int) (ws_ yX0_truly cX0_truly 4 (some .int)) rm_X0_truly 0 0 1 := cwV 1 X.1.2.2.2.2 (lw_V q1200 q1201 q1202 q137 q1203) rfl rfl rfl (by decide +kernel) hR
theorem cl_L_137 {x : CT} {G : GT} {cc : ByteArray} {nL : Nat} {ret : Option FieldType} {R0 : Room} (X : Cx x G cc nL RL ret R0) (hR : rm_X2_truly.frames + 1 ≤ R0.frames ∧ 8 + (4 + 11) + rm_X2_truly.locals ≤ R0.locals) : CallW R0 (xs x) (xa x) RL RX2 137 yX2_truly cX2_truly 4 (some .int) (ws_ yX2_truly cX2_truly 4 (some .int)) rm_X2_truly 0 0 1 := cwV 1 X.1.2.2.2.2 (lw_V q1862 q1863 q1864 q140 q1865) rfl rfl rfl (by decide +kernel) hR
theorem cl_L_138 {x : CT} {G : GT} {cc : ByteArray} {nL : Nat} {ret : Option FieldType} {R0 : Room} {A B : Nat} (X : Cx x G cc nL RL ret R0) (hR : (rm_X0_lies A B).frames + 1 ≤ R0.frames ∧ 8 + (6 + 11) + (rm_X0_lies A B).locals ≤ R0.locals) : CallW R0 (xs x) (xa x) RL RX0 138 yX0_lies cX0_lies 6 (some .int) (ws_ yX0_lies cX0_lies 6 (some .int)) (rm_X0_lies A B) A B 2 := cwV 2 X.1.2.2.2.2 (lw_V q1204 q1205 q1206 q137 q1207) rfl rfl rfl (by decide +kernel) hR
theorem cl_L_141 {x : CT} {G : GT} {cc : ByteArray} {nL : Nat} {ret : Option FieldType} {R0 : Room} (X : Cx x G cc nL RL ret R0) (hR : rm_X2_lies.frames + 1 ≤ R0.frames ∧ 8 + (6 + 11) + rm_X2_lies.locals ≤ R0.locals) : CallW R0 (xs x) (xa x) RL RX2 141 yX2_lies cX2_lies 6 (some .int) (ws_ yX2_lies cX2_lies 6 (some .int)) rm_X2_lies 0 0 2 := cwV 2 X.1.2.2.2.2 (lw_V q1866 q1867 q1868 q140 q1869) rfl rfl rfl (by decide +kernel) hR
theorem cl_L_142 {x : CT} {G : GT} {cc : ByteArray} {nL : Nat} {ret : Option FieldType} {R0 : Room} (X : Cx x G cc nL RL ret R0) (hR : rm_X0_lending.frames + 1 ≤ R0.frames ∧ 8 + (3 + 11) + rm_X0_lending.locals ≤ R0.locals) : CallW R0 (xs x) (xa x) RL RX0 142 yX0_lending cX0_lending 3 (some .int) (ws_ yX0_lending cX0_lending 3 (some .int)) rm_X0_lending 0 0 2 := cwV 2 X.1.2.2.2.2 (lw_V q1213 q1214 q1215 q137 q1216) rfl rfl rfl (by decide +kernel) hR
theorem cl_L_145 {x : CT} {G : GT} {cc : ByteArray} {nL : Nat} {ret : Option FieldType} {R0 : Room} (X : Cx x G cc nL RL ret R0) (hR : rm_X2_lending.frames + 1 ≤ R0.frames ∧ 8 + (6 + 11) + rm_X2_lending.locals ≤ R0.locals) : CallW R0 (xs x) (xa x) RL RX2 145 yX2_lending cX2_lending 6 (some .int) (ws_ yX2_lending cX2_lending 6 (some .int)) rm_X2_lending 0 0 2 := cwV 2 X.1.2.2.2.2 (lw_V q1875 q1876 q1877 q140 q1878) rfl rfl rfl (by decide +kernel) hR
theorem cl_L_146 {x : CT} {G : GT} {cc : ByteArray} {nL : Nat} {ret : Option FieldType} {R0 : Room} (X : Cx x G cc nL RL ret R0) (hR : rm_X0_whoCannot.frames + 1 ≤ R0.frames ∧ 8 + (1 + 11) + rm_X0_whoCannot.locals ≤ R0.locals) : CallW R0 (xs x) (xa x) RL RX0 146 yX0_whoCannot cX0_whoCannot 1 (some .int) (ws_ yX0_whoCannot cX0_whoCannot 1 (some .int)) rm_X0_whoCannot 0 0 0 := cwV 0 X.1.2.2.2.2 (lw_V q1237 q1238 q1239 q137 q1240) rfl rfl rfl (by decide +kernel) hR
theorem cl_L_149 {x : CT} {G : GT} {cc : ByteArray} {nL : Nat} {ret : Option FieldType} {R0 : Room} (X : Cx x G cc nL RL ret R0) (hR : rm_X2_whoCannot.frames + 1 ≤ R0.frames ∧ 8 + (1 + 11) + rm_X2_whoCannot.locals ≤ R0.locals) : CallW R0 (xs x) (xa x) RL RX2 149 yX2_whoCannot cX2_whoCannot 1 (some .int) (ws_ yX2_whoCannot cX2_whoCannot 1 (some .int)) rm_X2_whoCannot 0 0 0 := cwV 0 X.1.2.2.2.2 (lw_V q1899 q1900 q1901 q140 q1902) rfl rfl rfl (by decide +kernel) hR
theorem cl_L_150 {x : CT} {G : GT} {cc : ByteArray} {nL : Nat} {ret : Option FieldType} {R0 : Room} (X : Cx x G cc nL RL ret R0) (hR : rm_X0_kindness.frames + 1 ≤ R0.frames ∧ 8 + (6 + 11) + rm_X0_kindness.locals ≤ R0.locals) : CallW R0 (xs x) (xa x) RL RX0 150 yX0_kindness cX0_kindness 6 (some .int) (ws_ yX0_kindness cX0_kindness 6 (some .int)) rm_X0_kindness 0 0 1 := cwV 1 X.1.2.2.2.2 (lw_V q1241 q1242 q1243 q137 q1244) rfl rfl rfl (by decide +kernel) hR
theorem cl_L_153 {x : CT} {G : GT} {cc : ByteArray} {nL : Nat} {ret : Option FieldType} {R0 : Room} (X : Cx x G cc nL RL ret R0) (hR : rm_X2_kindness.frames + 1 ≤ R0.frames ∧ 8 + (6 + 11) + rm_X2_kindness.locals ≤ R0.locals) : CallW R0 (xs x) (xa x) RL RX2 153 yX2_kindness cX2_kindness 6 (some .int) (ws_ yX2_kindness cX2_kindness 6 (some .int)) rm_X2_kindness 0 0 1 := cwV 1 X.1.2.2.2.2 (lw_V q1903 q1904 q1905 q140 q1906) rfl rfl rfl (by decide +kernel) hR
theorem cl_L_154 {x : CT} {G : GT} {cc : ByteArray} {nL : Nat} {ret : Option FieldType} {R0 : Room} (X : Cx x G cc nL RL ret R0) (hR : rm_X0_known.frames + 1 ≤ R0.frames ∧ 8 + (3 + 11) + rm_X0_known.locals ≤ R0.locals) : CallW R0 (xs x) (xa x) RL RX0 154 yX0_known cX0_known 3 (some .int) (ws_ yX0_known cX0_known 3 (some .int)) rm_X0_known 0 0 2 := cwV 2 X.1.2.2.2.2 (lw_V q1249 q1250 q1251 q137 q1252) rfl rfl rfl (by decide +kernel) hR
theorem cl_L_157 {x : CT} {G : GT} {cc : ByteArray} {nL : Nat} {ret : Option FieldType} {R0 : Room} (X : Cx x G cc nL RL ret R0) (hR : rm_X2_known.frames + 1 ≤ R0.frames ∧ 8 + (3 + 11) + rm_X2_known.locals ≤ R0.locals) : CallW R0 (xs x) (xa x) RL RX2 157 yX2_known cX2_known 3 (some .int) (ws_ yX2_known cX2_known 3 (some .int)) rm_X2_known 0 0 2 := cwV 2 X.1.2.2.2.2 (lw_V q1907 q1908 q1909 q140 q1910) rfl rfl rfl (by decide +kernel) hR
theorem cl_L_158 {x : CT} {G : GT} {cc : ByteArray} {nL : Nat} {ret : Option FieldType} {R0 : Room} (X : Cx x G cc nL RL ret R0) (hR : rm_X0_fit.frames + 1 ≤ R0.frames ∧ 8 + (3 + 11) + rm_X0_fit.locals ≤ R0.locals) : CallW R0 (xs x) (xa x) RL RX0 158 yX0_fit cX0_fit 3 (some .int) (ws_ yX0_fit cX0_fit 3 (some .int)) rm_X0_fit 0 0 0 := cwV 0 X.1.2.2.2.2 (lw_V q1253 q1254 q1255 q137 q1256) rfl rfl rfl (by decide +kernel) hR
theorem cl_L_161 {x : CT} {G : GT} {cc : ByteArray} {nL : Nat} {ret : Option FieldType} {R0 : Room} (X : Cx x G cc nL RL ret R0) (hR : rm_X2_fit.frames + 1 ≤ R0.frames ∧ 8 + (3 + 11) + rm_X2_fit.locals ≤ R0.locals) : CallW R0 (xs x) (xa x) RL RX2 161 yX2_fit cX2_fit 3 (some .int) (ws_ yX2_fit cX2_fit 3 (some .int)) rm_X2_fit 0 0 0 := cwV 0 X.1.2.2.2.2 (lw_V q1911 q1912 q1913 q140 q1914) rfl rfl rfl (by decide +kernel) hR
theorem cl_L_162 {x : CT} {G : GT} {cc : ByteArray} {nL : Nat} {ret : Option FieldType} {R0 : Room} (X : Cx x G cc nL RL ret R0) (hR : rm_X0_smallest.frames + 1 ≤ R0.frames ∧ 8 + (7 + 11) + rm_X0_smallest.locals ≤ R0.locals) : CallW R0 (xs x) (xa x) RL RX0 162 yX0_smallest cX0_smallest 7 (some .int) (ws_ yX0_smallest cX0_smallest 7 (some .int)) rm_X0_smallest 0 0 1 := cwV 1 X.1.2.2.2.2 (lw_V q1261 q1262 q1263 q137 q1264) rfl rfl rfl (by decide +kernel) hR
theorem cl_L_165 {x : CT} {G : GT} {cc : ByteArray} {nL : Nat} {ret : Option FieldType} {R0 : Room} (X : Cx x G cc nL RL ret R0) (hR : rm_X2_smallest.frames + 1 ≤ R0.frames ∧ 8 + (7 + 11) + rm_X2_smallest.locals ≤ R0.locals) : CallW R0 (xs x) (xa x) RL RX2 165 yX2_smallest cX2_smallest 7 (some .int) (ws_ yX2_smallest cX2_smallest 7 (some .int)) rm_X2_smallest 0 0 1 := cwV 1 X.1.2.2.2.2 (lw_V q1919 q1920 q1921 q140 q1922) rfl rfl rfl (by decide +kernel) hR
theorem cl_L_166 {x : CT} {G : GT} {cc : ByteArray} {nL : Nat} {ret : Option FieldType} {R0 : Room} (X : Cx x G cc nL RL ret R0) (hR : rm_X0_tells.frames + 1 ≤ R0.frames ∧ 8 + (6 + 11) + rm_X0_tells.locals ≤ R0.locals) : CallW R0 (xs x) (xa x) RL RX0 166 yX0_tells cX0_tells 6 (some .int) (ws_ yX0_tells cX0_tells 6 (some .int)) rm_X0_tells 0 0 0 := cwV 0 X.1.2.2.2.2 (lw_V q1277 q1278 q1279 q137 q1280) rfl rfl rfl (by decide +kernel) hR
theorem cl_L_169 {x : CT} {G : GT} {cc : ByteArray} {nL : Nat} {ret : Option FieldType} {R0 : Room} (X : Cx x G cc nL RL ret R0) (hR : rm_X2_tells.frames + 1 ≤ R0.frames ∧ 8 + (6 + 11) + rm_X2_tells.locals ≤ R0.locals) : CallW R0 (xs x) (xa x) RL RX2 169 yX2_tells cX2_tells 6 (some .int) (ws_ yX2_tells cX2_tells 6 (some .int)) rm_X2_tells 0 0 0 := cwV 0 X.1.2.2.2.2 (lw_V q1935 q1936 q1937 q140 q1938) rfl rfl rfl (by decide +kernel) hR
theorem cl_L_170 {x : CT} {G : GT} {cc : ByteArray} {nL : Nat} {ret : Option FieldType} {R0 : Room} (X : Cx x G cc nL RL ret R0) (hR : rm_X0_should.frames + 1 ≤ R0.frames ∧ 8 + (2 + 11) + rm_X0_should.locals ≤ R0.locals) : CallW R0 (xs x) (xa x) RL RX0 170 yX0_should cX0_should 2 (some .boolean) (ws_ yX0_should cX0_should 2 (some .boolean)) rm_X0_should 0 0 1 := cwV 1 X.1.2.2.2.2 (lw_V q1286 q1287 q1288 q137 q1289) rfl rfl rfl (by decide +kernel) hR
theorem cl_L_173 {x : CT} {G : GT} {cc : ByteArray} {nL : Nat} {ret : Option FieldType} {R0 : Room} (X : Cx x G cc nL RL ret R0) (hR : rm_X2_should.frames + 1 ≤ R0.frames ∧ 8 + (2 + 11) + rm_X2_should.locals ≤ R0.locals) : CallW R0 (xs x) (xa x) RL RX2 173 yX2_should cX2_should 2 (some .boolean) (ws_ yX2_should cX2_should 2 (some .boolean)) rm_X2_should 0 0 1 := cwV 1 X.1.2.2.2.2 (lw_V q1944 q1945 q1946 q140 q1947) rfl rfl rfl (by decide +kernel) hR
theorem cl_L_174 {x : CT} {G : GT} {cc : ByteArray} {nL : Nat} {ret : Option FieldType} {R0 : Room} (X : Cx x G cc nL RL ret R0) (hR : rm_X0_featherForAll.frames + 1 ≤ R0.frames ∧ 8 + (8 + 11) + rm_X0_featherForAll.locals ≤ R0.locals) : CallW R0 (xs x) (xa x) RL RX0 174 yX0_featherForAll cX0_featherForAll 8 (some .int) (ws_ yX0_featherForAll cX0_featherForAll 8 (some .int)) rm_X0_featherForAll 1 6 1 := cwV 1 X.1.2.2.2.2 (lw_V q1290 q1291 q1292 q137 q1293) rfl rfl rfl (by decide +kernel) hR
theorem cl_L_178 {x : CT} {G : GT} {cc : ByteArray} {nL : Nat} {ret : Option FieldType} {R0 : Room} (X : Cx x G cc nL RL ret R0) (hR : rm_X2_featherForAll.frames + 1 ≤ R0.frames ∧ 8 + (7 + 11) + rm_X2_featherForAll.locals ≤ R0.locals) : CallW R0 (xs x) (xa x) RL RX2 178 yX2_featherForAll cX2_featherForAll 7 (some .int) (ws_ yX2_featherForAll cX2_featherForAll 7 (some .int)) rm_X2_featherForAll 0 0 1 := cwV 1 X.1.2.2.2.2 (lw_V q1948 q1949 q1950 q140 q1951) rfl rfl rfl (by decide +kernel) hR
theorem cl_L_179 {x : CT} {G : GT} {cc : ByteArray} {nL : Nat} {ret : Option FieldType} {R0 : Room} (X : Cx x G cc nL RL ret R0) (hR : rm_X0_odds.frames + 1 ≤ R0.frames ∧ 8 + (4 + 11) + rm_X0_odds.locals ≤ R0.locals) : CallW R0 (xs x) (xa x) RL RX0 179 yX0_odds cX0_odds 4 (some .long) (ws_ yX0_odds cX0_odds 4 (some .long)) rm_X0_odds 0 0 3 := cwV 3 X.1.2.2.2.2 (lw_V q1294 q1295 q1296 q137 q1297) rfl rfl rfl (by decide +kernel) hR
theorem cl_L_183 {x : CT} {G : GT} {cc : ByteArray} {nL : Nat} {ret : Option FieldType} {R0 : Room} (X : Cx x G cc nL RL ret R0) (hR : rm_X2_odds.frames + 1 ≤ R0.frames ∧ 8 + (8 + 11) + rm_X2_odds.locals ≤ R0.locals) : CallW R0 (xs x) (xa x) RL RX2 183 yX2_odds cX2_odds 8 (some .long) (ws_ yX2_odds cX2_odds 8 (some .long)) rm_X2_odds 0 0 3 := cwV 3 X.1.2.2.2.2 (lw_V q1952 q1953 q1954 q140 q1955) rfl rfl rfl (by decide +kernel) hR
theorem cl_L_184 {x : CT} {G : GT} {cc : ByteArray} {nL : Nat} {ret : Option FieldType} {R0 : Room} (X : Cx x G cc nL RL ret R0) (hR : rm_X0_often.frames + 1 ≤ R0.frames ∧ 8 + (4 + 11) + rm_X0_often.locals ≤ R0.locals) : CallW R0 (xs x) (xa x) RL RX0 184 yX0_often cX0_often 4 (some .int) (ws_ yX0_often cX0_often 4 (some .int)) rm_X0_often 0 0 2 := cwV 2 X.1.2.2.2.2 (lw_V q1316 q1317 q1318 q137 q1319) rfl rfl rfl (by decide +kernel) hR
theorem cl_L_187 {x : CT} {G : GT} {cc : ByteArray} {nL : Nat} {ret : Option FieldType} {R0 : Room} (X : Cx x G cc nL RL ret R0) (hR : rm_X2_often.frames + 1 ≤ R0.frames ∧ 8 + (4 + 11) + rm_X2_often.locals ≤ R0.locals) : CallW R0 (xs x) (xa x) RL RX2 187 yX2_often cX2_often 4 (some .int) (ws_ yX2_often cX2_often 4 (some .int)) rm_X2_often 0 0 2 := cwV 2 X.1.2.2.2.2 (lw_V q1971 q1972 q1973 q140 q1974) rfl rfl rfl (by decide +kernel) hR
theorem cl_L_188 {x : CT} {G : GT} {cc : ByteArray} {nL : Nat} {ret : Option FieldType} {R0 : Room} (X : Cx x G cc nL RL ret R0) (hR : rm_X0_image.frames + 1 ≤ R0.frames ∧ 8 + (1 + 11) + rm_X0_image.locals ≤ R0.locals) : CallW R0 (xs x) (xa x) RL RX0 188 yX0_image cX0_image 1 (some .int) (ws_ yX0_image cX0_image 1 (some .int)) rm_X0_image 0 0 0 := cwV 0 X.1.2.2.2.2 (lw_V q1321 q1322 q1323 q137 q1324) rfl rfl rfl (by decide +kernel) hR
theorem cl_L_191 {x : CT} {G : GT} {cc : ByteArray} {nL : Nat} {ret : Option FieldType} {R0 : Room} (X : Cx x G cc nL RL ret R0) (hR : rm_X2_image.frames + 1 ≤ R0.frames ∧ 8 + (1 + 11) + rm_X2_image.locals ≤ R0.locals) : CallW R0 (xs x) (xa x) RL RX2 191 yX2_image cX2_image 1 (some .int) (ws_ yX2_image cX2_image 1 (some .int)) rm_X2_image 0 0 0 := cwV 0 X.1.2.2.2.2 (lw_V q1976 q1977 q1978 q140 q1979) rfl rfl rfl (by decide +kernel) hR
theorem cl_L_192 {x : CT} {G : GT} {cc : ByteArray} {nL : Nat} {ret : Option FieldType} {R0 : Room} (X : Cx x G cc nL RL ret R0) (hR : rm_X0_back.frames + 1 ≤ R0.frames ∧ 8 + (1 + 11) + rm_X0_back.locals ≤ R0.locals) : CallW R0 (xs x) (xa x) RL RX0 192 yX0_back cX0_back 1 (some .int) (ws_ yX0_back cX0_back 1 (some .int)) rm_X0_back 0 0 0 := cwV 0 X.1.2.2.2.2 (lw_V q1325 q1326 q1327 q137 q1328) rfl rfl rfl (by decide +kernel) hR
theorem cl_L_195 {x : CT} {G : GT} {cc : ByteArray} {nL : Nat} {ret : Option FieldType} {R0 : Room} (X : Cx x G cc nL RL ret R0) (hR : rm_X2_back.frames + 1 ≤ R0.frames ∧ 8 + (1 + 11) + rm_X2_back.locals ≤ R0.locals) : CallW R0 (xs x) (xa x) RL RX2 195 yX2_back cX2_back 1 (some .int) (ws_ yX2_back cX2_back 1 (some .int)) rm_X2_back 0 0 0 := cwV 0 X.1.2.2.2.2 (lw_V q1980 q1981 q1982 q140 q1983) rfl rfl rfl (by decide +kernel) hR
theorem cl_L_196 {x : CT} {G : GT} {cc : ByteArray} {nL : Nat} {ret : Option FieldType} {R0 : Room} (X : Cx x G cc nL RL ret R0) (hR : rm_X0_about.frames + 1 ≤ R0.frames ∧ 8 + (2 + 11) + rm_X0_about.locals ≤ R0.locals) : CallW R0 (xs x) (xa x) RL RX0 196 yX0_about cX0_about 2 (some .int) (ws_ yX0_about cX0_about 2 (some .int)) rm_X0_about 0 0 1 := cwV 1 X.1.2.2.2.2 (lw_V q1329 q1330 q1331 q137 q1332) rfl rfl rfl (by decide +kernel) hR
theorem cl_L_199 {x : CT} {G : GT} {cc : ByteArray} {nL : Nat} {ret : Option FieldType} {R0 : Room} (X : Cx x G cc nL RL ret R0) (hR : rm_X2_about.frames + 1 ≤ R0.frames ∧ 8 + (2 + 11) + rm_X2_about.locals ≤ R0.locals) : CallW R0 (xs x) (xa x) RL RX2 199 yX2_about cX2_about 2 (some .int) (ws_ yX2_about cX2_about 2 (some .int)) rm_X2_about 0 0 1 := cwV 1 X.1.2.2.2.2 (lw_V q1984 q1985 q1986 q140 q1987) rfl rfl rfl (by decide +kernel) hR
theorem tl_L_law_18 {x : CT} {G : GT} (X : Cx x G code 4 RL (some .boolean) room_1) (hph : kP G = 1) {b : Nat} (ha : xa x = #[Value.ref b]) (hk : kS G = (xs x).heap.size) (hfl : (xl x).stackTraces = false) (Q : Int32 → PS → Prop) (v0 : Nat) : ∀ (n : Nat) (v3 : Int32) (ce : Nat) (sl : Nat) (s : PS) (h : l_L_law_18 G Q v0 n v3 ce sl s), WB x G 4 (QfW x) ce sl s 18 [(0, .ref v0), (1, .ref (kB G + 0)), (2, .ref (kB G + 182)), (3, .int v3)] [] := by
  intro n
  induction n with
  | zero =>
    intro v3 ce sl s h
    exact False.elim h
  | succ n ih =>
    intro v3 ce sl s h
    unfold l_L_law_18 at h
    refine r_iload_n X 3 dL_law_18 rfl rfl ?_
    refine r_aload_n X 0 dL_law_19 rfl rfl ?_
    obtain ⟨g1, h⟩ := h
    refine r_alenM X g1 (by decide) dL_law_20 ?_
    refine r_bipush (v := 6) X dL_law_21 rfl ?_
    refine r_isub X dL_law_23 ?_
    refine r_ic_gt X 1507 dL_law_24 (by decide) (fun c2 => ?_) (fun c2 => ?_)
    · replace h := h.1 c2
      refine r_iconst (v := 1) X dL_law_1507 rfl ?_
      obtain ⟨g3, h⟩ := h
      exact r_wret X ha hk rfl g3.1 g3.2 dL_law_1508
    · replace h := h.2 c2
      refine r_aload_n X 0 dL_law_27 rfl rfl ?_
      refine r_iload_n X 3 dL_law_28 rfl rfl ?_
      obtain ⟨g4, h⟩ := h
      refine r_ialdM X g1 g4 dL_law_29 ?_
      refine r_bipush (v := 63) X dL_law_30 rfl ?_
      refine r_iand X dL_law_32 ?_
      refine r_nmI (fun y5 e6 => ?_)
      replace h := h y5 e6
      by_cases c7 : y5 = 0
      · replace h := h.1 c7
        refine r_tin X 224 dL_law_33 0 c7 (by decide) (by decide) rfl (by decide) ?_
        refine r_aload_n X 1 dL_law_224 rfl rfl ?_
        refine r_aload_n X 0 dL_law_225 rfl rfl ?_
        refine r_iload_n X 3 dL_law_226 rfl rfl ?_
        refine r_iconst (v := 1) X dL_law_227 rfl ?_
        refine r_iadd X dL_law_228 ?_
        obtain ⟨g8, h⟩ := h
        refine r_ialdM X g1 g8 dL_law_229 ?_
        obtain ⟨g9, h⟩ := h
        refine r_ci X (r_okVL (As := [.int (gI s v0 (Int32.toNatClampNeg (v3 + 1)))]) (rest := []) X (m_X0_heart (xl x) G X.2.2.2.2.1 hph (gI s v0 (Int32.toNatClampNeg (v3 + 1))) s _ h) (cl_L_13 X ⟨(Nat.le_of_ble_eq_true rfl), (Nat.le_of_ble_eq_true rfl)⟩) hph 0 ly_0 rfl rfl rfl rfl (Nat.le_of_ble_eq_true rfl) dL_law_230 g9) (fun r11 s10 h => ?_)
        refine r_aload_n X 2 dL_law_233 rfl rfl ?_
        refine r_aload_n X 0 dL_law_234 rfl rfl ?_
        refine r_iload_n X 3 dL_law_235 rfl rfl ?_
        refine r_iconst (v := 1) X dL_law_236 rfl ?_
        refine r_iadd X dL_law_237 ?_
        obtain ⟨g12, h⟩ := h
        obtain ⟨g13, h⟩ := h
        refine r_ialdM X g12 g13 dL_law_238 ?_
        obtain ⟨g14, h⟩ := h
        refine r_ci X (r_okVL (As := [.int (gI s10 v0 (Int32.toNatClampNeg (v3 + 1)))]) (rest := [.int r11]) X (m_X2_heart (xl x) G X.2.2.2.2.1 hph (gI s10 v0 (Int32.toNatClampNeg (v3 + 1))) s10 _ h) (cl_L_17 X ⟨(Nat.le_of_ble_eq_true rfl), (Nat.le_of_ble_eq_true rfl)⟩) hph 2 ly_182 rfl rfl rfl rfl (Nat.le_of_ble_eq_true rfl) dL_law_239 g14) (fun r16 s15 h => ?_)
        refine r_ic_eq X 1501 dL_law_242 (by decide) (fun c17 => ?_) (fun c17 => ?_)
        · replace h := h.1 c17
          refine r_iinc (lv' := [(3, .int (v3 + 6)), (0, .ref v0), (1, .ref (kB G + 0)), (2, .ref (kB G + 182))]) X 3 dL_law_1501 rfl rfl (Nat.le_of_ble_eq_true rfl) rfl ?_
          refine r_goto X 18 dL_law_1504 (by decide) ?_
          refine r_sub [1, 2, 3, 0] rfl ?_
          exact ih (v3 + 6) ((ce + 0) + 0) ((sl + 0) + 0) s15 h
        · replace h := h.2 c17
          refine r_iconst (v := 0) X dL_law_245 rfl ?_
          obtain ⟨g18, h⟩ := h
          obtain ⟨g19, h⟩ := h
          exact r_wret X ha hk g18 g19.1 g19.2 dL_law_246
      · replace h := h.2 c7
        by_cases c20 : y5 = 1
        · replace h := h.1 c20
          refine r_tin X 247 dL_law_33 1 c20 (by decide) (by decide) rfl (by decide) ?_
          refine r_aload_n X 1 dL_law_247 rfl rfl ?_
          refine r_aload_n X 0 dL_law_248 rfl rfl ?_
          refine r_iload_n X 3 dL_law_249 rfl rfl ?_
          refine r_iconst (v := 1) X dL_law_250 rfl ?_
          refine r_iadd X dL_law_251 ?_
          obtain ⟨g21, h⟩ := h
          refine r_ialdM X g1 g21 dL_law_252 ?_
          refine r_aload_n X 0 dL_law_253 rfl rfl ?_
          refine r_iload_n X 3 dL_law_254 rfl rfl ?_
          refine r_iconst (v := 2) X dL_law_255 rfl ?_
          refine r_iadd X dL_law_256 ?_
          obtain ⟨g22, h⟩ := h
          refine r_ialdM X g1 g22 dL_law_257 ?_
          refine r_aload_n X 0 dL_law_258 rfl rfl ?_
          refine r_iload_n X 3 dL_law_259 rfl rfl ?_
          refine r_iconst (v := 3) X dL_law_260 rfl ?_
          refine r_iadd X dL_law_261 ?_
          obtain ⟨g23, h⟩ := h
          refine r_ialdM X g1 g23 dL_law_262 ?_
          refine r_aload_n X 0 dL_law_263 rfl rfl ?_
          refine r_iload_n X 3 dL_law_264 rfl rfl ?_
          refine r_iconst (v := 4) X dL_law_265 rfl ?_
          refine r_iadd X dL_law_266 ?_
          obtain ⟨g24, h⟩ := h
          refine r_ialdM X g1 g24 dL_law_267 ?_
          refine r_aload_n X 0 dL_law_268 rfl rfl ?_
          refine r_iload_n X 3 dL_law_269 rfl rfl ?_
          refine r_iconst (v := 5) X dL_law_270 rfl ?_
          refine r_iadd X dL_law_271 ?_
          obtain ⟨g25, h⟩ := h
          refine r_ialdM X g1 g25 dL_law_272 ?_
          obtain ⟨g26, h⟩ := h
          refine r_ci X (r_okVL (As := [.int (gI s v0 (Int32.toNatClampNeg (v3 + 1))), .int (gI s v0 (Int32.toNatClampNeg (v3 + 2))), .int (gI s v0 (Int32.toNatClampNeg (v3 + 3))), .int (gI s v0 (Int32.toNatClampNeg (v3 + 4))), .int (gI s v0 (Int32.toNatClampNeg (v3 + 5)))]) (rest := []) X (m_X0_deed (xl x) G X.2.2.2.2.1 hph (gI s v0 (Int32.toNatClampNeg (v3 + 1))) (gI s v0 (Int32.toNatClampNeg (v3 + 2))) (gI s v0 (Int32.toNatClampNeg (v3 + 3))) (gI s v0 (Int32.toNatClampNeg (v3 + 4))) (gI s v0 (Int32.toNatClampNeg (v3 + 5))) s _ h) (cl_L_18 X ⟨(Nat.le_of_ble_eq_true rfl), (Nat.le_of_ble_eq_true rfl)⟩) hph 0 ly_0 rfl rfl rfl rfl (Nat.le_of_ble_eq_true rfl) dL_law_273 g26) (fun r28 s27 h => ?_)
          refine r_aload_n X 2 dL_law_276 rfl rfl ?_
          refine r_aload_n X 0 dL_law_277 rfl rfl ?_
          refine r_iload_n X 3 dL_law_278 rfl rfl ?_
          refine r_iconst (v := 1) X dL_law_279 rfl ?_
          refine r_iadd X dL_law_280 ?_
          obtain ⟨g29, h⟩ := h
          obtain ⟨g30, h⟩ := h
          refine r_ialdM X g29 g30 dL_law_281 ?_
          refine r_aload_n X 0 dL_law_282 rfl rfl ?_
          refine r_iload_n X 3 dL_law_283 rfl rfl ?_
          refine r_iconst (v := 2) X dL_law_284 rfl ?_
          refine r_iadd X dL_law_285 ?_
          obtain ⟨g31, h⟩ := h
          refine r_ialdM X g29 g31 dL_law_286 ?_
          refine r_aload_n X 0 dL_law_287 rfl rfl ?_
          refine r_iload_n X 3 dL_law_288 rfl rfl ?_
          refine r_iconst (v := 3) X dL_law_289 rfl ?_
          refine r_iadd X dL_law_290 ?_
          obtain ⟨g32, h⟩ := h
          refine r_ialdM X g29 g32 dL_law_291 ?_
          refine r_aload_n X 0 dL_law_292 rfl rfl ?_
          refine r_iload_n X 3 dL_law_293 rfl rfl ?_
          refine r_iconst (v := 4) X dL_law_294 rfl ?_
          refine r_iadd X dL_law_295 ?_
          obtain ⟨g33, h⟩ := h
          refine r_ialdM X g29 g33 dL_law_296 ?_
          refine r_aload_n X 0 dL_law_297 rfl rfl ?_
          refine r_iload_n X 3 dL_law_298 rfl rfl ?_
          refine r_iconst (v := 5) X dL_law_299 rfl ?_
          refine r_iadd X dL_law_300 ?_
          obtain ⟨g34, h⟩ := h
          refine r_ialdM X g29 g34 dL_law_301 ?_
          obtain ⟨g35, h⟩ := h
          refine r_ci X (r_okVL (As := [.int (gI s27 v0 (Int32.toNatClampNeg (v3 + 1))), .int (gI s27 v0 (Int32.toNatClampNeg (v3 + 2))), .int (gI s27 v0 (Int32.toNatClampNeg (v3 + 3))), .int (gI s27 v0 (Int32.toNatClampNeg (v3 + 4))), .int (gI s27 v0 (Int32.toNatClampNeg (v3 + 5)))]) (rest := [.int r28]) X (m_X2_deed (xl x) G X.2.2.2.2.1 hph (gI s27 v0 (Int32.toNatClampNeg (v3 + 1))) (gI s27 v0 (Int32.toNatClampNeg (v3 + 2))) (gI s27 v0 (Int32.toNatClampNeg (v3 + 3))) (gI s27 v0 (Int32.toNatClampNeg (v3 + 4))) (gI s27 v0 (Int32.toNatClampNeg (v3 + 5))) s27 _ h) (cl_L_22 X ⟨(Nat.le_of_ble_eq_true rfl), (Nat.le_of_ble_eq_true rfl)⟩) hph 2 ly_182 rfl rfl rfl rfl (Nat.le_of_ble_eq_true rfl) dL_law_302 g35) (fun r37 s36 h => ?_)
          refine r_ic_eq X 1501 dL_law_305 (by decide) (fun c38 => ?_) (fun c38 => ?_)
          · replace h := h.1 c38
            refine r_iinc (lv' := [(3, .int (v3 + 6)), (0, .ref v0), (1, .ref (kB G + 0)), (2, .ref (kB G + 182))]) X 3 dL_law_1501 rfl rfl (Nat.le_of_ble_eq_true rfl) rfl ?_
            refine r_goto X 18 dL_law_1504 (by decide) ?_
            refine r_sub [1, 2, 3, 0] rfl ?_
            exact ih (v3 + 6) ((ce + 1) + 0) ((sl + 6) + 0) s36 h
          · replace h := h.2 c38
            refine r_iconst (v := 0) X dL_law_308 rfl ?_
            obtain ⟨g39, h⟩ := h
            obtain ⟨g40, h⟩ := h
            exact r_wret X ha hk g39 g40.1 g40.2 dL_law_309
        · replace h := h.2 c20
          by_cases c41 : y5 = 2
          · replace h := h.1 c41
            refine r_tin X 310 dL_law_33 2 c41 (by decide) (by decide) rfl (by decide) ?_
            refine r_aload_n X 1 dL_law_310 rfl rfl ?_
            refine r_aload_n X 0 dL_law_311 rfl rfl ?_
            refine r_iload_n X 3 dL_law_312 rfl rfl ?_
            refine r_iconst (v := 1) X dL_law_313 rfl ?_
            refine r_iadd X dL_law_314 ?_
            obtain ⟨g42, h⟩ := h
            refine r_ialdM X g1 g42 dL_law_315 ?_
            refine r_aload_n X 0 dL_law_316 rfl rfl ?_
            refine r_iload_n X 3 dL_law_317 rfl rfl ?_
            refine r_iconst (v := 2) X dL_law_318 rfl ?_
            refine r_iadd X dL_law_319 ?_
            obtain ⟨g43, h⟩ := h
            refine r_ialdM X g1 g43 dL_law_320 ?_
            obtain ⟨g44, h⟩ := h
            refine r_ci X (r_okVL (As := [.int (gI s v0 (Int32.toNatClampNeg (v3 + 1))), .int (gI s v0 (Int32.toNatClampNeg (v3 + 2)))]) (rest := []) X (m_X0_witness (xl x) G X.2.2.2.2.1 hph (gI s v0 (Int32.toNatClampNeg (v3 + 1))) (gI s v0 (Int32.toNatClampNeg (v3 + 2))) s _ h) (cl_L_23 X ⟨(Nat.le_of_ble_eq_true rfl), (Nat.le_of_ble_eq_true rfl)⟩) hph 0 ly_0 rfl rfl rfl rfl (Nat.le_of_ble_eq_true rfl) dL_law_321 g44) (fun r46 s45 h => ?_)
            obtain ⟨z47, h⟩ := h
            refine r_aload_n X 2 dL_law_324 rfl rfl ?_
            refine r_aload_n X 0 dL_law_325 rfl rfl ?_
            refine r_iload_n X 3 dL_law_326 rfl rfl ?_
            refine r_iconst (v := 1) X dL_law_327 rfl ?_
            refine r_iadd X dL_law_328 ?_
            obtain ⟨g48, h⟩ := h
            obtain ⟨g49, h⟩ := h
            refine r_ialdM X g48 g49 dL_law_329 ?_
            refine r_aload_n X 0 dL_law_330 rfl rfl ?_
            refine r_iload_n X 3 dL_law_331 rfl rfl ?_
            refine r_iconst (v := 2) X dL_law_332 rfl ?_
            refine r_iadd X dL_law_333 ?_
            obtain ⟨g50, h⟩ := h
            refine r_ialdM X g48 g50 dL_law_334 ?_
            obtain ⟨g51, h⟩ := h
            refine r_ci X (r_okVL (As := [.int (gI s45 v0 (Int32.toNatClampNeg (v3 + 1))), .int (gI s45 v0 (Int32.toNatClampNeg (v3 + 2)))]) (rest := [.int r46]) X (m_X2_witness (xl x) G X.2.2.2.2.1 hph (gI s45 v0 (Int32.toNatClampNeg (v3 + 1))) (gI s45 v0 (Int32.toNatClampNeg (v3 + 2))) s45 _ h) (cl_L_27 X ⟨(Nat.le_of_ble_eq_true rfl), (Nat.le_of_ble_eq_true rfl)⟩) hph 2 ly_182 rfl rfl rfl rfl (Nat.le_of_ble_eq_true rfl) dL_law_335 g51) (fun r53 s52 h => ?_)
            obtain ⟨z54, h⟩ := h
            refine r_ic_eq X 1501 dL_law_338 (by decide) (fun c55 => ?_) (fun c55 => ?_)
            · replace h := h.1 c55
              refine r_iinc (lv' := [(3, .int (v3 + 6)), (0, .ref v0), (1, .ref (kB G + 0)), (2, .ref (kB G + 182))]) X 3 dL_law_1501 rfl rfl (Nat.le_of_ble_eq_true rfl) rfl ?_
              refine r_goto X 18 dL_law_1504 (by decide) ?_
              refine r_sub [1, 2, 3, 0] rfl ?_
              exact ih (v3 + 6) ((ce + 0) + 0) ((sl + 0) + 0) s52 h
            · replace h := h.2 c55
              refine r_iconst (v := 0) X dL_law_341 rfl ?_
              obtain ⟨g56, h⟩ := h
              obtain ⟨g57, h⟩ := h
              exact r_wret X ha hk g56 g57.1 g57.2 dL_law_342
          · replace h := h.2 c41
            by_cases c58 : y5 = 3
            · replace h := h.1 c58
              refine r_tin X 343 dL_law_33 3 c58 (by decide) (by decide) rfl (by decide) ?_
              refine r_aload_n X 1 dL_law_343 rfl rfl ?_
              refine r_aload_n X 0 dL_law_344 rfl rfl ?_
              refine r_iload_n X 3 dL_law_345 rfl rfl ?_
              refine r_iconst (v := 1) X dL_law_346 rfl ?_
              refine r_iadd X dL_law_347 ?_
              obtain ⟨g59, h⟩ := h
              refine r_ialdM X g1 g59 dL_law_348 ?_
              obtain ⟨g60, h⟩ := h
              refine r_ci X (r_okVL (As := [.int (gI s v0 (Int32.toNatClampNeg (v3 + 1)))]) (rest := []) X (m_X0_judge (xl x) G X.2.2.2.2.1 hph (gI s v0 (Int32.toNatClampNeg (v3 + 1))) s _ h) (cl_L_28 X ⟨(Nat.le_of_ble_eq_true rfl), (Nat.le_of_ble_eq_true rfl)⟩) hph 0 ly_0 rfl rfl rfl rfl (Nat.le_of_ble_eq_true rfl) dL_law_349 g60) (fun r62 s61 h => ?_)
              refine r_aload_n X 2 dL_law_352 rfl rfl ?_
              refine r_aload_n X 0 dL_law_353 rfl rfl ?_
              refine r_iload_n X 3 dL_law_354 rfl rfl ?_
              refine r_iconst (v := 1) X dL_law_355 rfl ?_
              refine r_iadd X dL_law_356 ?_
              obtain ⟨g63, h⟩ := h
              obtain ⟨g64, h⟩ := h
              refine r_ialdM X g63 g64 dL_law_357 ?_
              obtain ⟨g65, h⟩ := h
              refine r_ci X (r_okVL (As := [.int (gI s61 v0 (Int32.toNatClampNeg (v3 + 1)))]) (rest := [.int r62]) X (m_X2_judge (xl x) G X.2.2.2.2.1 hph (gI s61 v0 (Int32.toNatClampNeg (v3 + 1))) s61 _ h) (cl_L_31 X ⟨(Nat.le_of_ble_eq_true rfl), (Nat.le_of_ble_eq_true rfl)⟩) hph 2 ly_182 rfl rfl rfl rfl (Nat.le_of_ble_eq_true rfl) dL_law_358 g65) (fun r67 s66 h => ?_)
              refine r_ic_eq X 1501 dL_law_361 (by decide) (fun c68 => ?_) (fun c68 => ?_)
              · replace h := h.1 c68
                refine r_iinc (lv' := [(3, .int (v3 + 6)), (0, .ref v0), (1, .ref (kB G + 0)), (2, .ref (kB G + 182))]) X 3 dL_law_1501 rfl rfl (Nat.le_of_ble_eq_true rfl) rfl ?_
                refine r_goto X 18 dL_law_1504 (by decide) ?_
                refine r_sub [1, 2, 3, 0] rfl ?_
                exact ih (v3 + 6) ((ce + 0) + 0) ((sl + 0) + 0) s66 h
              · replace h := h.2 c68
                refine r_iconst (v := 0) X dL_law_364 rfl ?_
                obtain ⟨g69, h⟩ := h
                obtain ⟨g70, h⟩ := h
                exact r_wret X ha hk g69 g70.1 g70.2 dL_law_365
            · replace h := h.2 c58
              by_cases c71 : y5 = 4
              · replace h := h.1 c71
                refine r_tin X 366 dL_law_33 4 c71 (by decide) (by decide) rfl (by decide) ?_
                refine r_aload_n X 1 dL_law_366 rfl rfl ?_
                refine r_aload_n X 0 dL_law_367 rfl rfl ?_
                refine r_iload_n X 3 dL_law_368 rfl rfl ?_
                refine r_iconst (v := 1) X dL_law_369 rfl ?_
                refine r_iadd X dL_law_370 ?_
                obtain ⟨g72, h⟩ := h
                refine r_ialdM X g1 g72 dL_law_371 ?_
                obtain ⟨g73, h⟩ := h
                refine r_ci X (r_okVL (As := [.int (gI s v0 (Int32.toNatClampNeg (v3 + 1)))]) (rest := []) X (m_X0_stick (xl x) G X.2.2.2.2.1 hph (gI s v0 (Int32.toNatClampNeg (v3 + 1))) s _ h) (cl_L_32 X ⟨(Nat.le_of_ble_eq_true rfl), (Nat.le_of_ble_eq_true rfl)⟩) hph 0 ly_0 rfl rfl rfl rfl (Nat.le_of_ble_eq_true rfl) dL_law_372 g73) (fun r75 s74 h => ?_)
                obtain ⟨z76, h⟩ := h
                refine r_aload_n X 2 dL_law_375 rfl rfl ?_
                refine r_aload_n X 0 dL_law_376 rfl rfl ?_
                refine r_iload_n X 3 dL_law_377 rfl rfl ?_
                refine r_iconst (v := 1) X dL_law_378 rfl ?_
                refine r_iadd X dL_law_379 ?_
                obtain ⟨g77, h⟩ := h
                obtain ⟨g78, h⟩ := h
                refine r_ialdM X g77 g78 dL_law_380 ?_
                obtain ⟨g79, h⟩ := h
                refine r_ci X (r_okVL (As := [.int (gI s74 v0 (Int32.toNatClampNeg (v3 + 1)))]) (rest := [.int r75]) X (m_X2_stick (xl x) G X.2.2.2.2.1 hph (gI s74 v0 (Int32.toNatClampNeg (v3 + 1))) s74 _ h) (cl_L_36 X ⟨(Nat.le_of_ble_eq_true rfl), (Nat.le_of_ble_eq_true rfl)⟩) hph 2 ly_182 rfl rfl rfl rfl (Nat.le_of_ble_eq_true rfl) dL_law_381 g79) (fun r81 s80 h => ?_)
                obtain ⟨z82, h⟩ := h
                refine r_ic_eq X 1501 dL_law_384 (by decide) (fun c83 => ?_) (fun c83 => ?_)
                · replace h := h.1 c83
                  refine r_iinc (lv' := [(3, .int (v3 + 6)), (0, .ref v0), (1, .ref (kB G + 0)), (2, .ref (kB G + 182))]) X 3 dL_law_1501 rfl rfl (Nat.le_of_ble_eq_true rfl) rfl ?_
                  refine r_goto X 18 dL_law_1504 (by decide) ?_
                  refine r_sub [1, 2, 3, 0] rfl ?_
                  exact ih (v3 + 6) ((ce + 0) + 0) ((sl + 0) + 0) s80 h
                · replace h := h.2 c83
                  refine r_iconst (v := 0) X dL_law_387 rfl ?_
                  obtain ⟨g84, h⟩ := h
                  obtain ⟨g85, h⟩ := h
                  exact r_wret X ha hk g84 g85.1 g85.2 dL_law_388
              · replace h := h.2 c71
                by_cases c86 : y5 = 5
                · replace h := h.1 c86
                  refine r_tin X 389 dL_law_33 5 c86 (by decide) (by decide) rfl (by decide) ?_
                  refine r_aload_n X 1 dL_law_389 rfl rfl ?_
                  refine r_aload_n X 0 dL_law_390 rfl rfl ?_
                  refine r_iload_n X 3 dL_law_391 rfl rfl ?_
                  refine r_iconst (v := 1) X dL_law_392 rfl ?_
                  refine r_iadd X dL_law_393 ?_
                  obtain ⟨g87, h⟩ := h
                  refine r_ialdM X g1 g87 dL_law_394 ?_
                  refine r_aload_n X 0 dL_law_395 rfl rfl ?_
                  refine r_iload_n X 3 dL_law_396 rfl rfl ?_
                  refine r_iconst (v := 2) X dL_law_397 rfl ?_
                  refine r_iadd X dL_law_398 ?_
                  obtain ⟨g88, h⟩ := h
                  refine r_ialdM X g1 g88 dL_law_399 ?_
                  refine r_aload_n X 0 dL_law_400 rfl rfl ?_
                  refine r_iload_n X 3 dL_law_401 rfl rfl ?_
                  refine r_iconst (v := 3) X dL_law_402 rfl ?_
                  refine r_iadd X dL_law_403 ?_
                  obtain ⟨g89, h⟩ := h
                  refine r_ialdM X g1 g89 dL_law_404 ?_
                  obtain ⟨g90, h⟩ := h
                  refine r_ci X (r_okVL (As := [.int (gI s v0 (Int32.toNatClampNeg (v3 + 1))), .int (gI s v0 (Int32.toNatClampNeg (v3 + 2))), .int (gI s v0 (Int32.toNatClampNeg (v3 + 3)))]) (rest := []) X (m_X0_bond (xl x) G X.2.2.2.2.1 hph (gI s v0 (Int32.toNatClampNeg (v3 + 1))) (gI s v0 (Int32.toNatClampNeg (v3 + 2))) (gI s v0 (Int32.toNatClampNeg (v3 + 3))) s _ h) (cl_L_37 X ⟨(Nat.le_of_ble_eq_true rfl), (Nat.le_of_ble_eq_true rfl)⟩) hph 0 ly_0 rfl rfl rfl rfl (Nat.le_of_ble_eq_true rfl) dL_law_405 g90) (fun r92 s91 h => ?_)
                  obtain ⟨z93, h⟩ := h
                  refine r_aload_n X 2 dL_law_408 rfl rfl ?_
                  refine r_aload_n X 0 dL_law_409 rfl rfl ?_
                  refine r_iload_n X 3 dL_law_410 rfl rfl ?_
                  refine r_iconst (v := 1) X dL_law_411 rfl ?_
                  refine r_iadd X dL_law_412 ?_
                  obtain ⟨g94, h⟩ := h
                  obtain ⟨g95, h⟩ := h
                  refine r_ialdM X g94 g95 dL_law_413 ?_
                  refine r_aload_n X 0 dL_law_414 rfl rfl ?_
                  refine r_iload_n X 3 dL_law_415 rfl rfl ?_
                  refine r_iconst (v := 2) X dL_law_416 rfl ?_
                  refine r_iadd X dL_law_417 ?_
                  obtain ⟨g96, h⟩ := h
                  refine r_ialdM X g94 g96 dL_law_418 ?_
                  refine r_aload_n X 0 dL_law_419 rfl rfl ?_
                  refine r_iload_n X 3 dL_law_420 rfl rfl ?_
                  refine r_iconst (v := 3) X dL_law_421 rfl ?_
                  refine r_iadd X dL_law_422 ?_
                  obtain ⟨g97, h⟩ := h
                  refine r_ialdM X g94 g97 dL_law_423 ?_
                  obtain ⟨g98, h⟩ := h
                  refine r_ci X (r_okVL (As := [.int (gI s91 v0 (Int32.toNatClampNeg (v3 + 1))), .int (gI s91 v0 (Int32.toNatClampNeg (v3 + 2))), .int (gI s91 v0 (Int32.toNatClampNeg (v3 + 3)))]) (rest := [.int r92]) X (m_X2_bond (xl x) G X.2.2.2.2.1 hph (gI s91 v0 (Int32.toNatClampNeg (v3 + 1))) (gI s91 v0 (Int32.toNatClampNeg (v3 + 2))) (gI s91 v0 (Int32.toNatClampNeg (v3 + 3))) s91 _ h) (cl_L_41 X ⟨(Nat.le_of_ble_eq_true rfl), (Nat.le_of_ble_eq_true rfl)⟩) hph 2 ly_182 rfl rfl rfl rfl (Nat.le_of_ble_eq_true rfl) dL_law_424 g98) (fun r100 s99 h => ?_)
                  obtain ⟨z101, h⟩ := h
                  refine r_ic_eq X 1501 dL_law_427 (by decide) (fun c102 => ?_) (fun c102 => ?_)
                  · replace h := h.1 c102
                    refine r_iinc (lv' := [(3, .int (v3 + 6)), (0, .ref v0), (1, .ref (kB G + 0)), (2, .ref (kB G + 182))]) X 3 dL_law_1501 rfl rfl (Nat.le_of_ble_eq_true rfl) rfl ?_
                    refine r_goto X 18 dL_law_1504 (by decide) ?_
                    refine r_sub [1, 2, 3, 0] rfl ?_
                    exact ih (v3 + 6) ((ce + 0) + 0) ((sl + 0) + 0) s99 h
                  · replace h := h.2 c102
                    refine r_iconst (v := 0) X dL_law_430 rfl ?_
                    obtain ⟨g103, h⟩ := h
                    obtain ⟨g104, h⟩ := h
                    exact r_wret X ha hk g103 g104.1 g104.2 dL_law_431
                · replace h := h.2 c86
                  by_cases c105 : y5 = 6
                  · replace h := h.1 c105
                    refine r_tin X 432 dL_law_33 6 c105 (by decide) (by decide) rfl (by decide) ?_
                    refine r_aload_n X 1 dL_law_432 rfl rfl ?_
                    refine r_aload_n X 0 dL_law_433 rfl rfl ?_
                    refine r_iload_n X 3 dL_law_434 rfl rfl ?_
                    refine r_iconst (v := 1) X dL_law_435 rfl ?_
                    refine r_iadd X dL_law_436 ?_
                    obtain ⟨g106, h⟩ := h
                    refine r_ialdM X g1 g106 dL_law_437 ?_
                    refine r_aload_n X 0 dL_law_438 rfl rfl ?_
                    refine r_iload_n X 3 dL_law_439 rfl rfl ?_
                    refine r_iconst (v := 2) X dL_law_440 rfl ?_
                    refine r_iadd X dL_law_441 ?_
                    obtain ⟨g107, h⟩ := h
                    refine r_ialdM X g1 g107 dL_law_442 ?_
                    refine r_aload_n X 0 dL_law_443 rfl rfl ?_
                    refine r_iload_n X 3 dL_law_444 rfl rfl ?_
                    refine r_iconst (v := 3) X dL_law_445 rfl ?_
                    refine r_iadd X dL_law_446 ?_
                    obtain ⟨g108, h⟩ := h
                    refine r_ialdM X g1 g108 dL_law_447 ?_
                    refine r_aload_n X 0 dL_law_448 rfl rfl ?_
                    refine r_iload_n X 3 dL_law_449 rfl rfl ?_
                    refine r_iconst (v := 4) X dL_law_450 rfl ?_
                    refine r_iadd X dL_law_451 ?_
                    obtain ⟨g109, h⟩ := h
                    refine r_ialdM X g1 g109 dL_law_452 ?_
                    refine r_aload_n X 0 dL_law_453 rfl rfl ?_
                    refine r_iload_n X 3 dL_law_454 rfl rfl ?_
                    refine r_iconst (v := 5) X dL_law_455 rfl ?_
                    refine r_iadd X dL_law_456 ?_
                    obtain ⟨g110, h⟩ := h
                    refine r_ialdM X g1 g110 dL_law_457 ?_
                    obtain ⟨g111, h⟩ := h
                    refine r_ci X (r_okVL (As := [.int (gI s v0 (Int32.toNatClampNeg (v3 + 1))), .int (gI s v0 (Int32.toNatClampNeg (v3 + 2))), .int (gI s v0 (Int32.toNatClampNeg (v3 + 3))), .int (gI s v0 (Int32.toNatClampNeg (v3 + 4))), .int (gI s v0 (Int32.toNatClampNeg (v3 + 5)))]) (rest := []) X (m_X0_feed (xl x) G X.2.2.2.2.1 hph (gI s v0 (Int32.toNatClampNeg (v3 + 1))) (gI s v0 (Int32.toNatClampNeg (v3 + 2))) (gI s v0 (Int32.toNatClampNeg (v3 + 3))) (gI s v0 (Int32.toNatClampNeg (v3 + 4))) (gI s v0 (Int32.toNatClampNeg (v3 + 5))) s _ h) (cl_L_42 X ⟨(Nat.le_of_ble_eq_true rfl), (Nat.le_of_ble_eq_true rfl)⟩) hph 0 ly_0 rfl rfl rfl rfl (Nat.le_of_ble_eq_true rfl) dL_law_458 g111) (fun r113 s112 h => ?_)
                    refine r_aload_n X 2 dL_law_461 rfl rfl ?_
                    refine r_aload_n X 0 dL_law_462 rfl rfl ?_
                    refine r_iload_n X 3 dL_law_463 rfl rfl ?_
                    refine r_iconst (v := 1) X dL_law_464 rfl ?_
                    refine r_iadd X dL_law_465 ?_
                    obtain ⟨g114, h⟩ := h
                    obtain ⟨g115, h⟩ := h
                    refine r_ialdM X g114 g115 dL_law_466 ?_
                    refine r_aload_n X 0 dL_law_467 rfl rfl ?_
                    refine r_iload_n X 3 dL_law_468 rfl rfl ?_
                    refine r_iconst (v := 2) X dL_law_469 rfl ?_
                    refine r_iadd X dL_law_470 ?_
                    obtain ⟨g116, h⟩ := h
                    refine r_ialdM X g114 g116 dL_law_471 ?_
                    refine r_aload_n X 0 dL_law_472 rfl rfl ?_
                    refine r_iload_n X 3 dL_law_473 rfl rfl ?_
                    refine r_iconst (v := 3) X dL_law_474 rfl ?_
                    refine r_iadd X dL_law_475 ?_
                    obtain ⟨g117, h⟩ := h
                    refine r_ialdM X g114 g117 dL_law_476 ?_
                    refine r_aload_n X 0 dL_law_477 rfl rfl ?_
                    refine r_iload_n X 3 dL_law_478 rfl rfl ?_
                    refine r_iconst (v := 4) X dL_law_479 rfl ?_
                    refine r_iadd X dL_law_480 ?_
                    obtain ⟨g118, h⟩ := h
                    refine r_ialdM X g114 g118 dL_law_481 ?_
                    refine r_aload_n X 0 dL_law_482 rfl rfl ?_
                    refine r_iload_n X 3 dL_law_483 rfl rfl ?_
                    refine r_iconst (v := 5) X dL_law_484 rfl ?_
                    refine r_iadd X dL_law_485 ?_
                    obtain ⟨g119, h⟩ := h
                    refine r_ialdM X g114 g119 dL_law_486 ?_
                    obtain ⟨g120, h⟩ := h
                    refine r_ci X (r_okVL (As := [.int (gI s112 v0 (Int32.toNatClampNeg (v3 + 1))), .int (gI s112 v0 (Int32.toNatClampNeg (v3 + 2))), .int (gI s112 v0 (Int32.toNatClampNeg (v3 + 3))), .int (gI s112 v0 (Int32.toNatClampNeg (v3 + 4))), .int (gI s112 v0 (Int32.toNatClampNeg (v3 + 5)))]) (rest := [.int r113]) X (m_X2_feed (xl x) G X.2.2.2.2.1 hph (gI s112 v0 (Int32.toNatClampNeg (v3 + 1))) (gI s112 v0 (Int32.toNatClampNeg (v3 + 2))) (gI s112 v0 (Int32.toNatClampNeg (v3 + 3))) (gI s112 v0 (Int32.toNatClampNeg (v3 + 4))) (gI s112 v0 (Int32.toNatClampNeg (v3 + 5))) s112 _ h) (cl_L_45 X ⟨(Nat.le_of_ble_eq_true rfl), (Nat.le_of_ble_eq_true rfl)⟩) hph 2 ly_182 rfl rfl rfl rfl (Nat.le_of_ble_eq_true rfl) dL_law_487 g120) (fun r122 s121 h => ?_)
                    refine r_ic_eq X 1501 dL_law_490 (by decide) (fun c123 => ?_) (fun c123 => ?_)
                    · replace h := h.1 c123
                      refine r_iinc (lv' := [(3, .int (v3 + 6)), (0, .ref v0), (1, .ref (kB G + 0)), (2, .ref (kB G + 182))]) X 3 dL_law_1501 rfl rfl (Nat.le_of_ble_eq_true rfl) rfl ?_
                      refine r_goto X 18 dL_law_1504 (by decide) ?_
                      refine r_sub [1, 2, 3, 0] rfl ?_
                      exact ih (v3 + 6) ((ce + 0) + 0) ((sl + 0) + 0) s121 h
                    · replace h := h.2 c123
                      refine r_iconst (v := 0) X dL_law_493 rfl ?_
                      obtain ⟨g124, h⟩ := h
                      obtain ⟨g125, h⟩ := h
                      exact r_wret X ha hk g124 g125.1 g125.2 dL_law_494
                  · replace h := h.2 c105
                    by_cases c126 : y5 = 7
                    · replace h := h.1 c126
                      refine r_tin X 495 dL_law_33 7 c126 (by decide) (by decide) rfl (by decide) ?_
                      refine r_aload_n X 1 dL_law_495 rfl rfl ?_
                      refine r_aload_n X 0 dL_law_496 rfl rfl ?_
                      refine r_iload_n X 3 dL_law_497 rfl rfl ?_
                      refine r_iconst (v := 1) X dL_law_498 rfl ?_
                      refine r_iadd X dL_law_499 ?_
                      obtain ⟨g127, h⟩ := h
                      refine r_ialdM X g1 g127 dL_law_500 ?_
                      obtain ⟨g128, h⟩ := h
                      refine r_ci X (r_okVL (As := [.int (gI s v0 (Int32.toNatClampNeg (v3 + 1)))]) (rest := []) X (m_X0_end (xl x) G X.2.2.2.2.1 hph (gI s v0 (Int32.toNatClampNeg (v3 + 1))) s _ h) (cl_L_46 X ⟨(Nat.le_of_ble_eq_true rfl), (Nat.le_of_ble_eq_true rfl)⟩) hph 0 ly_0 rfl rfl rfl rfl (Nat.le_of_ble_eq_true rfl) dL_law_501 g128) (fun r130 s129 h => ?_)
                      refine r_aload_n X 2 dL_law_504 rfl rfl ?_
                      refine r_aload_n X 0 dL_law_505 rfl rfl ?_
                      refine r_iload_n X 3 dL_law_506 rfl rfl ?_
                      refine r_iconst (v := 1) X dL_law_507 rfl ?_
                      refine r_iadd X dL_law_508 ?_
                      obtain ⟨g131, h⟩ := h
                      obtain ⟨g132, h⟩ := h
                      refine r_ialdM X g131 g132 dL_law_509 ?_
                      obtain ⟨g133, h⟩ := h
                      refine r_ci X (r_okVL (As := [.int (gI s129 v0 (Int32.toNatClampNeg (v3 + 1)))]) (rest := [.int r130]) X (m_X2_end (xl x) G X.2.2.2.2.1 hph (gI s129 v0 (Int32.toNatClampNeg (v3 + 1))) s129 _ h) (cl_L_49 X ⟨(Nat.le_of_ble_eq_true rfl), (Nat.le_of_ble_eq_true rfl)⟩) hph 2 ly_182 rfl rfl rfl rfl (Nat.le_of_ble_eq_true rfl) dL_law_510 g133) (fun r135 s134 h => ?_)
                      refine r_ic_eq X 1501 dL_law_513 (by decide) (fun c136 => ?_) (fun c136 => ?_)
                      · replace h := h.1 c136
                        refine r_iinc (lv' := [(3, .int (v3 + 6)), (0, .ref v0), (1, .ref (kB G + 0)), (2, .ref (kB G + 182))]) X 3 dL_law_1501 rfl rfl (Nat.le_of_ble_eq_true rfl) rfl ?_
                        refine r_goto X 18 dL_law_1504 (by decide) ?_
                        refine r_sub [1, 2, 3, 0] rfl ?_
                        exact ih (v3 + 6) ((ce + 0) + 0) ((sl + 0) + 0) s134 h
                      · replace h := h.2 c136
                        refine r_iconst (v := 0) X dL_law_516 rfl ?_
                        obtain ⟨g137, h⟩ := h
                        obtain ⟨g138, h⟩ := h
                        exact r_wret X ha hk g137 g138.1 g138.2 dL_law_517
                    · replace h := h.2 c126
                      by_cases c139 : y5 = 8
                      · replace h := h.1 c139
                        refine r_tin X 518 dL_law_33 8 c139 (by decide) (by decide) rfl (by decide) ?_
                        refine r_aload_n X 1 dL_law_518 rfl rfl ?_
                        obtain ⟨A140, B141, h⟩ := h
                        obtain ⟨g142, h⟩ := h
                        refine r_ci X (r_okWL (As := []) (rest := []) X (m_X0_text (xl x) G X.2.2.2.2.1 hph hfl A140 B141 s _ h) (cl_L_50 X ⟨(Nat.le_of_ble_eq_true rfl), (Nat.le_of_ble_eq_true rfl)⟩) hph 0 ly_0 rfl rfl rfl rfl (Nat.le_of_ble_eq_true rfl) dL_law_519 g142) (fun r144 s143 h => ?_)
                        refine r_aload_n X 2 dL_law_522 rfl rfl ?_
                        obtain ⟨g145, h⟩ := h
                        refine r_ci X (r_okVL (As := []) (rest := [.int r144]) X (m_X2_text (xl x) G X.2.2.2.2.1 hph s143 _ h) (cl_L_54 X ⟨(Nat.le_of_ble_eq_true rfl), (Nat.le_of_ble_eq_true rfl)⟩) hph 2 ly_182 rfl rfl rfl rfl (Nat.le_of_ble_eq_true rfl) dL_law_523 g145) (fun r147 s146 h => ?_)
                        refine r_ic_eq X 1501 dL_law_526 (by decide) (fun c148 => ?_) (fun c148 => ?_)
                        · replace h := h.1 c148
                          refine r_iinc (lv' := [(3, .int (v3 + 6)), (0, .ref v0), (1, .ref (kB G + 0)), (2, .ref (kB G + 182))]) X 3 dL_law_1501 rfl rfl (Nat.le_of_ble_eq_true rfl) rfl ?_
                          refine r_goto X 18 dL_law_1504 (by decide) ?_
                          refine r_sub [1, 2, 3, 0] rfl ?_
                          exact ih (v3 + 6) ((ce + A140) + 0) ((sl + B141) + 0) s146 h
                        · replace h := h.2 c148
                          refine r_iconst (v := 0) X dL_law_529 rfl ?_
                          obtain ⟨g149, h⟩ := h
                          obtain ⟨g150, h⟩ := h
                          exact r_wret X ha hk g149 g150.1 g150.2 dL_law_530
                      · replace h := h.2 c139
                        by_cases c151 : y5 = 9
                        · replace h := h.1 c151
                          refine r_tin X 531 dL_law_33 9 c151 (by decide) (by decide) rfl (by decide) ?_
                          refine r_aload_n X 1 dL_law_531 rfl rfl ?_
                          refine r_aload_n X 0 dL_law_532 rfl rfl ?_
                          refine r_iload_n X 3 dL_law_533 rfl rfl ?_
                          refine r_iconst (v := 1) X dL_law_534 rfl ?_
                          refine r_iadd X dL_law_535 ?_
                          obtain ⟨g152, h⟩ := h
                          refine r_ialdM X g1 g152 dL_law_536 ?_
                          obtain ⟨g153, h⟩ := h
                          refine r_ci X (r_okVL (As := [.int (gI s v0 (Int32.toNatClampNeg (v3 + 1)))]) (rest := []) X (m_X0_fault (xl x) G X.2.2.2.2.1 hph (gI s v0 (Int32.toNatClampNeg (v3 + 1))) s _ h) (cl_L_55 X ⟨(Nat.le_of_ble_eq_true rfl), (Nat.le_of_ble_eq_true rfl)⟩) hph 0 ly_0 rfl rfl rfl rfl (Nat.le_of_ble_eq_true rfl) dL_law_537 g153) (fun r155 s154 h => ?_)
                          refine r_aload_n X 2 dL_law_540 rfl rfl ?_
                          refine r_aload_n X 0 dL_law_541 rfl rfl ?_
                          refine r_iload_n X 3 dL_law_542 rfl rfl ?_
                          refine r_iconst (v := 1) X dL_law_543 rfl ?_
                          refine r_iadd X dL_law_544 ?_
                          obtain ⟨g156, h⟩ := h
                          obtain ⟨g157, h⟩ := h
                          refine r_ialdM X g156 g157 dL_law_545 ?_
                          obtain ⟨g158, h⟩ := h
                          refine r_ci X (r_okVL (As := [.int (gI s154 v0 (Int32.toNatClampNeg (v3 + 1)))]) (rest := [.int r155]) X (m_X2_fault (xl x) G X.2.2.2.2.1 hph (gI s154 v0 (Int32.toNatClampNeg (v3 + 1))) s154 _ h) (cl_L_58 X ⟨(Nat.le_of_ble_eq_true rfl), (Nat.le_of_ble_eq_true rfl)⟩) hph 2 ly_182 rfl rfl rfl rfl (Nat.le_of_ble_eq_true rfl) dL_law_546 g158) (fun r160 s159 h => ?_)
                          refine r_ic_eq X 1501 dL_law_549 (by decide) (fun c161 => ?_) (fun c161 => ?_)
                          · replace h := h.1 c161
                            refine r_iinc (lv' := [(3, .int (v3 + 6)), (0, .ref v0), (1, .ref (kB G + 0)), (2, .ref (kB G + 182))]) X 3 dL_law_1501 rfl rfl (Nat.le_of_ble_eq_true rfl) rfl ?_
                            refine r_goto X 18 dL_law_1504 (by decide) ?_
                            refine r_sub [1, 2, 3, 0] rfl ?_
                            exact ih (v3 + 6) ((ce + 0) + 0) ((sl + 0) + 0) s159 h
                          · replace h := h.2 c161
                            refine r_iconst (v := 0) X dL_law_552 rfl ?_
                            obtain ⟨g162, h⟩ := h
                            obtain ⟨g163, h⟩ := h
                            exact r_wret X ha hk g162 g163.1 g163.2 dL_law_553
                        · replace h := h.2 c151
                          by_cases c164 : y5 = 10
                          · replace h := h.1 c164
                            refine r_tin X 554 dL_law_33 10 c164 (by decide) (by decide) rfl (by decide) ?_
                            refine r_aload_n X 1 dL_law_554 rfl rfl ?_
                            refine r_aload_n X 0 dL_law_555 rfl rfl ?_
                            refine r_iload_n X 3 dL_law_556 rfl rfl ?_
                            refine r_iconst (v := 1) X dL_law_557 rfl ?_
                            refine r_iadd X dL_law_558 ?_
                            obtain ⟨g165, h⟩ := h
                            refine r_ialdM X g1 g165 dL_law_559 ?_
                            obtain ⟨g166, h⟩ := h
                            refine r_ci X (r_okVL (As := [.int (gI s v0 (Int32.toNatClampNeg (v3 + 1)))]) (rest := []) X (m_X0_by (xl x) G X.2.2.2.2.1 hph (gI s v0 (Int32.toNatClampNeg (v3 + 1))) s _ h) (cl_L_59 X ⟨(Nat.le_of_ble_eq_true rfl), (Nat.le_of_ble_eq_true rfl)⟩) hph 0 ly_0 rfl rfl rfl rfl (Nat.le_of_ble_eq_true rfl) dL_law_560 g166) (fun r168 s167 h => ?_)
                            obtain ⟨z169, h⟩ := h
                            refine r_aload_n X 2 dL_law_563 rfl rfl ?_
                            refine r_aload_n X 0 dL_law_564 rfl rfl ?_
                            refine r_iload_n X 3 dL_law_565 rfl rfl ?_
                            refine r_iconst (v := 1) X dL_law_566 rfl ?_
                            refine r_iadd X dL_law_567 ?_
                            obtain ⟨g170, h⟩ := h
                            obtain ⟨g171, h⟩ := h
                            refine r_ialdM X g170 g171 dL_law_568 ?_
                            obtain ⟨g172, h⟩ := h
                            refine r_ci X (r_okVL (As := [.int (gI s167 v0 (Int32.toNatClampNeg (v3 + 1)))]) (rest := [.int r168]) X (m_X2_by (xl x) G X.2.2.2.2.1 hph (gI s167 v0 (Int32.toNatClampNeg (v3 + 1))) s167 _ h) (cl_L_62 X ⟨(Nat.le_of_ble_eq_true rfl), (Nat.le_of_ble_eq_true rfl)⟩) hph 2 ly_182 rfl rfl rfl rfl (Nat.le_of_ble_eq_true rfl) dL_law_569 g172) (fun r174 s173 h => ?_)
                            obtain ⟨z175, h⟩ := h
                            refine r_ic_eq X 1501 dL_law_572 (by decide) (fun c176 => ?_) (fun c176 => ?_)
                            · replace h := h.1 c176
                              refine r_iinc (lv' := [(3, .int (v3 + 6)), (0, .ref v0), (1, .ref (kB G + 0)), (2, .ref (kB G + 182))]) X 3 dL_law_1501 rfl rfl (Nat.le_of_ble_eq_true rfl) rfl ?_
                              refine r_goto X 18 dL_law_1504 (by decide) ?_
                              refine r_sub [1, 2, 3, 0] rfl ?_
                              exact ih (v3 + 6) ((ce + 0) + 0) ((sl + 0) + 0) s173 h
                            · replace h := h.2 c176
                              refine r_iconst (v := 0) X dL_law_575 rfl ?_
                              obtain ⟨g177, h⟩ := h
                              obtain ⟨g178, h⟩ := h
                              exact r_wret X ha hk g177 g178.1 g178.2 dL_law_576
                          · replace h := h.2 c164
                            by_cases c179 : y5 = 11
                            · replace h := h.1 c179
                              refine r_tin X 577 dL_law_33 11 c179 (by decide) (by decide) rfl (by decide) ?_
                              refine r_aload_n X 1 dL_law_577 rfl rfl ?_
                              refine r_aload_n X 0 dL_law_578 rfl rfl ?_
                              refine r_iload_n X 3 dL_law_579 rfl rfl ?_
                              refine r_iconst (v := 1) X dL_law_580 rfl ?_
                              refine r_iadd X dL_law_581 ?_
                              obtain ⟨g180, h⟩ := h
                              refine r_ialdM X g1 g180 dL_law_582 ?_
                              refine r_aload_n X 0 dL_law_583 rfl rfl ?_
                              refine r_iload_n X 3 dL_law_584 rfl rfl ?_
                              refine r_iconst (v := 2) X dL_law_585 rfl ?_
                              refine r_iadd X dL_law_586 ?_
                              obtain ⟨g181, h⟩ := h
                              refine r_ialdM X g1 g181 dL_law_587 ?_
                              refine r_aload_n X 0 dL_law_588 rfl rfl ?_
                              refine r_iload_n X 3 dL_law_589 rfl rfl ?_
                              refine r_iconst (v := 3) X dL_law_590 rfl ?_
                              refine r_iadd X dL_law_591 ?_
                              obtain ⟨g182, h⟩ := h
                              refine r_ialdM X g1 g182 dL_law_592 ?_
                              obtain ⟨g183, h⟩ := h
                              refine r_ci X (r_okVL (As := [.int (gI s v0 (Int32.toNatClampNeg (v3 + 1))), .int (gI s v0 (Int32.toNatClampNeg (v3 + 2))), .int (gI s v0 (Int32.toNatClampNeg (v3 + 3)))]) (rest := []) X (m_X0_lend (xl x) G X.2.2.2.2.1 hph (gI s v0 (Int32.toNatClampNeg (v3 + 1))) (gI s v0 (Int32.toNatClampNeg (v3 + 2))) (gI s v0 (Int32.toNatClampNeg (v3 + 3))) s _ h) (cl_L_63 X ⟨(Nat.le_of_ble_eq_true rfl), (Nat.le_of_ble_eq_true rfl)⟩) hph 0 ly_0 rfl rfl rfl rfl (Nat.le_of_ble_eq_true rfl) dL_law_593 g183) (fun r185 s184 h => ?_)
                              obtain ⟨z186, h⟩ := h
                              refine r_aload_n X 2 dL_law_596 rfl rfl ?_
                              refine r_aload_n X 0 dL_law_597 rfl rfl ?_
                              refine r_iload_n X 3 dL_law_598 rfl rfl ?_
                              refine r_iconst (v := 1) X dL_law_599 rfl ?_
                              refine r_iadd X dL_law_600 ?_
                              obtain ⟨g187, h⟩ := h
                              obtain ⟨g188, h⟩ := h
                              refine r_ialdM X g187 g188 dL_law_601 ?_
                              refine r_aload_n X 0 dL_law_602 rfl rfl ?_
                              refine r_iload_n X 3 dL_law_603 rfl rfl ?_
                              refine r_iconst (v := 2) X dL_law_604 rfl ?_
                              refine r_iadd X dL_law_605 ?_
                              obtain ⟨g189, h⟩ := h
                              refine r_ialdM X g187 g189 dL_law_606 ?_
                              refine r_aload_n X 0 dL_law_607 rfl rfl ?_
                              refine r_iload_n X 3 dL_law_608 rfl rfl ?_
                              refine r_iconst (v := 3) X dL_law_609 rfl ?_
                              refine r_iadd X dL_law_610 ?_
                              obtain ⟨g190, h⟩ := h
                              refine r_ialdM X g187 g190 dL_law_611 ?_
                              obtain ⟨g191, h⟩ := h
                              refine r_ci X (r_okVL (As := [.int (gI s184 v0 (Int32.toNatClampNeg (v3 + 1))), .int (gI s184 v0 (Int32.toNatClampNeg (v3 + 2))), .int (gI s184 v0 (Int32.toNatClampNeg (v3 + 3)))]) (rest := [.int r185]) X (m_X2_lend (xl x) G X.2.2.2.2.1 hph (gI s184 v0 (Int32.toNatClampNeg (v3 + 1))) (gI s184 v0 (Int32.toNatClampNeg (v3 + 2))) (gI s184 v0 (Int32.toNatClampNeg (v3 + 3))) s184 _ h) (cl_L_66 X ⟨(Nat.le_of_ble_eq_true rfl), (Nat.le_of_ble_eq_true rfl)⟩) hph 2 ly_182 rfl rfl rfl rfl (Nat.le_of_ble_eq_true rfl) dL_law_612 g191) (fun r193 s192 h => ?_)
                              obtain ⟨z194, h⟩ := h
                              refine r_ic_eq X 1501 dL_law_615 (by decide) (fun c195 => ?_) (fun c195 => ?_)
                              · replace h := h.1 c195
                                refine r_iinc (lv' := [(3, .int (v3 + 6)), (0, .ref v0), (1, .ref (kB G + 0)), (2, .ref (kB G + 182))]) X 3 dL_law_1501 rfl rfl (Nat.le_of_ble_eq_true rfl) rfl ?_
                                refine r_goto X 18 dL_law_1504 (by decide) ?_
                                refine r_sub [1, 2, 3, 0] rfl ?_
                                exact ih (v3 + 6) ((ce + 0) + 0) ((sl + 0) + 0) s192 h
                              · replace h := h.2 c195
                                refine r_iconst (v := 0) X dL_law_618 rfl ?_
                                obtain ⟨g196, h⟩ := h
                                obtain ⟨g197, h⟩ := h
                                exact r_wret X ha hk g196 g197.1 g197.2 dL_law_619
                            · replace h := h.2 c179
                              by_cases c198 : y5 = 12
                              · replace h := h.1 c198
                                refine r_tin X 620 dL_law_33 12 c198 (by decide) (by decide) rfl (by decide) ?_
                                refine r_aload_n X 1 dL_law_620 rfl rfl ?_
                                refine r_aload_n X 0 dL_law_621 rfl rfl ?_
                                refine r_iload_n X 3 dL_law_622 rfl rfl ?_
                                refine r_iconst (v := 1) X dL_law_623 rfl ?_
                                refine r_iadd X dL_law_624 ?_
                                obtain ⟨g199, h⟩ := h
                                refine r_ialdM X g1 g199 dL_law_625 ?_
                                obtain ⟨g200, h⟩ := h
                                refine r_ci X (r_okVL (As := [.int (gI s v0 (Int32.toNatClampNeg (v3 + 1)))]) (rest := []) X (m_X0_weigh (xl x) G X.2.2.2.2.1 hph (gI s v0 (Int32.toNatClampNeg (v3 + 1))) s _ h) (cl_L_67 X ⟨(Nat.le_of_ble_eq_true rfl), (Nat.le_of_ble_eq_true rfl)⟩) hph 0 ly_0 rfl rfl rfl rfl (Nat.le_of_ble_eq_true rfl) dL_law_626 g200) (fun r202 s201 h => ?_)
                                refine r_aload_n X 2 dL_law_629 rfl rfl ?_
                                refine r_aload_n X 0 dL_law_630 rfl rfl ?_
                                refine r_iload_n X 3 dL_law_631 rfl rfl ?_
                                refine r_iconst (v := 1) X dL_law_632 rfl ?_
                                refine r_iadd X dL_law_633 ?_
                                obtain ⟨g203, h⟩ := h
                                obtain ⟨g204, h⟩ := h
                                refine r_ialdM X g203 g204 dL_law_634 ?_
                                obtain ⟨g205, h⟩ := h
                                refine r_ci X (r_okVL (As := [.int (gI s201 v0 (Int32.toNatClampNeg (v3 + 1)))]) (rest := [.int r202]) X (m_X2_weigh (xl x) G X.2.2.2.2.1 hph (gI s201 v0 (Int32.toNatClampNeg (v3 + 1))) s201 _ h) (cl_L_70 X ⟨(Nat.le_of_ble_eq_true rfl), (Nat.le_of_ble_eq_true rfl)⟩) hph 2 ly_182 rfl rfl rfl rfl (Nat.le_of_ble_eq_true rfl) dL_law_635 g205) (fun r207 s206 h => ?_)
                                refine r_ic_eq X 1501 dL_law_638 (by decide) (fun c208 => ?_) (fun c208 => ?_)
                                · replace h := h.1 c208
                                  refine r_iinc (lv' := [(3, .int (v3 + 6)), (0, .ref v0), (1, .ref (kB G + 0)), (2, .ref (kB G + 182))]) X 3 dL_law_1501 rfl rfl (Nat.le_of_ble_eq_true rfl) rfl ?_
                                  refine r_goto X 18 dL_law_1504 (by decide) ?_
                                  refine r_sub [1, 2, 3, 0] rfl ?_
                                  exact ih (v3 + 6) ((ce + 1) + 0) ((sl + 6) + 0) s206 h
                                · replace h := h.2 c208
                                  refine r_iconst (v := 0) X dL_law_641 rfl ?_
                                  obtain ⟨g209, h⟩ := h
                                  obtain ⟨g210, h⟩ := h
                                  exact r_wret X ha hk g209 g210.1 g210.2 dL_law_642
                              · replace h := h.2 c198
                                by_cases c211 : y5 = 13
                                · replace h := h.1 c211
                                  refine r_tin X 643 dL_law_33 13 c211 (by decide) (by decide) rfl (by decide) ?_
                                  refine r_aload_n X 1 dL_law_643 rfl rfl ?_
                                  refine r_aload_n X 0 dL_law_644 rfl rfl ?_
                                  refine r_iload_n X 3 dL_law_645 rfl rfl ?_
                                  refine r_iconst (v := 1) X dL_law_646 rfl ?_
                                  refine r_iadd X dL_law_647 ?_
                                  obtain ⟨g212, h⟩ := h
                                  refine r_ialdM X g1 g212 dL_law_648 ?_
                                  obtain ⟨g213, h⟩ := h
                                  refine r_ci X (r_okVL (As := [.int (gI s v0 (Int32.toNatClampNeg (v3 + 1)))]) (rest := []) X (m_X0_lay (xl x) G X.2.2.2.2.1 hph (gI s v0 (Int32.toNatClampNeg (v3 + 1))) s _ h) (cl_L_71 X ⟨(Nat.le_of_ble_eq_true rfl), (Nat.le_of_ble_eq_true rfl)⟩) hph 0 ly_0 rfl rfl rfl rfl (Nat.le_of_ble_eq_true rfl) dL_law_649 g213) (fun r215 s214 h => ?_)
                                  refine r_aload_n X 2 dL_law_652 rfl rfl ?_
                                  refine r_aload_n X 0 dL_law_653 rfl rfl ?_
                                  refine r_iload_n X 3 dL_law_654 rfl rfl ?_
                                  refine r_iconst (v := 1) X dL_law_655 rfl ?_
                                  refine r_iadd X dL_law_656 ?_
                                  obtain ⟨g216, h⟩ := h
                                  obtain ⟨g217, h⟩ := h
                                  refine r_ialdM X g216 g217 dL_law_657 ?_
                                  obtain ⟨g218, h⟩ := h
                                  refine r_ci X (r_okVL (As := [.int (gI s214 v0 (Int32.toNatClampNeg (v3 + 1)))]) (rest := [.int r215]) X (m_X2_lay (xl x) G X.2.2.2.2.1 hph (gI s214 v0 (Int32.toNatClampNeg (v3 + 1))) s214 _ h) (cl_L_74 X ⟨(Nat.le_of_ble_eq_true rfl), (Nat.le_of_ble_eq_true rfl)⟩) hph 2 ly_182 rfl rfl rfl rfl (Nat.le_of_ble_eq_true rfl) dL_law_658 g218) (fun r220 s219 h => ?_)
                                  refine r_ic_eq X 1501 dL_law_661 (by decide) (fun c221 => ?_) (fun c221 => ?_)
                                  · replace h := h.1 c221
                                    refine r_iinc (lv' := [(3, .int (v3 + 6)), (0, .ref v0), (1, .ref (kB G + 0)), (2, .ref (kB G + 182))]) X 3 dL_law_1501 rfl rfl (Nat.le_of_ble_eq_true rfl) rfl ?_
                                    refine r_goto X 18 dL_law_1504 (by decide) ?_
                                    refine r_sub [1, 2, 3, 0] rfl ?_
                                    exact ih (v3 + 6) ((ce + 1) + 0) ((sl + 6) + 0) s219 h
                                  · replace h := h.2 c221
                                    refine r_iconst (v := 0) X dL_law_664 rfl ?_
                                    obtain ⟨g222, h⟩ := h
                                    obtain ⟨g223, h⟩ := h
                                    exact r_wret X ha hk g222 g223.1 g223.2 dL_law_665
                                · replace h := h.2 c211
                                  by_cases c224 : y5 = 14
                                  · replace h := h.1 c224
                                    refine r_tin X 666 dL_law_33 14 c224 (by decide) (by decide) rfl (by decide) ?_
                                    refine r_aload_n X 1 dL_law_666 rfl rfl ?_
                                    refine r_aload_n X 0 dL_law_667 rfl rfl ?_
                                    refine r_iload_n X 3 dL_law_668 rfl rfl ?_
                                    refine r_iconst (v := 1) X dL_law_669 rfl ?_
                                    refine r_iadd X dL_law_670 ?_
                                    obtain ⟨g225, h⟩ := h
                                    refine r_ialdM X g1 g225 dL_law_671 ?_
                                    refine r_aload_n X 0 dL_law_672 rfl rfl ?_
                                    refine r_iload_n X 3 dL_law_673 rfl rfl ?_
                                    refine r_iconst (v := 2) X dL_law_674 rfl ?_
                                    refine r_iadd X dL_law_675 ?_
                                    obtain ⟨g226, h⟩ := h
                                    refine r_ialdM X g1 g226 dL_law_676 ?_
                                    have hJ : WB x G 4 (QfW x) ce sl s 685 [(0, .ref v0), (1, .ref (kB G + 0)), (2, .ref (kB G + 182)), (3, .int v3)] [.int (if (gI s v0 (Int32.toNatClampNeg (v3 + 2))) = 0 then 0 else 1 : Int32), .int (gI s v0 (Int32.toNatClampNeg (v3 + 1))), .ref (kB G + 0)] := by
                                      obtain ⟨g228, h⟩ := h
                                      refine r_ci X (r_okVL (As := [.int (gI s v0 (Int32.toNatClampNeg (v3 + 1))), .int (if (gI s v0 (Int32.toNatClampNeg (v3 + 2))) = 0 then 0 else 1 : Int32)]) (rest := []) X (m_X0_answer (xl x) G X.2.2.2.2.1 hph (gI s v0 (Int32.toNatClampNeg (v3 + 1))) (if (gI s v0 (Int32.toNatClampNeg (v3 + 2))) = 0 then 0 else 1 : Int32) s _ h) (cl_L_75 X ⟨(Nat.le_of_ble_eq_true rfl), (Nat.le_of_ble_eq_true rfl)⟩) hph 0 ly_0 rfl rfl rfl rfl (Nat.le_of_ble_eq_true rfl) dL_law_685 g228) (fun r230 s229 h => ?_)
                                      refine r_aload_n X 2 dL_law_688 rfl rfl ?_
                                      refine r_aload_n X 0 dL_law_689 rfl rfl ?_
                                      refine r_iload_n X 3 dL_law_690 rfl rfl ?_
                                      refine r_iconst (v := 1) X dL_law_691 rfl ?_
                                      refine r_iadd X dL_law_692 ?_
                                      obtain ⟨g231, h⟩ := h
                                      obtain ⟨g232, h⟩ := h
                                      refine r_ialdM X g231 g232 dL_law_693 ?_
                                      refine r_aload_n X 0 dL_law_694 rfl rfl ?_
                                      refine r_iload_n X 3 dL_law_695 rfl rfl ?_
                                      refine r_iconst (v := 2) X dL_law_696 rfl ?_
                                      refine r_iadd X dL_law_697 ?_
                                      obtain ⟨g233, h⟩ := h
                                      refine r_ialdM X g231 g233 dL_law_698 ?_
                                      have hJ : WB x G 4 (QfW x) (ce + 1) (sl + 6) s229 707 [(0, .ref v0), (1, .ref (kB G + 0)), (2, .ref (kB G + 182)), (3, .int v3)] [.int (if (gI s229 v0 (Int32.toNatClampNeg (v3 + 2))) = 0 then 0 else 1 : Int32), .int (gI s229 v0 (Int32.toNatClampNeg (v3 + 1))), .ref (kB G + 182), .int r230] := by
                                        obtain ⟨g235, h⟩ := h
                                        refine r_ci X (r_okVL (As := [.int (gI s229 v0 (Int32.toNatClampNeg (v3 + 1))), .int (if (gI s229 v0 (Int32.toNatClampNeg (v3 + 2))) = 0 then 0 else 1 : Int32)]) (rest := [.int r230]) X (m_X2_answer (xl x) G X.2.2.2.2.1 hph (gI s229 v0 (Int32.toNatClampNeg (v3 + 1))) (if (gI s229 v0 (Int32.toNatClampNeg (v3 + 2))) = 0 then 0 else 1 : Int32) s229 _ h) (cl_L_79 X ⟨(Nat.le_of_ble_eq_true rfl), (Nat.le_of_ble_eq_true rfl)⟩) hph 2 ly_182 rfl rfl rfl rfl (Nat.le_of_ble_eq_true rfl) dL_law_707 g235) (fun r237 s236 h => ?_)
                                        refine r_ic_eq X 1501 dL_law_710 (by decide) (fun c238 => ?_) (fun c238 => ?_)
                                        · replace h := h.1 c238
                                          refine r_iinc (lv' := [(3, .int (v3 + 6)), (0, .ref v0), (1, .ref (kB G + 0)), (2, .ref (kB G + 182))]) X 3 dL_law_1501 rfl rfl (Nat.le_of_ble_eq_true rfl) rfl ?_
                                          refine r_goto X 18 dL_law_1504 (by decide) ?_
                                          refine r_sub [1, 2, 3, 0] rfl ?_
                                          exact ih (v3 + 6) ((ce + 1) + 0) ((sl + 6) + 0) s236 h
                                        · replace h := h.2 c238
                                          refine r_iconst (v := 0) X dL_law_713 rfl ?_
                                          obtain ⟨g239, h⟩ := h
                                          obtain ⟨g240, h⟩ := h
                                          exact r_wret X ha hk g239 g240.1 g240.2 dL_law_714
                                      refine r_if_eq X 706 dL_law_699 (by decide) (fun c234 => ?_) (fun c234 => ?_)
                                      · rw [if_pos c234] at hJ
                                        refine r_iconst (v := 0) X dL_law_706 rfl ?_
                                        exact hJ
                                      · rw [if_neg c234] at hJ
                                        refine r_iconst (v := 1) X dL_law_702 rfl ?_
                                        refine r_goto X 707 dL_law_703 (by decide) ?_
                                        exact hJ
                                    refine r_if_eq X 684 dL_law_677 (by decide) (fun c227 => ?_) (fun c227 => ?_)
                                    · rw [if_pos c227] at hJ
                                      refine r_iconst (v := 0) X dL_law_684 rfl ?_
                                      exact hJ
                                    · rw [if_neg c227] at hJ
                                      refine r_iconst (v := 1) X dL_law_680 rfl ?_
                                      refine r_goto X 685 dL_law_681 (by decide) ?_
                                      exact hJ
                                  · replace h := h.2 c224
                                    by_cases c241 : y5 = 15
                                    · replace h := h.1 c241
                                      refine r_tin X 715 dL_law_33 15 c241 (by decide) (by decide) rfl (by decide) ?_
                                      refine r_aload_n X 1 dL_law_715 rfl rfl ?_
                                      obtain ⟨g242, h⟩ := h
                                      refine r_ci X (r_okVL (As := []) (rest := []) X (m_X0_judged (xl x) G X.2.2.2.2.1 hph s _ h) (cl_L_80 X ⟨(Nat.le_of_ble_eq_true rfl), (Nat.le_of_ble_eq_true rfl)⟩) hph 0 ly_0 rfl rfl rfl rfl (Nat.le_of_ble_eq_true rfl) dL_law_716 g242) (fun r244 s243 h => ?_)
                                      refine r_aload_n X 2 dL_law_719 rfl rfl ?_
                                      obtain ⟨g245, h⟩ := h
                                      refine r_ci X (r_okVL (As := []) (rest := [.int r244]) X (m_X2_judged (xl x) G X.2.2.2.2.1 hph s243 _ h) (cl_L_83 X ⟨(Nat.le_of_ble_eq_true rfl), (Nat.le_of_ble_eq_true rfl)⟩) hph 2 ly_182 rfl rfl rfl rfl (Nat.le_of_ble_eq_true rfl) dL_law_720 g245) (fun r247 s246 h => ?_)
                                      refine r_ic_eq X 1501 dL_law_723 (by decide) (fun c248 => ?_) (fun c248 => ?_)
                                      · replace h := h.1 c248
                                        refine r_iinc (lv' := [(3, .int (v3 + 6)), (0, .ref v0), (1, .ref (kB G + 0)), (2, .ref (kB G + 182))]) X 3 dL_law_1501 rfl rfl (Nat.le_of_ble_eq_true rfl) rfl ?_
                                        refine r_goto X 18 dL_law_1504 (by decide) ?_
                                        refine r_sub [1, 2, 3, 0] rfl ?_
                                        exact ih (v3 + 6) ((ce + 1) + 0) ((sl + 5) + 0) s246 h
                                      · replace h := h.2 c248
                                        refine r_iconst (v := 0) X dL_law_726 rfl ?_
                                        obtain ⟨g249, h⟩ := h
                                        obtain ⟨g250, h⟩ := h
                                        exact r_wret X ha hk g249 g250.1 g250.2 dL_law_727
                                    · replace h := h.2 c241
                                      by_cases c251 : y5 = 16
                                      · replace h := h.1 c251
                                        refine r_tin X 728 dL_law_33 16 c251 (by decide) (by decide) rfl (by decide) ?_
                                        refine r_aload_n X 1 dL_law_728 rfl rfl ?_
                                        refine r_aload_n X 0 dL_law_729 rfl rfl ?_
                                        refine r_iload_n X 3 dL_law_730 rfl rfl ?_
                                        refine r_iconst (v := 1) X dL_law_731 rfl ?_
                                        refine r_iadd X dL_law_732 ?_
                                        obtain ⟨g252, h⟩ := h
                                        refine r_ialdM X g1 g252 dL_law_733 ?_
                                        obtain ⟨A253, B254, h⟩ := h
                                        obtain ⟨g255, h⟩ := h
                                        refine r_ci X (r_okVL (As := [.int (gI s v0 (Int32.toNatClampNeg (v3 + 1)))]) (rest := []) X (m_X0_played (xl x) G X.2.2.2.2.1 hph A253 B254 (gI s v0 (Int32.toNatClampNeg (v3 + 1))) s _ h) (cl_L_84 X ⟨(Nat.le_of_ble_eq_true rfl), (Nat.le_of_ble_eq_true rfl)⟩) hph 0 ly_0 rfl rfl rfl rfl (Nat.le_of_ble_eq_true rfl) dL_law_734 g255) (fun r257 s256 h => ?_)
                                        refine r_aload_n X 2 dL_law_737 rfl rfl ?_
                                        refine r_aload_n X 0 dL_law_738 rfl rfl ?_
                                        refine r_iload_n X 3 dL_law_739 rfl rfl ?_
                                        refine r_iconst (v := 1) X dL_law_740 rfl ?_
                                        refine r_iadd X dL_law_741 ?_
                                        obtain ⟨g258, h⟩ := h
                                        obtain ⟨g259, h⟩ := h
                                        refine r_ialdM X g258 g259 dL_law_742 ?_
                                        obtain ⟨g260, h⟩ := h
                                        refine r_ci X (r_okVL (As := [.int (gI s256 v0 (Int32.toNatClampNeg (v3 + 1)))]) (rest := [.int r257]) X (m_X2_played (xl x) G X.2.2.2.2.1 hph (gI s256 v0 (Int32.toNatClampNeg (v3 + 1))) s256 _ h) (cl_L_87 X ⟨(Nat.le_of_ble_eq_true rfl), (Nat.le_of_ble_eq_true rfl)⟩) hph 2 ly_182 rfl rfl rfl rfl (Nat.le_of_ble_eq_true rfl) dL_law_743 g260) (fun r262 s261 h => ?_)
                                        refine r_ic_eq X 1501 dL_law_746 (by decide) (fun c263 => ?_) (fun c263 => ?_)
                                        · replace h := h.1 c263
                                          refine r_iinc (lv' := [(3, .int (v3 + 6)), (0, .ref v0), (1, .ref (kB G + 0)), (2, .ref (kB G + 182))]) X 3 dL_law_1501 rfl rfl (Nat.le_of_ble_eq_true rfl) rfl ?_
                                          refine r_goto X 18 dL_law_1504 (by decide) ?_
                                          refine r_sub [1, 2, 3, 0] rfl ?_
                                          exact ih (v3 + 6) ((ce + A253) + 0) ((sl + B254) + 0) s261 h
                                        · replace h := h.2 c263
                                          refine r_iconst (v := 0) X dL_law_749 rfl ?_
                                          obtain ⟨g264, h⟩ := h
                                          obtain ⟨g265, h⟩ := h
                                          exact r_wret X ha hk g264 g265.1 g265.2 dL_law_750
                                      · replace h := h.2 c251
                                        by_cases c266 : y5 = 17
                                        · replace h := h.1 c266
                                          refine r_tin X 751 dL_law_33 17 c266 (by decide) (by decide) rfl (by decide) ?_
                                          refine r_aload_n X 1 dL_law_751 rfl rfl ?_
                                          refine r_aload_n X 0 dL_law_752 rfl rfl ?_
                                          refine r_iload_n X 3 dL_law_753 rfl rfl ?_
                                          refine r_iconst (v := 1) X dL_law_754 rfl ?_
                                          refine r_iadd X dL_law_755 ?_
                                          obtain ⟨g267, h⟩ := h
                                          refine r_ialdM X g1 g267 dL_law_756 ?_
                                          refine r_aload_n X 0 dL_law_757 rfl rfl ?_
                                          refine r_iload_n X 3 dL_law_758 rfl rfl ?_
                                          refine r_iconst (v := 2) X dL_law_759 rfl ?_
                                          refine r_iadd X dL_law_760 ?_
                                          obtain ⟨g268, h⟩ := h
                                          refine r_ialdM X g1 g268 dL_law_761 ?_
                                          obtain ⟨A269, B270, h⟩ := h
                                          obtain ⟨g271, h⟩ := h
                                          refine r_ci X (r_okVL (As := [.int (gI s v0 (Int32.toNatClampNeg (v3 + 1))), .int (gI s v0 (Int32.toNatClampNeg (v3 + 2)))]) (rest := []) X (m_X0_day (xl x) G X.2.2.2.2.1 hph A269 B270 (gI s v0 (Int32.toNatClampNeg (v3 + 1))) (gI s v0 (Int32.toNatClampNeg (v3 + 2))) s _ h) (cl_L_88 X ⟨(Nat.le_of_ble_eq_true rfl), (Nat.le_of_ble_eq_true rfl)⟩) hph 0 ly_0 rfl rfl rfl rfl (Nat.le_of_ble_eq_true rfl) dL_law_762 g271) (fun r273 s272 h => ?_)
                                          refine r_aload_n X 2 dL_law_765 rfl rfl ?_
                                          refine r_aload_n X 0 dL_law_766 rfl rfl ?_
                                          refine r_iload_n X 3 dL_law_767 rfl rfl ?_
                                          refine r_iconst (v := 1) X dL_law_768 rfl ?_
                                          refine r_iadd X dL_law_769 ?_
                                          obtain ⟨g274, h⟩ := h
                                          obtain ⟨g275, h⟩ := h
                                          refine r_ialdM X g274 g275 dL_law_770 ?_
                                          refine r_aload_n X 0 dL_law_771 rfl rfl ?_
                                          refine r_iload_n X 3 dL_law_772 rfl rfl ?_
                                          refine r_iconst (v := 2) X dL_law_773 rfl ?_
                                          refine r_iadd X dL_law_774 ?_
                                          obtain ⟨g276, h⟩ := h
                                          refine r_ialdM X g274 g276 dL_law_775 ?_
                                          obtain ⟨g277, h⟩ := h
                                          refine r_ci X (r_okVL (As := [.int (gI s272 v0 (Int32.toNatClampNeg (v3 + 1))), .int (gI s272 v0 (Int32.toNatClampNeg (v3 + 2)))]) (rest := [.int r273]) X (m_X2_day (xl x) G X.2.2.2.2.1 hph (gI s272 v0 (Int32.toNatClampNeg (v3 + 1))) (gI s272 v0 (Int32.toNatClampNeg (v3 + 2))) s272 _ h) (cl_L_92 X ⟨(Nat.le_of_ble_eq_true rfl), (Nat.le_of_ble_eq_true rfl)⟩) hph 2 ly_182 rfl rfl rfl rfl (Nat.le_of_ble_eq_true rfl) dL_law_776 g277) (fun r279 s278 h => ?_)
                                          refine r_ic_eq X 1501 dL_law_779 (by decide) (fun c280 => ?_) (fun c280 => ?_)
                                          · replace h := h.1 c280
                                            refine r_iinc (lv' := [(3, .int (v3 + 6)), (0, .ref v0), (1, .ref (kB G + 0)), (2, .ref (kB G + 182))]) X 3 dL_law_1501 rfl rfl (Nat.le_of_ble_eq_true rfl) rfl ?_
                                            refine r_goto X 18 dL_law_1504 (by decide) ?_
                                            refine r_sub [1, 2, 3, 0] rfl ?_
                                            exact ih (v3 + 6) ((ce + A269) + 0) ((sl + B270) + 0) s278 h
                                          · replace h := h.2 c280
                                            refine r_iconst (v := 0) X dL_law_782 rfl ?_
                                            obtain ⟨g281, h⟩ := h
                                            obtain ⟨g282, h⟩ := h
                                            exact r_wret X ha hk g281 g282.1 g282.2 dL_law_783
                                        · replace h := h.2 c266
                                          by_cases c283 : y5 = 18
                                          · replace h := h.1 c283
                                            refine r_tin X 784 dL_law_33 18 c283 (by decide) (by decide) rfl (by decide) ?_
                                            refine r_aload_n X 1 dL_law_784 rfl rfl ?_
                                            obtain ⟨g284, h⟩ := h
                                            refine r_ci X (r_okVL (As := []) (rest := []) X (m_X0_undo (xl x) G X.2.2.2.2.1 hph s _ h) (cl_L_93 X ⟨(Nat.le_of_ble_eq_true rfl), (Nat.le_of_ble_eq_true rfl)⟩) hph 0 ly_0 rfl rfl rfl rfl (Nat.le_of_ble_eq_true rfl) dL_law_785 g284) (fun r286 s285 h => ?_)
                                            refine r_aload_n X 2 dL_law_788 rfl rfl ?_
                                            obtain ⟨g287, h⟩ := h
                                            refine r_ci X (r_okVL (As := []) (rest := [.int r286]) X (m_X2_undo (xl x) G X.2.2.2.2.1 hph s285 _ h) (cl_L_96 X ⟨(Nat.le_of_ble_eq_true rfl), (Nat.le_of_ble_eq_true rfl)⟩) hph 2 ly_182 rfl rfl rfl rfl (Nat.le_of_ble_eq_true rfl) dL_law_789 g287) (fun r289 s288 h => ?_)
                                            refine r_ic_eq X 1501 dL_law_792 (by decide) (fun c290 => ?_) (fun c290 => ?_)
                                            · replace h := h.1 c290
                                              refine r_iinc (lv' := [(3, .int (v3 + 6)), (0, .ref v0), (1, .ref (kB G + 0)), (2, .ref (kB G + 182))]) X 3 dL_law_1501 rfl rfl (Nat.le_of_ble_eq_true rfl) rfl ?_
                                              refine r_goto X 18 dL_law_1504 (by decide) ?_
                                              refine r_sub [1, 2, 3, 0] rfl ?_
                                              exact ih (v3 + 6) ((ce + 0) + 0) ((sl + 0) + 0) s288 h
                                            · replace h := h.2 c290
                                              refine r_iconst (v := 0) X dL_law_795 rfl ?_
                                              obtain ⟨g291, h⟩ := h
                                              obtain ⟨g292, h⟩ := h
                                              exact r_wret X ha hk g291 g292.1 g292.2 dL_law_796
                                          · replace h := h.2 c283
                                            by_cases c293 : y5 = 19
                                            · replace h := h.1 c293
                                              refine r_tin X 797 dL_law_33 19 c293 (by decide) (by decide) rfl (by decide) ?_
                                              refine r_aload_n X 1 dL_law_797 rfl rfl ?_
                                              refine r_aload_n X 0 dL_law_798 rfl rfl ?_
                                              refine r_iload_n X 3 dL_law_799 rfl rfl ?_
                                              refine r_iconst (v := 1) X dL_law_800 rfl ?_
                                              refine r_iadd X dL_law_801 ?_
                                              obtain ⟨g294, h⟩ := h
                                              refine r_ialdM X g1 g294 dL_law_802 ?_
                                              obtain ⟨g295, h⟩ := h
                                              refine r_ci X (r_okVL (As := [.int (gI s v0 (Int32.toNatClampNeg (v3 + 1)))]) (rest := []) X (m_X0_scale (xl x) G X.2.2.2.2.1 hph (gI s v0 (Int32.toNatClampNeg (v3 + 1))) s _ h) (cl_L_97 X ⟨(Nat.le_of_ble_eq_true rfl), (Nat.le_of_ble_eq_true rfl)⟩) hph 0 ly_0 rfl rfl rfl rfl (Nat.le_of_ble_eq_true rfl) dL_law_803 g295) (fun r297 s296 h => ?_)
                                              refine r_aload_n X 2 dL_law_806 rfl rfl ?_
                                              refine r_aload_n X 0 dL_law_807 rfl rfl ?_
                                              refine r_iload_n X 3 dL_law_808 rfl rfl ?_
                                              refine r_iconst (v := 1) X dL_law_809 rfl ?_
                                              refine r_iadd X dL_law_810 ?_
                                              obtain ⟨g298, h⟩ := h
                                              obtain ⟨g299, h⟩ := h
                                              refine r_ialdM X g298 g299 dL_law_811 ?_
                                              obtain ⟨g300, h⟩ := h
                                              refine r_ci X (r_okVL (As := [.int (gI s296 v0 (Int32.toNatClampNeg (v3 + 1)))]) (rest := [.int r297]) X (m_X2_scale (xl x) G X.2.2.2.2.1 hph (gI s296 v0 (Int32.toNatClampNeg (v3 + 1))) s296 _ h) (cl_L_100 X ⟨(Nat.le_of_ble_eq_true rfl), (Nat.le_of_ble_eq_true rfl)⟩) hph 2 ly_182 rfl rfl rfl rfl (Nat.le_of_ble_eq_true rfl) dL_law_812 g300) (fun r302 s301 h => ?_)
                                              refine r_ic_eq X 1501 dL_law_815 (by decide) (fun c303 => ?_) (fun c303 => ?_)
                                              · replace h := h.1 c303
                                                refine r_iinc (lv' := [(3, .int (v3 + 6)), (0, .ref v0), (1, .ref (kB G + 0)), (2, .ref (kB G + 182))]) X 3 dL_law_1501 rfl rfl (Nat.le_of_ble_eq_true rfl) rfl ?_
                                                refine r_goto X 18 dL_law_1504 (by decide) ?_
                                                refine r_sub [1, 2, 3, 0] rfl ?_
                                                exact ih (v3 + 6) ((ce + 0) + 0) ((sl + 0) + 0) s301 h
                                              · replace h := h.2 c303
                                                refine r_iconst (v := 0) X dL_law_818 rfl ?_
                                                obtain ⟨g304, h⟩ := h
                                                obtain ⟨g305, h⟩ := h
                                                exact r_wret X ha hk g304 g305.1 g305.2 dL_law_819
                                            · replace h := h.2 c293
                                              by_cases c306 : y5 = 20
                                              · replace h := h.1 c306
                                                refine r_tin X 820 dL_law_33 20 c306 (by decide) (by decide) rfl (by decide) ?_
                                                refine r_aload_n X 1 dL_law_820 rfl rfl ?_
                                                refine r_aload_n X 0 dL_law_821 rfl rfl ?_
                                                refine r_iload_n X 3 dL_law_822 rfl rfl ?_
                                                refine r_iconst (v := 1) X dL_law_823 rfl ?_
                                                refine r_iadd X dL_law_824 ?_
                                                obtain ⟨g307, h⟩ := h
                                                refine r_ialdM X g1 g307 dL_law_825 ?_
                                                refine r_aload_n X 0 dL_law_826 rfl rfl ?_
                                                refine r_iload_n X 3 dL_law_827 rfl rfl ?_
                                                refine r_iconst (v := 2) X dL_law_828 rfl ?_
                                                refine r_iadd X dL_law_829 ?_
                                                obtain ⟨g308, h⟩ := h
                                                refine r_ialdM X g1 g308 dL_law_830 ?_
                                                obtain ⟨g309, h⟩ := h
                                                refine r_ci X (r_okVL (As := [.int (gI s v0 (Int32.toNatClampNeg (v3 + 1))), .int (gI s v0 (Int32.toNatClampNeg (v3 + 2)))]) (rest := []) X (m_X0_ofHeart (xl x) G X.2.2.2.2.1 hph (gI s v0 (Int32.toNatClampNeg (v3 + 1))) (gI s v0 (Int32.toNatClampNeg (v3 + 2))) s _ h) (cl_L_101 X ⟨(Nat.le_of_ble_eq_true rfl), (Nat.le_of_ble_eq_true rfl)⟩) hph 0 ly_0 rfl rfl rfl rfl (Nat.le_of_ble_eq_true rfl) dL_law_831 g309) (fun r311 s310 h => ?_)
                                                refine r_aload_n X 2 dL_law_834 rfl rfl ?_
                                                refine r_aload_n X 0 dL_law_835 rfl rfl ?_
                                                refine r_iload_n X 3 dL_law_836 rfl rfl ?_
                                                refine r_iconst (v := 1) X dL_law_837 rfl ?_
                                                refine r_iadd X dL_law_838 ?_
                                                obtain ⟨g312, h⟩ := h
                                                obtain ⟨g313, h⟩ := h
                                                refine r_ialdM X g312 g313 dL_law_839 ?_
                                                refine r_aload_n X 0 dL_law_840 rfl rfl ?_
                                                refine r_iload_n X 3 dL_law_841 rfl rfl ?_
                                                refine r_iconst (v := 2) X dL_law_842 rfl ?_
                                                refine r_iadd X dL_law_843 ?_
                                                obtain ⟨g314, h⟩ := h
                                                refine r_ialdM X g312 g314 dL_law_844 ?_
                                                obtain ⟨g315, h⟩ := h
                                                refine r_ci X (r_okVL (As := [.int (gI s310 v0 (Int32.toNatClampNeg (v3 + 1))), .int (gI s310 v0 (Int32.toNatClampNeg (v3 + 2)))]) (rest := [.int r311]) X (m_X2_ofHeart (xl x) G X.2.2.2.2.1 hph (gI s310 v0 (Int32.toNatClampNeg (v3 + 1))) (gI s310 v0 (Int32.toNatClampNeg (v3 + 2))) s310 _ h) (cl_L_104 X ⟨(Nat.le_of_ble_eq_true rfl), (Nat.le_of_ble_eq_true rfl)⟩) hph 2 ly_182 rfl rfl rfl rfl (Nat.le_of_ble_eq_true rfl) dL_law_845 g315) (fun r317 s316 h => ?_)
                                                refine r_ic_eq X 1501 dL_law_848 (by decide) (fun c318 => ?_) (fun c318 => ?_)
                                                · replace h := h.1 c318
                                                  refine r_iinc (lv' := [(3, .int (v3 + 6)), (0, .ref v0), (1, .ref (kB G + 0)), (2, .ref (kB G + 182))]) X 3 dL_law_1501 rfl rfl (Nat.le_of_ble_eq_true rfl) rfl ?_
                                                  refine r_goto X 18 dL_law_1504 (by decide) ?_
                                                  refine r_sub [1, 2, 3, 0] rfl ?_
                                                  exact ih (v3 + 6) ((ce + 0) + 0) ((sl + 0) + 0) s316 h
                                                · replace h := h.2 c318
                                                  refine r_iconst (v := 0) X dL_law_851 rfl ?_
                                                  obtain ⟨g319, h⟩ := h
                                                  obtain ⟨g320, h⟩ := h
                                                  exact r_wret X ha hk g319 g320.1 g320.2 dL_law_852
                                              · replace h := h.2 c306
                                                by_cases c321 : y5 = 21
                                                · replace h := h.1 c321
                                                  refine r_tin X 853 dL_law_33 21 c321 (by decide) (by decide) rfl (by decide) ?_
                                                  refine r_aload_n X 1 dL_law_853 rfl rfl ?_
                                                  refine r_aload_n X 0 dL_law_854 rfl rfl ?_
                                                  refine r_iload_n X 3 dL_law_855 rfl rfl ?_
                                                  refine r_iconst (v := 1) X dL_law_856 rfl ?_
                                                  refine r_iadd X dL_law_857 ?_
                                                  obtain ⟨g322, h⟩ := h
                                                  refine r_ialdM X g1 g322 dL_law_858 ?_
                                                  refine r_aload_n X 0 dL_law_859 rfl rfl ?_
                                                  refine r_iload_n X 3 dL_law_860 rfl rfl ?_
                                                  refine r_iconst (v := 2) X dL_law_861 rfl ?_
                                                  refine r_iadd X dL_law_862 ?_
                                                  obtain ⟨g323, h⟩ := h
                                                  refine r_ialdM X g1 g323 dL_law_863 ?_
                                                  obtain ⟨g324, h⟩ := h
                                                  refine r_ci X (r_okVL (As := [.int (gI s v0 (Int32.toNatClampNeg (v3 + 1))), .int (gI s v0 (Int32.toNatClampNeg (v3 + 2)))]) (rest := []) X (m_X0_ofDeed (xl x) G X.2.2.2.2.1 hph (gI s v0 (Int32.toNatClampNeg (v3 + 1))) (gI s v0 (Int32.toNatClampNeg (v3 + 2))) s _ h) (cl_L_105 X ⟨(Nat.le_of_ble_eq_true rfl), (Nat.le_of_ble_eq_true rfl)⟩) hph 0 ly_0 rfl rfl rfl rfl (Nat.le_of_ble_eq_true rfl) dL_law_864 g324) (fun r326 s325 h => ?_)
                                                  refine r_aload_n X 2 dL_law_867 rfl rfl ?_
                                                  refine r_aload_n X 0 dL_law_868 rfl rfl ?_
                                                  refine r_iload_n X 3 dL_law_869 rfl rfl ?_
                                                  refine r_iconst (v := 1) X dL_law_870 rfl ?_
                                                  refine r_iadd X dL_law_871 ?_
                                                  obtain ⟨g327, h⟩ := h
                                                  obtain ⟨g328, h⟩ := h
                                                  refine r_ialdM X g327 g328 dL_law_872 ?_
                                                  refine r_aload_n X 0 dL_law_873 rfl rfl ?_
                                                  refine r_iload_n X 3 dL_law_874 rfl rfl ?_
                                                  refine r_iconst (v := 2) X dL_law_875 rfl ?_
                                                  refine r_iadd X dL_law_876 ?_
                                                  obtain ⟨g329, h⟩ := h
                                                  refine r_ialdM X g327 g329 dL_law_877 ?_
                                                  obtain ⟨g330, h⟩ := h
                                                  refine r_ci X (r_okVL (As := [.int (gI s325 v0 (Int32.toNatClampNeg (v3 + 1))), .int (gI s325 v0 (Int32.toNatClampNeg (v3 + 2)))]) (rest := [.int r326]) X (m_X2_ofDeed (xl x) G X.2.2.2.2.1 hph (gI s325 v0 (Int32.toNatClampNeg (v3 + 1))) (gI s325 v0 (Int32.toNatClampNeg (v3 + 2))) s325 _ h) (cl_L_108 X ⟨(Nat.le_of_ble_eq_true rfl), (Nat.le_of_ble_eq_true rfl)⟩) hph 2 ly_182 rfl rfl rfl rfl (Nat.le_of_ble_eq_true rfl) dL_law_878 g330) (fun r332 s331 h => ?_)
                                                  refine r_ic_eq X 1501 dL_law_881 (by decide) (fun c333 => ?_) (fun c333 => ?_)
                                                  · replace h := h.1 c333
                                                    refine r_iinc (lv' := [(3, .int (v3 + 6)), (0, .ref v0), (1, .ref (kB G + 0)), (2, .ref (kB G + 182))]) X 3 dL_law_1501 rfl rfl (Nat.le_of_ble_eq_true rfl) rfl ?_
                                                    refine r_goto X 18 dL_law_1504 (by decide) ?_
                                                    refine r_sub [1, 2, 3, 0] rfl ?_
                                                    exact ih (v3 + 6) ((ce + 0) + 0) ((sl + 0) + 0) s331 h
                                                  · replace h := h.2 c333
                                                    refine r_iconst (v := 0) X dL_law_884 rfl ?_
                                                    obtain ⟨g334, h⟩ := h
                                                    obtain ⟨g335, h⟩ := h
                                                    exact r_wret X ha hk g334 g335.1 g335.2 dL_law_885
                                                · replace h := h.2 c321
                                                  by_cases c336 : y5 = 22
                                                  · replace h := h.1 c336
                                                    refine r_tin X 886 dL_law_33 22 c336 (by decide) (by decide) rfl (by decide) ?_
                                                    refine r_aload_n X 1 dL_law_886 rfl rfl ?_
                                                    refine r_aload_n X 0 dL_law_887 rfl rfl ?_
                                                    refine r_iload_n X 3 dL_law_888 rfl rfl ?_
                                                    refine r_iconst (v := 1) X dL_law_889 rfl ?_
                                                    refine r_iadd X dL_law_890 ?_
                                                    obtain ⟨g337, h⟩ := h
                                                    refine r_ialdM X g1 g337 dL_law_891 ?_
                                                    refine r_aload_n X 0 dL_law_892 rfl rfl ?_
                                                    refine r_iload_n X 3 dL_law_893 rfl rfl ?_
                                                    refine r_iconst (v := 2) X dL_law_894 rfl ?_
                                                    refine r_iadd X dL_law_895 ?_
                                                    obtain ⟨g338, h⟩ := h
                                                    refine r_ialdM X g1 g338 dL_law_896 ?_
                                                    obtain ⟨g339, h⟩ := h
                                                    refine r_ci X (r_okVL (As := [.int (gI s v0 (Int32.toNatClampNeg (v3 + 1))), .int (gI s v0 (Int32.toNatClampNeg (v3 + 2)))]) (rest := []) X (m_X0_isSo (xl x) G X.2.2.2.2.1 hph (gI s v0 (Int32.toNatClampNeg (v3 + 1))) (gI s v0 (Int32.toNatClampNeg (v3 + 2))) s _ h) (cl_L_109 X ⟨(Nat.le_of_ble_eq_true rfl), (Nat.le_of_ble_eq_true rfl)⟩) hph 0 ly_0 rfl rfl rfl rfl (Nat.le_of_ble_eq_true rfl) dL_law_897 g339) (fun r341 s340 h => ?_)
                                                    refine r_aload_n X 2 dL_law_900 rfl rfl ?_
                                                    refine r_aload_n X 0 dL_law_901 rfl rfl ?_
                                                    refine r_iload_n X 3 dL_law_902 rfl rfl ?_
                                                    refine r_iconst (v := 1) X dL_law_903 rfl ?_
                                                    refine r_iadd X dL_law_904 ?_
                                                    obtain ⟨g342, h⟩ := h
                                                    obtain ⟨g343, h⟩ := h
                                                    refine r_ialdM X g342 g343 dL_law_905 ?_
                                                    refine r_aload_n X 0 dL_law_906 rfl rfl ?_
                                                    refine r_iload_n X 3 dL_law_907 rfl rfl ?_
                                                    refine r_iconst (v := 2) X dL_law_908 rfl ?_
                                                    refine r_iadd X dL_law_909 ?_
                                                    obtain ⟨g344, h⟩ := h
                                                    refine r_ialdM X g342 g344 dL_law_910 ?_
                                                    obtain ⟨g345, h⟩ := h
                                                    refine r_ci X (r_okVL (As := [.int (gI s340 v0 (Int32.toNatClampNeg (v3 + 1))), .int (gI s340 v0 (Int32.toNatClampNeg (v3 + 2)))]) (rest := [.int r341]) X (m_X2_isSo (xl x) G X.2.2.2.2.1 hph (gI s340 v0 (Int32.toNatClampNeg (v3 + 1))) (gI s340 v0 (Int32.toNatClampNeg (v3 + 2))) s340 _ h) (cl_L_112 X ⟨(Nat.le_of_ble_eq_true rfl), (Nat.le_of_ble_eq_true rfl)⟩) hph 2 ly_182 rfl rfl rfl rfl (Nat.le_of_ble_eq_true rfl) dL_law_911 g345) (fun r347 s346 h => ?_)
                                                    refine r_ic_eq X 1501 dL_law_914 (by decide) (fun c348 => ?_) (fun c348 => ?_)
                                                    · replace h := h.1 c348
                                                      refine r_iinc (lv' := [(3, .int (v3 + 6)), (0, .ref v0), (1, .ref (kB G + 0)), (2, .ref (kB G + 182))]) X 3 dL_law_1501 rfl rfl (Nat.le_of_ble_eq_true rfl) rfl ?_
                                                      refine r_goto X 18 dL_law_1504 (by decide) ?_
                                                      refine r_sub [1, 2, 3, 0] rfl ?_
                                                      exact ih (v3 + 6) ((ce + 0) + 0) ((sl + 0) + 0) s346 h
                                                    · replace h := h.2 c348
                                                      refine r_iconst (v := 0) X dL_law_917 rfl ?_
                                                      obtain ⟨g349, h⟩ := h
                                                      obtain ⟨g350, h⟩ := h
                                                      exact r_wret X ha hk g349 g350.1 g350.2 dL_law_918
                                                  · replace h := h.2 c336
                                                    by_cases c351 : y5 = 23
                                                    · replace h := h.1 c351
                                                      refine r_tin X 919 dL_law_33 23 c351 (by decide) (by decide) rfl (by decide) ?_
                                                      refine r_aload_n X 1 dL_law_919 rfl rfl ?_
                                                      refine r_aload_n X 0 dL_law_920 rfl rfl ?_
                                                      refine r_iload_n X 3 dL_law_921 rfl rfl ?_
                                                      refine r_iconst (v := 1) X dL_law_922 rfl ?_
                                                      refine r_iadd X dL_law_923 ?_
                                                      obtain ⟨g352, h⟩ := h
                                                      refine r_ialdM X g1 g352 dL_law_924 ?_
                                                      refine r_aload_n X 0 dL_law_925 rfl rfl ?_
                                                      refine r_iload_n X 3 dL_law_926 rfl rfl ?_
                                                      refine r_iconst (v := 2) X dL_law_927 rfl ?_
                                                      refine r_iadd X dL_law_928 ?_
                                                      obtain ⟨g353, h⟩ := h
                                                      refine r_ialdM X g1 g353 dL_law_929 ?_
                                                      obtain ⟨g354, h⟩ := h
                                                      refine r_ci X (r_okVL (As := [.int (gI s v0 (Int32.toNatClampNeg (v3 + 1))), .int (gI s v0 (Int32.toNatClampNeg (v3 + 2)))]) (rest := []) X (m_X0_book (xl x) G X.2.2.2.2.1 hph (gI s v0 (Int32.toNatClampNeg (v3 + 1))) (gI s v0 (Int32.toNatClampNeg (v3 + 2))) s _ h) (cl_L_113 X ⟨(Nat.le_of_ble_eq_true rfl), (Nat.le_of_ble_eq_true rfl)⟩) hph 0 ly_0 rfl rfl rfl rfl (Nat.le_of_ble_eq_true rfl) dL_law_930 g354) (fun r356 s355 h => ?_)
                                                      refine r_aload_n X 2 dL_law_933 rfl rfl ?_
                                                      refine r_aload_n X 0 dL_law_934 rfl rfl ?_
                                                      refine r_iload_n X 3 dL_law_935 rfl rfl ?_
                                                      refine r_iconst (v := 1) X dL_law_936 rfl ?_
                                                      refine r_iadd X dL_law_937 ?_
                                                      obtain ⟨g357, h⟩ := h
                                                      obtain ⟨g358, h⟩ := h
                                                      refine r_ialdM X g357 g358 dL_law_938 ?_
                                                      refine r_aload_n X 0 dL_law_939 rfl rfl ?_
                                                      refine r_iload_n X 3 dL_law_940 rfl rfl ?_
                                                      refine r_iconst (v := 2) X dL_law_941 rfl ?_
                                                      refine r_iadd X dL_law_942 ?_
                                                      obtain ⟨g359, h⟩ := h
                                                      refine r_ialdM X g357 g359 dL_law_943 ?_
                                                      obtain ⟨g360, h⟩ := h
                                                      refine r_ci X (r_okVL (As := [.int (gI s355 v0 (Int32.toNatClampNeg (v3 + 1))), .int (gI s355 v0 (Int32.toNatClampNeg (v3 + 2)))]) (rest := [.int r356]) X (m_X2_book (xl x) G X.2.2.2.2.1 hph (gI s355 v0 (Int32.toNatClampNeg (v3 + 1))) (gI s355 v0 (Int32.toNatClampNeg (v3 + 2))) s355 _ h) (cl_L_116 X ⟨(Nat.le_of_ble_eq_true rfl), (Nat.le_of_ble_eq_true rfl)⟩) hph 2 ly_182 rfl rfl rfl rfl (Nat.le_of_ble_eq_true rfl) dL_law_944 g360) (fun r362 s361 h => ?_)
                                                      refine r_ic_eq X 1501 dL_law_947 (by decide) (fun c363 => ?_) (fun c363 => ?_)
                                                      · replace h := h.1 c363
                                                        refine r_iinc (lv' := [(3, .int (v3 + 6)), (0, .ref v0), (1, .ref (kB G + 0)), (2, .ref (kB G + 182))]) X 3 dL_law_1501 rfl rfl (Nat.le_of_ble_eq_true rfl) rfl ?_
                                                        refine r_goto X 18 dL_law_1504 (by decide) ?_
                                                        refine r_sub [1, 2, 3, 0] rfl ?_
                                                        exact ih (v3 + 6) ((ce + 0) + 0) ((sl + 0) + 0) s361 h
                                                      · replace h := h.2 c363
                                                        refine r_iconst (v := 0) X dL_law_950 rfl ?_
                                                        obtain ⟨g364, h⟩ := h
                                                        obtain ⟨g365, h⟩ := h
                                                        exact r_wret X ha hk g364 g365.1 g365.2 dL_law_951
                                                    · replace h := h.2 c351
                                                      by_cases c366 : y5 = 24
                                                      · replace h := h.1 c366
                                                        refine r_tin X 952 dL_law_33 24 c366 (by decide) (by decide) rfl (by decide) ?_
                                                        refine r_aload_n X 1 dL_law_952 rfl rfl ?_
                                                        refine r_aload_n X 0 dL_law_953 rfl rfl ?_
                                                        refine r_iload_n X 3 dL_law_954 rfl rfl ?_
                                                        refine r_iconst (v := 1) X dL_law_955 rfl ?_
                                                        refine r_iadd X dL_law_956 ?_
                                                        obtain ⟨g367, h⟩ := h
                                                        refine r_ialdM X g1 g367 dL_law_957 ?_
                                                        refine r_aload_n X 0 dL_law_958 rfl rfl ?_
                                                        refine r_iload_n X 3 dL_law_959 rfl rfl ?_
                                                        refine r_iconst (v := 2) X dL_law_960 rfl ?_
                                                        refine r_iadd X dL_law_961 ?_
                                                        obtain ⟨g368, h⟩ := h
                                                        refine r_ialdM X g1 g368 dL_law_962 ?_
                                                        have hJ : WB x G 4 (QfW x) ce sl s 971 [(0, .ref v0), (1, .ref (kB G + 0)), (2, .ref (kB G + 182)), (3, .int v3)] [.int (if (gI s v0 (Int32.toNatClampNeg (v3 + 2))) = 0 then 0 else 1 : Int32), .int (gI s v0 (Int32.toNatClampNeg (v3 + 1))), .ref (kB G + 0)] := by
                                                          refine r_aload_n X 0 dL_law_971 rfl rfl ?_
                                                          refine r_iload_n X 3 dL_law_972 rfl rfl ?_
                                                          refine r_iconst (v := 3) X dL_law_973 rfl ?_
                                                          refine r_iadd X dL_law_974 ?_
                                                          obtain ⟨g370, h⟩ := h
                                                          refine r_ialdM X g1 g370 dL_law_975 ?_
                                                          obtain ⟨g371, h⟩ := h
                                                          refine r_ci X (r_okVL (As := [.int (gI s v0 (Int32.toNatClampNeg (v3 + 1))), .int (if (gI s v0 (Int32.toNatClampNeg (v3 + 2))) = 0 then 0 else 1 : Int32), .int (gI s v0 (Int32.toNatClampNeg (v3 + 3)))]) (rest := []) X (m_X0_lightest (xl x) G X.2.2.2.2.1 hph (gI s v0 (Int32.toNatClampNeg (v3 + 1))) (if (gI s v0 (Int32.toNatClampNeg (v3 + 2))) = 0 then 0 else 1 : Int32) (gI s v0 (Int32.toNatClampNeg (v3 + 3))) s _ h) (cl_L_117 X ⟨(Nat.le_of_ble_eq_true rfl), (Nat.le_of_ble_eq_true rfl)⟩) hph 0 ly_0 rfl rfl rfl rfl (Nat.le_of_ble_eq_true rfl) dL_law_976 g371) (fun r373 s372 h => ?_)
                                                          refine r_aload_n X 2 dL_law_979 rfl rfl ?_
                                                          refine r_aload_n X 0 dL_law_980 rfl rfl ?_
                                                          refine r_iload_n X 3 dL_law_981 rfl rfl ?_
                                                          refine r_iconst (v := 1) X dL_law_982 rfl ?_
                                                          refine r_iadd X dL_law_983 ?_
                                                          obtain ⟨g374, h⟩ := h
                                                          obtain ⟨g375, h⟩ := h
                                                          refine r_ialdM X g374 g375 dL_law_984 ?_
                                                          refine r_aload_n X 0 dL_law_985 rfl rfl ?_
                                                          refine r_iload_n X 3 dL_law_986 rfl rfl ?_
                                                          refine r_iconst (v := 2) X dL_law_987 rfl ?_
                                                          refine r_iadd X dL_law_988 ?_
                                                          obtain ⟨g376, h⟩ := h
                                                          refine r_ialdM X g374 g376 dL_law_989 ?_
                                                          have hJ : WB x G 4 (QfW x) (ce + 0) (sl + 0) s372 998 [(0, .ref v0), (1, .ref (kB G + 0)), (2, .ref (kB G + 182)), (3, .int v3)] [.int (if (gI s372 v0 (Int32.toNatClampNeg (v3 + 2))) = 0 then 0 else 1 : Int32), .int (gI s372 v0 (Int32.toNatClampNeg (v3 + 1))), .ref (kB G + 182), .int r373] := by
                                                            refine r_aload_n X 0 dL_law_998 rfl rfl ?_
                                                            refine r_iload_n X 3 dL_law_999 rfl rfl ?_
                                                            refine r_iconst (v := 3) X dL_law_1000 rfl ?_
                                                            refine r_iadd X dL_law_1001 ?_
                                                            obtain ⟨g378, h⟩ := h
                                                            refine r_ialdM X g374 g378 dL_law_1002 ?_
                                                            obtain ⟨g379, h⟩ := h
                                                            refine r_ci X (r_okVL (As := [.int (gI s372 v0 (Int32.toNatClampNeg (v3 + 1))), .int (if (gI s372 v0 (Int32.toNatClampNeg (v3 + 2))) = 0 then 0 else 1 : Int32), .int (gI s372 v0 (Int32.toNatClampNeg (v3 + 3)))]) (rest := [.int r373]) X (m_X2_lightest (xl x) G X.2.2.2.2.1 hph (gI s372 v0 (Int32.toNatClampNeg (v3 + 1))) (if (gI s372 v0 (Int32.toNatClampNeg (v3 + 2))) = 0 then 0 else 1 : Int32) (gI s372 v0 (Int32.toNatClampNeg (v3 + 3))) s372 _ h) (cl_L_121 X ⟨(Nat.le_of_ble_eq_true rfl), (Nat.le_of_ble_eq_true rfl)⟩) hph 2 ly_182 rfl rfl rfl rfl (Nat.le_of_ble_eq_true rfl) dL_law_1003 g379) (fun r381 s380 h => ?_)
                                                            refine r_ic_eq X 1501 dL_law_1006 (by decide) (fun c382 => ?_) (fun c382 => ?_)
                                                            · replace h := h.1 c382
                                                              refine r_iinc (lv' := [(3, .int (v3 + 6)), (0, .ref v0), (1, .ref (kB G + 0)), (2, .ref (kB G + 182))]) X 3 dL_law_1501 rfl rfl (Nat.le_of_ble_eq_true rfl) rfl ?_
                                                              refine r_goto X 18 dL_law_1504 (by decide) ?_
                                                              refine r_sub [1, 2, 3, 0] rfl ?_
                                                              exact ih (v3 + 6) ((ce + 0) + 0) ((sl + 0) + 0) s380 h
                                                            · replace h := h.2 c382
                                                              refine r_iconst (v := 0) X dL_law_1009 rfl ?_
                                                              obtain ⟨g383, h⟩ := h
                                                              obtain ⟨g384, h⟩ := h
                                                              exact r_wret X ha hk g383 g384.1 g384.2 dL_law_1010
                                                          refine r_if_eq X 997 dL_law_990 (by decide) (fun c377 => ?_) (fun c377 => ?_)
                                                          · rw [if_pos c377] at hJ
                                                            refine r_iconst (v := 0) X dL_law_997 rfl ?_
                                                            exact hJ
                                                          · rw [if_neg c377] at hJ
                                                            refine r_iconst (v := 1) X dL_law_993 rfl ?_
                                                            refine r_goto X 998 dL_law_994 (by decide) ?_
                                                            exact hJ
                                                        refine r_if_eq X 970 dL_law_963 (by decide) (fun c369 => ?_) (fun c369 => ?_)
                                                        · rw [if_pos c369] at hJ
                                                          refine r_iconst (v := 0) X dL_law_970 rfl ?_
                                                          exact hJ
                                                        · rw [if_neg c369] at hJ
                                                          refine r_iconst (v := 1) X dL_law_966 rfl ?_
                                                          refine r_goto X 971 dL_law_967 (by decide) ?_
                                                          exact hJ
                                                      · replace h := h.2 c366
                                                        by_cases c385 : y5 = 25
                                                        · replace h := h.1 c385
                                                          refine r_tin X 1011 dL_law_33 25 c385 (by decide) (by decide) rfl (by decide) ?_
                                                          refine r_aload_n X 1 dL_law_1011 rfl rfl ?_
                                                          refine r_aload_n X 0 dL_law_1012 rfl rfl ?_
                                                          refine r_iload_n X 3 dL_law_1013 rfl rfl ?_
                                                          refine r_iconst (v := 1) X dL_law_1014 rfl ?_
                                                          refine r_iadd X dL_law_1015 ?_
                                                          obtain ⟨g386, h⟩ := h
                                                          refine r_ialdM X g1 g386 dL_law_1016 ?_
                                                          refine r_aload_n X 0 dL_law_1017 rfl rfl ?_
                                                          refine r_iload_n X 3 dL_law_1018 rfl rfl ?_
                                                          refine r_iconst (v := 2) X dL_law_1019 rfl ?_
                                                          refine r_iadd X dL_law_1020 ?_
                                                          obtain ⟨g387, h⟩ := h
                                                          refine r_ialdM X g1 g387 dL_law_1021 ?_
                                                          obtain ⟨g388, h⟩ := h
                                                          refine r_ci X (r_okVL (As := [.int (gI s v0 (Int32.toNatClampNeg (v3 + 1))), .int (gI s v0 (Int32.toNatClampNeg (v3 + 2)))]) (rest := []) X (m_X0_passing (xl x) G X.2.2.2.2.1 hph (gI s v0 (Int32.toNatClampNeg (v3 + 1))) (gI s v0 (Int32.toNatClampNeg (v3 + 2))) s _ h) (cl_L_122 X ⟨(Nat.le_of_ble_eq_true rfl), (Nat.le_of_ble_eq_true rfl)⟩) hph 0 ly_0 rfl rfl rfl rfl (Nat.le_of_ble_eq_true rfl) dL_law_1022 g388) (fun r390 s389 h => ?_)
                                                          refine r_aload_n X 2 dL_law_1025 rfl rfl ?_
                                                          refine r_aload_n X 0 dL_law_1026 rfl rfl ?_
                                                          refine r_iload_n X 3 dL_law_1027 rfl rfl ?_
                                                          refine r_iconst (v := 1) X dL_law_1028 rfl ?_
                                                          refine r_iadd X dL_law_1029 ?_
                                                          obtain ⟨g391, h⟩ := h
                                                          obtain ⟨g392, h⟩ := h
                                                          refine r_ialdM X g391 g392 dL_law_1030 ?_
                                                          refine r_aload_n X 0 dL_law_1031 rfl rfl ?_
                                                          refine r_iload_n X 3 dL_law_1032 rfl rfl ?_
                                                          refine r_iconst (v := 2) X dL_law_1033 rfl ?_
                                                          refine r_iadd X dL_law_1034 ?_
                                                          obtain ⟨g393, h⟩ := h
                                                          refine r_ialdM X g391 g393 dL_law_1035 ?_
                                                          obtain ⟨g394, h⟩ := h
                                                          refine r_ci X (r_okVL (As := [.int (gI s389 v0 (Int32.toNatClampNeg (v3 + 1))), .int (gI s389 v0 (Int32.toNatClampNeg (v3 + 2)))]) (rest := [.int r390]) X (m_X2_passing (xl x) G X.2.2.2.2.1 hph (gI s389 v0 (Int32.toNatClampNeg (v3 + 1))) (gI s389 v0 (Int32.toNatClampNeg (v3 + 2))) s389 _ h) (cl_L_125 X ⟨(Nat.le_of_ble_eq_true rfl), (Nat.le_of_ble_eq_true rfl)⟩) hph 2 ly_182 rfl rfl rfl rfl (Nat.le_of_ble_eq_true rfl) dL_law_1036 g394) (fun r396 s395 h => ?_)
                                                          refine r_ic_eq X 1501 dL_law_1039 (by decide) (fun c397 => ?_) (fun c397 => ?_)
                                                          · replace h := h.1 c397
                                                            refine r_iinc (lv' := [(3, .int (v3 + 6)), (0, .ref v0), (1, .ref (kB G + 0)), (2, .ref (kB G + 182))]) X 3 dL_law_1501 rfl rfl (Nat.le_of_ble_eq_true rfl) rfl ?_
                                                            refine r_goto X 18 dL_law_1504 (by decide) ?_
                                                            refine r_sub [1, 2, 3, 0] rfl ?_
                                                            exact ih (v3 + 6) ((ce + 0) + 0) ((sl + 0) + 0) s395 h
                                                          · replace h := h.2 c397
                                                            refine r_iconst (v := 0) X dL_law_1042 rfl ?_
                                                            obtain ⟨g398, h⟩ := h
                                                            obtain ⟨g399, h⟩ := h
                                                            exact r_wret X ha hk g398 g399.1 g399.2 dL_law_1043
                                                        · replace h := h.2 c385
                                                          by_cases c400 : y5 = 26
                                                          · replace h := h.1 c400
                                                            refine r_tin X 1044 dL_law_33 26 c400 (by decide) (by decide) rfl (by decide) ?_
                                                            refine r_aload_n X 1 dL_law_1044 rfl rfl ?_
                                                            refine r_aload_n X 0 dL_law_1045 rfl rfl ?_
                                                            refine r_iload_n X 3 dL_law_1046 rfl rfl ?_
                                                            refine r_iconst (v := 1) X dL_law_1047 rfl ?_
                                                            refine r_iadd X dL_law_1048 ?_
                                                            obtain ⟨g401, h⟩ := h
                                                            refine r_ialdM X g1 g401 dL_law_1049 ?_
                                                            obtain ⟨g402, h⟩ := h
                                                            refine r_ci X (r_okVL (As := [.int (gI s v0 (Int32.toNatClampNeg (v3 + 1)))]) (rest := []) X (m_X0_orderless (xl x) G X.2.2.2.2.1 hph (gI s v0 (Int32.toNatClampNeg (v3 + 1))) s _ h) (cl_L_126 X ⟨(Nat.le_of_ble_eq_true rfl), (Nat.le_of_ble_eq_true rfl)⟩) hph 0 ly_0 rfl rfl rfl rfl (Nat.le_of_ble_eq_true rfl) dL_law_1050 g402) (fun r404 s403 h => ?_)
                                                            refine r_aload_n X 2 dL_law_1053 rfl rfl ?_
                                                            refine r_aload_n X 0 dL_law_1054 rfl rfl ?_
                                                            refine r_iload_n X 3 dL_law_1055 rfl rfl ?_
                                                            refine r_iconst (v := 1) X dL_law_1056 rfl ?_
                                                            refine r_iadd X dL_law_1057 ?_
                                                            obtain ⟨g405, h⟩ := h
                                                            obtain ⟨g406, h⟩ := h
                                                            refine r_ialdM X g405 g406 dL_law_1058 ?_
                                                            obtain ⟨g407, h⟩ := h
                                                            refine r_ci X (r_okVL (As := [.int (gI s403 v0 (Int32.toNatClampNeg (v3 + 1)))]) (rest := [.int r404]) X (m_X2_orderless (xl x) G X.2.2.2.2.1 hph (gI s403 v0 (Int32.toNatClampNeg (v3 + 1))) s403 _ h) (cl_L_129 X ⟨(Nat.le_of_ble_eq_true rfl), (Nat.le_of_ble_eq_true rfl)⟩) hph 2 ly_182 rfl rfl rfl rfl (Nat.le_of_ble_eq_true rfl) dL_law_1059 g407) (fun r409 s408 h => ?_)
                                                            refine r_ic_eq X 1501 dL_law_1062 (by decide) (fun c410 => ?_) (fun c410 => ?_)
                                                            · replace h := h.1 c410
                                                              refine r_iinc (lv' := [(3, .int (v3 + 6)), (0, .ref v0), (1, .ref (kB G + 0)), (2, .ref (kB G + 182))]) X 3 dL_law_1501 rfl rfl (Nat.le_of_ble_eq_true rfl) rfl ?_
                                                              refine r_goto X 18 dL_law_1504 (by decide) ?_
                                                              refine r_sub [1, 2, 3, 0] rfl ?_
                                                              exact ih (v3 + 6) ((ce + 0) + 0) ((sl + 0) + 0) s408 h
                                                            · replace h := h.2 c410
                                                              refine r_iconst (v := 0) X dL_law_1065 rfl ?_
                                                              obtain ⟨g411, h⟩ := h
                                                              obtain ⟨g412, h⟩ := h
                                                              exact r_wret X ha hk g411 g412.1 g412.2 dL_law_1066
                                                          · replace h := h.2 c400
                                                            by_cases c413 : y5 = 27
                                                            · replace h := h.1 c413
                                                              refine r_tin X 1067 dL_law_33 27 c413 (by decide) (by decide) rfl (by decide) ?_
                                                              refine r_aload_n X 1 dL_law_1067 rfl rfl ?_
                                                              refine r_aload_n X 0 dL_law_1068 rfl rfl ?_
                                                              refine r_iload_n X 3 dL_law_1069 rfl rfl ?_
                                                              refine r_iconst (v := 1) X dL_law_1070 rfl ?_
                                                              refine r_iadd X dL_law_1071 ?_
                                                              obtain ⟨g414, h⟩ := h
                                                              refine r_ialdM X g1 g414 dL_law_1072 ?_
                                                              obtain ⟨g415, h⟩ := h
                                                              refine r_ci X (r_okVL (As := [.int (gI s v0 (Int32.toNatClampNeg (v3 + 1)))]) (rest := []) X (m_X0_sticking (xl x) G X.2.2.2.2.1 hph (gI s v0 (Int32.toNatClampNeg (v3 + 1))) s _ h) (cl_L_130 X ⟨(Nat.le_of_ble_eq_true rfl), (Nat.le_of_ble_eq_true rfl)⟩) hph 0 ly_0 rfl rfl rfl rfl (Nat.le_of_ble_eq_true rfl) dL_law_1073 g415) (fun r417 s416 h => ?_)
                                                              refine r_aload_n X 2 dL_law_1076 rfl rfl ?_
                                                              refine r_aload_n X 0 dL_law_1077 rfl rfl ?_
                                                              refine r_iload_n X 3 dL_law_1078 rfl rfl ?_
                                                              refine r_iconst (v := 1) X dL_law_1079 rfl ?_
                                                              refine r_iadd X dL_law_1080 ?_
                                                              obtain ⟨g418, h⟩ := h
                                                              obtain ⟨g419, h⟩ := h
                                                              refine r_ialdM X g418 g419 dL_law_1081 ?_
                                                              obtain ⟨g420, h⟩ := h
                                                              refine r_ci X (r_okVL (As := [.int (gI s416 v0 (Int32.toNatClampNeg (v3 + 1)))]) (rest := [.int r417]) X (m_X2_sticking (xl x) G X.2.2.2.2.1 hph (gI s416 v0 (Int32.toNatClampNeg (v3 + 1))) s416 _ h) (cl_L_133 X ⟨(Nat.le_of_ble_eq_true rfl), (Nat.le_of_ble_eq_true rfl)⟩) hph 2 ly_182 rfl rfl rfl rfl (Nat.le_of_ble_eq_true rfl) dL_law_1082 g420) (fun r422 s421 h => ?_)
                                                              refine r_ic_eq X 1501 dL_law_1085 (by decide) (fun c423 => ?_) (fun c423 => ?_)
                                                              · replace h := h.1 c423
                                                                refine r_iinc (lv' := [(3, .int (v3 + 6)), (0, .ref v0), (1, .ref (kB G + 0)), (2, .ref (kB G + 182))]) X 3 dL_law_1501 rfl rfl (Nat.le_of_ble_eq_true rfl) rfl ?_
                                                                refine r_goto X 18 dL_law_1504 (by decide) ?_
                                                                refine r_sub [1, 2, 3, 0] rfl ?_
                                                                exact ih (v3 + 6) ((ce + 0) + 0) ((sl + 0) + 0) s421 h
                                                              · replace h := h.2 c423
                                                                refine r_iconst (v := 0) X dL_law_1088 rfl ?_
                                                                obtain ⟨g424, h⟩ := h
                                                                obtain ⟨g425, h⟩ := h
                                                                exact r_wret X ha hk g424 g425.1 g425.2 dL_law_1089
                                                            · replace h := h.2 c413
                                                              by_cases c426 : y5 = 28
                                                              · replace h := h.1 c426
                                                                refine r_tin X 1090 dL_law_33 28 c426 (by decide) (by decide) rfl (by decide) ?_
                                                                refine r_aload_n X 1 dL_law_1090 rfl rfl ?_
                                                                refine r_aload_n X 0 dL_law_1091 rfl rfl ?_
                                                                refine r_iload_n X 3 dL_law_1092 rfl rfl ?_
                                                                refine r_iconst (v := 1) X dL_law_1093 rfl ?_
                                                                refine r_iadd X dL_law_1094 ?_
                                                                obtain ⟨g427, h⟩ := h
                                                                refine r_ialdM X g1 g427 dL_law_1095 ?_
                                                                obtain ⟨g428, h⟩ := h
                                                                refine r_ci X (r_okVL (As := [.int (gI s v0 (Int32.toNatClampNeg (v3 + 1)))]) (rest := []) X (m_X0_truly (xl x) G X.2.2.2.2.1 hph (gI s v0 (Int32.toNatClampNeg (v3 + 1))) s _ h) (cl_L_134 X ⟨(Nat.le_of_ble_eq_true rfl), (Nat.le_of_ble_eq_true rfl)⟩) hph 0 ly_0 rfl rfl rfl rfl (Nat.le_of_ble_eq_true rfl) dL_law_1096 g428) (fun r430 s429 h => ?_)
                                                                refine r_aload_n X 2 dL_law_1099 rfl rfl ?_
                                                                refine r_aload_n X 0 dL_law_1100 rfl rfl ?_
                                                                refine r_iload_n X 3 dL_law_1101 rfl rfl ?_
                                                                refine r_iconst (v := 1) X dL_law_1102 rfl ?_
                                                                refine r_iadd X dL_law_1103 ?_
                                                                obtain ⟨g431, h⟩ := h
                                                                obtain ⟨g432, h⟩ := h
                                                                refine r_ialdM X g431 g432 dL_law_1104 ?_
                                                                obtain ⟨g433, h⟩ := h
                                                                refine r_ci X (r_okVL (As := [.int (gI s429 v0 (Int32.toNatClampNeg (v3 + 1)))]) (rest := [.int r430]) X (m_X2_truly (xl x) G X.2.2.2.2.1 hph (gI s429 v0 (Int32.toNatClampNeg (v3 + 1))) s429 _ h) (cl_L_137 X ⟨(Nat.le_of_ble_eq_true rfl), (Nat.le_of_ble_eq_true rfl)⟩) hph 2 ly_182 rfl rfl rfl rfl (Nat.le_of_ble_eq_true rfl) dL_law_1105 g433) (fun r435 s434 h => ?_)
                                                                refine r_ic_eq X 1501 dL_law_1108 (by decide) (fun c436 => ?_) (fun c436 => ?_)
                                                                · replace h := h.1 c436
                                                                  refine r_iinc (lv' := [(3, .int (v3 + 6)), (0, .ref v0), (1, .ref (kB G + 0)), (2, .ref (kB G + 182))]) X 3 dL_law_1501 rfl rfl (Nat.le_of_ble_eq_true rfl) rfl ?_
                                                                  refine r_goto X 18 dL_law_1504 (by decide) ?_
                                                                  refine r_sub [1, 2, 3, 0] rfl ?_
                                                                  exact ih (v3 + 6) ((ce + 0) + 0) ((sl + 0) + 0) s434 h
                                                                · replace h := h.2 c436
                                                                  refine r_iconst (v := 0) X dL_law_1111 rfl ?_
                                                                  obtain ⟨g437, h⟩ := h
                                                                  obtain ⟨g438, h⟩ := h
                                                                  exact r_wret X ha hk g437 g438.1 g438.2 dL_law_1112
                                                              · replace h := h.2 c426
                                                                by_cases c439 : y5 = 29
                                                                · replace h := h.1 c439
                                                                  refine r_tin X 1113 dL_law_33 29 c439 (by decide) (by decide) rfl (by decide) ?_
                                                                  refine r_aload_n X 1 dL_law_1113 rfl rfl ?_
                                                                  refine r_aload_n X 0 dL_law_1114 rfl rfl ?_
                                                                  refine r_iload_n X 3 dL_law_1115 rfl rfl ?_
                                                                  refine r_iconst (v := 1) X dL_law_1116 rfl ?_
                                                                  refine r_iadd X dL_law_1117 ?_
                                                                  obtain ⟨g440, h⟩ := h
                                                                  refine r_ialdM X g1 g440 dL_law_1118 ?_
                                                                  refine r_aload_n X 0 dL_law_1119 rfl rfl ?_
                                                                  refine r_iload_n X 3 dL_law_1120 rfl rfl ?_
                                                                  refine r_iconst (v := 2) X dL_law_1121 rfl ?_
                                                                  refine r_iadd X dL_law_1122 ?_
                                                                  obtain ⟨g441, h⟩ := h
                                                                  refine r_ialdM X g1 g441 dL_law_1123 ?_
                                                                  obtain ⟨A442, B443, h⟩ := h
                                                                  obtain ⟨g444, h⟩ := h
                                                                  refine r_ci X (r_okVL (As := [.int (gI s v0 (Int32.toNatClampNeg (v3 + 1))), .int (gI s v0 (Int32.toNatClampNeg (v3 + 2)))]) (rest := []) X (m_X0_lies (xl x) G X.2.2.2.2.1 hph A442 B443 (gI s v0 (Int32.toNatClampNeg (v3 + 1))) (gI s v0 (Int32.toNatClampNeg (v3 + 2))) s _ h) (cl_L_138 X ⟨(Nat.le_of_ble_eq_true rfl), (Nat.le_of_ble_eq_true rfl)⟩) hph 0 ly_0 rfl rfl rfl rfl (Nat.le_of_ble_eq_true rfl) dL_law_1124 g444) (fun r446 s445 h => ?_)
                                                                  refine r_aload_n X 2 dL_law_1127 rfl rfl ?_
                                                                  refine r_aload_n X 0 dL_law_1128 rfl rfl ?_
                                                                  refine r_iload_n X 3 dL_law_1129 rfl rfl ?_
                                                                  refine r_iconst (v := 1) X dL_law_1130 rfl ?_
                                                                  refine r_iadd X dL_law_1131 ?_
                                                                  obtain ⟨g447, h⟩ := h
                                                                  obtain ⟨g448, h⟩ := h
                                                                  refine r_ialdM X g447 g448 dL_law_1132 ?_
                                                                  refine r_aload_n X 0 dL_law_1133 rfl rfl ?_
                                                                  refine r_iload_n X 3 dL_law_1134 rfl rfl ?_
                                                                  refine r_iconst (v := 2) X dL_law_1135 rfl ?_
                                                                  refine r_iadd X dL_law_1136 ?_
                                                                  obtain ⟨g449, h⟩ := h
                                                                  refine r_ialdM X g447 g449 dL_law_1137 ?_
                                                                  obtain ⟨g450, h⟩ := h
                                                                  refine r_ci X (r_okVL (As := [.int (gI s445 v0 (Int32.toNatClampNeg (v3 + 1))), .int (gI s445 v0 (Int32.toNatClampNeg (v3 + 2)))]) (rest := [.int r446]) X (m_X2_lies (xl x) G X.2.2.2.2.1 hph (gI s445 v0 (Int32.toNatClampNeg (v3 + 1))) (gI s445 v0 (Int32.toNatClampNeg (v3 + 2))) s445 _ h) (cl_L_141 X ⟨(Nat.le_of_ble_eq_true rfl), (Nat.le_of_ble_eq_true rfl)⟩) hph 2 ly_182 rfl rfl rfl rfl (Nat.le_of_ble_eq_true rfl) dL_law_1138 g450) (fun r452 s451 h => ?_)
                                                                  refine r_ic_eq X 1501 dL_law_1141 (by decide) (fun c453 => ?_) (fun c453 => ?_)
                                                                  · replace h := h.1 c453
                                                                    refine r_iinc (lv' := [(3, .int (v3 + 6)), (0, .ref v0), (1, .ref (kB G + 0)), (2, .ref (kB G + 182))]) X 3 dL_law_1501 rfl rfl (Nat.le_of_ble_eq_true rfl) rfl ?_
                                                                    refine r_goto X 18 dL_law_1504 (by decide) ?_
                                                                    refine r_sub [1, 2, 3, 0] rfl ?_
                                                                    exact ih (v3 + 6) ((ce + A442) + 0) ((sl + B443) + 0) s451 h
                                                                  · replace h := h.2 c453
                                                                    refine r_iconst (v := 0) X dL_law_1144 rfl ?_
                                                                    obtain ⟨g454, h⟩ := h
                                                                    obtain ⟨g455, h⟩ := h
                                                                    exact r_wret X ha hk g454 g455.1 g455.2 dL_law_1145
                                                                · replace h := h.2 c439
                                                                  by_cases c456 : y5 = 30
                                                                  · replace h := h.1 c456
                                                                    refine r_tin X 1146 dL_law_33 30 c456 (by decide) (by decide) rfl (by decide) ?_
                                                                    refine r_aload_n X 1 dL_law_1146 rfl rfl ?_
                                                                    refine r_aload_n X 0 dL_law_1147 rfl rfl ?_
                                                                    refine r_iload_n X 3 dL_law_1148 rfl rfl ?_
                                                                    refine r_iconst (v := 1) X dL_law_1149 rfl ?_
                                                                    refine r_iadd X dL_law_1150 ?_
                                                                    obtain ⟨g457, h⟩ := h
                                                                    refine r_ialdM X g1 g457 dL_law_1151 ?_
                                                                    refine r_aload_n X 0 dL_law_1152 rfl rfl ?_
                                                                    refine r_iload_n X 3 dL_law_1153 rfl rfl ?_
                                                                    refine r_iconst (v := 2) X dL_law_1154 rfl ?_
                                                                    refine r_iadd X dL_law_1155 ?_
                                                                    obtain ⟨g458, h⟩ := h
                                                                    refine r_ialdM X g1 g458 dL_law_1156 ?_
                                                                    obtain ⟨g459, h⟩ := h
                                                                    refine r_ci X (r_okVL (As := [.int (gI s v0 (Int32.toNatClampNeg (v3 + 1))), .int (gI s v0 (Int32.toNatClampNeg (v3 + 2)))]) (rest := []) X (m_X0_lending (xl x) G X.2.2.2.2.1 hph (gI s v0 (Int32.toNatClampNeg (v3 + 1))) (gI s v0 (Int32.toNatClampNeg (v3 + 2))) s _ h) (cl_L_142 X ⟨(Nat.le_of_ble_eq_true rfl), (Nat.le_of_ble_eq_true rfl)⟩) hph 0 ly_0 rfl rfl rfl rfl (Nat.le_of_ble_eq_true rfl) dL_law_1157 g459) (fun r461 s460 h => ?_)
                                                                    refine r_aload_n X 2 dL_law_1160 rfl rfl ?_
                                                                    refine r_aload_n X 0 dL_law_1161 rfl rfl ?_
                                                                    refine r_iload_n X 3 dL_law_1162 rfl rfl ?_
                                                                    refine r_iconst (v := 1) X dL_law_1163 rfl ?_
                                                                    refine r_iadd X dL_law_1164 ?_
                                                                    obtain ⟨g462, h⟩ := h
                                                                    obtain ⟨g463, h⟩ := h
                                                                    refine r_ialdM X g462 g463 dL_law_1165 ?_
                                                                    refine r_aload_n X 0 dL_law_1166 rfl rfl ?_
                                                                    refine r_iload_n X 3 dL_law_1167 rfl rfl ?_
                                                                    refine r_iconst (v := 2) X dL_law_1168 rfl ?_
                                                                    refine r_iadd X dL_law_1169 ?_
                                                                    obtain ⟨g464, h⟩ := h
                                                                    refine r_ialdM X g462 g464 dL_law_1170 ?_
                                                                    obtain ⟨g465, h⟩ := h
                                                                    refine r_ci X (r_okVL (As := [.int (gI s460 v0 (Int32.toNatClampNeg (v3 + 1))), .int (gI s460 v0 (Int32.toNatClampNeg (v3 + 2)))]) (rest := [.int r461]) X (m_X2_lending (xl x) G X.2.2.2.2.1 hph (gI s460 v0 (Int32.toNatClampNeg (v3 + 1))) (gI s460 v0 (Int32.toNatClampNeg (v3 + 2))) s460 _ h) (cl_L_145 X ⟨(Nat.le_of_ble_eq_true rfl), (Nat.le_of_ble_eq_true rfl)⟩) hph 2 ly_182 rfl rfl rfl rfl (Nat.le_of_ble_eq_true rfl) dL_law_1171 g465) (fun r467 s466 h => ?_)
                                                                    refine r_ic_eq X 1501 dL_law_1174 (by decide) (fun c468 => ?_) (fun c468 => ?_)
                                                                    · replace h := h.1 c468
                                                                      refine r_iinc (lv' := [(3, .int (v3 + 6)), (0, .ref v0), (1, .ref (kB G + 0)), (2, .ref (kB G + 182))]) X 3 dL_law_1501 rfl rfl (Nat.le_of_ble_eq_true rfl) rfl ?_
                                                                      refine r_goto X 18 dL_law_1504 (by decide) ?_
                                                                      refine r_sub [1, 2, 3, 0] rfl ?_
                                                                      exact ih (v3 + 6) ((ce + 0) + 0) ((sl + 0) + 0) s466 h
                                                                    · replace h := h.2 c468
                                                                      refine r_iconst (v := 0) X dL_law_1177 rfl ?_
                                                                      obtain ⟨g469, h⟩ := h
                                                                      obtain ⟨g470, h⟩ := h
                                                                      exact r_wret X ha hk g469 g470.1 g470.2 dL_law_1178
                                                                  · replace h := h.2 c456
                                                                    by_cases c471 : y5 = 31
                                                                    · replace h := h.1 c471
                                                                      refine r_tin X 1179 dL_law_33 31 c471 (by decide) (by decide) rfl (by decide) ?_
                                                                      refine r_aload_n X 1 dL_law_1179 rfl rfl ?_
                                                                      obtain ⟨g472, h⟩ := h
                                                                      refine r_ci X (r_okVL (As := []) (rest := []) X (m_X0_whoCannot (xl x) G X.2.2.2.2.1 hph s _ h) (cl_L_146 X ⟨(Nat.le_of_ble_eq_true rfl), (Nat.le_of_ble_eq_true rfl)⟩) hph 0 ly_0 rfl rfl rfl rfl (Nat.le_of_ble_eq_true rfl) dL_law_1180 g472) (fun r474 s473 h => ?_)
                                                                      refine r_aload_n X 2 dL_law_1183 rfl rfl ?_
                                                                      obtain ⟨g475, h⟩ := h
                                                                      refine r_ci X (r_okVL (As := []) (rest := [.int r474]) X (m_X2_whoCannot (xl x) G X.2.2.2.2.1 hph s473 _ h) (cl_L_149 X ⟨(Nat.le_of_ble_eq_true rfl), (Nat.le_of_ble_eq_true rfl)⟩) hph 2 ly_182 rfl rfl rfl rfl (Nat.le_of_ble_eq_true rfl) dL_law_1184 g475) (fun r477 s476 h => ?_)
                                                                      refine r_ic_eq X 1501 dL_law_1187 (by decide) (fun c478 => ?_) (fun c478 => ?_)
                                                                      · replace h := h.1 c478
                                                                        refine r_iinc (lv' := [(3, .int (v3 + 6)), (0, .ref v0), (1, .ref (kB G + 0)), (2, .ref (kB G + 182))]) X 3 dL_law_1501 rfl rfl (Nat.le_of_ble_eq_true rfl) rfl ?_
                                                                        refine r_goto X 18 dL_law_1504 (by decide) ?_
                                                                        refine r_sub [1, 2, 3, 0] rfl ?_
                                                                        exact ih (v3 + 6) ((ce + 0) + 0) ((sl + 0) + 0) s476 h
                                                                      · replace h := h.2 c478
                                                                        refine r_iconst (v := 0) X dL_law_1190 rfl ?_
                                                                        obtain ⟨g479, h⟩ := h
                                                                        obtain ⟨g480, h⟩ := h
                                                                        exact r_wret X ha hk g479 g480.1 g480.2 dL_law_1191
                                                                    · replace h := h.2 c471
                                                                      by_cases c481 : y5 = 32
                                                                      · replace h := h.1 c481
                                                                        refine r_tin X 1192 dL_law_33 32 c481 (by decide) (by decide) rfl (by decide) ?_
                                                                        refine r_aload_n X 1 dL_law_1192 rfl rfl ?_
                                                                        refine r_aload_n X 0 dL_law_1193 rfl rfl ?_
                                                                        refine r_iload_n X 3 dL_law_1194 rfl rfl ?_
                                                                        refine r_iconst (v := 1) X dL_law_1195 rfl ?_
                                                                        refine r_iadd X dL_law_1196 ?_
                                                                        obtain ⟨g482, h⟩ := h
                                                                        refine r_ialdM X g1 g482 dL_law_1197 ?_
                                                                        obtain ⟨g483, h⟩ := h
                                                                        refine r_ci X (r_okVL (As := [.int (gI s v0 (Int32.toNatClampNeg (v3 + 1)))]) (rest := []) X (m_X0_kindness (xl x) G X.2.2.2.2.1 hph (gI s v0 (Int32.toNatClampNeg (v3 + 1))) s _ h) (cl_L_150 X ⟨(Nat.le_of_ble_eq_true rfl), (Nat.le_of_ble_eq_true rfl)⟩) hph 0 ly_0 rfl rfl rfl rfl (Nat.le_of_ble_eq_true rfl) dL_law_1198 g483) (fun r485 s484 h => ?_)
                                                                        refine r_aload_n X 2 dL_law_1201 rfl rfl ?_
                                                                        refine r_aload_n X 0 dL_law_1202 rfl rfl ?_
                                                                        refine r_iload_n X 3 dL_law_1203 rfl rfl ?_
                                                                        refine r_iconst (v := 1) X dL_law_1204 rfl ?_
                                                                        refine r_iadd X dL_law_1205 ?_
                                                                        obtain ⟨g486, h⟩ := h
                                                                        obtain ⟨g487, h⟩ := h
                                                                        refine r_ialdM X g486 g487 dL_law_1206 ?_
                                                                        obtain ⟨g488, h⟩ := h
                                                                        refine r_ci X (r_okVL (As := [.int (gI s484 v0 (Int32.toNatClampNeg (v3 + 1)))]) (rest := [.int r485]) X (m_X2_kindness (xl x) G X.2.2.2.2.1 hph (gI s484 v0 (Int32.toNatClampNeg (v3 + 1))) s484 _ h) (cl_L_153 X ⟨(Nat.le_of_ble_eq_true rfl), (Nat.le_of_ble_eq_true rfl)⟩) hph 2 ly_182 rfl rfl rfl rfl (Nat.le_of_ble_eq_true rfl) dL_law_1207 g488) (fun r490 s489 h => ?_)
                                                                        refine r_ic_eq X 1501 dL_law_1210 (by decide) (fun c491 => ?_) (fun c491 => ?_)
                                                                        · replace h := h.1 c491
                                                                          refine r_iinc (lv' := [(3, .int (v3 + 6)), (0, .ref v0), (1, .ref (kB G + 0)), (2, .ref (kB G + 182))]) X 3 dL_law_1501 rfl rfl (Nat.le_of_ble_eq_true rfl) rfl ?_
                                                                          refine r_goto X 18 dL_law_1504 (by decide) ?_
                                                                          refine r_sub [1, 2, 3, 0] rfl ?_
                                                                          exact ih (v3 + 6) ((ce + 0) + 0) ((sl + 0) + 0) s489 h
                                                                        · replace h := h.2 c491
                                                                          refine r_iconst (v := 0) X dL_law_1213 rfl ?_
                                                                          obtain ⟨g492, h⟩ := h
                                                                          obtain ⟨g493, h⟩ := h
                                                                          exact r_wret X ha hk g492 g493.1 g493.2 dL_law_1214
                                                                      · replace h := h.2 c481
                                                                        by_cases c494 : y5 = 33
                                                                        · replace h := h.1 c494
                                                                          refine r_tin X 1215 dL_law_33 33 c494 (by decide) (by decide) rfl (by decide) ?_
                                                                          refine r_aload_n X 1 dL_law_1215 rfl rfl ?_
                                                                          refine r_aload_n X 0 dL_law_1216 rfl rfl ?_
                                                                          refine r_iload_n X 3 dL_law_1217 rfl rfl ?_
                                                                          refine r_iconst (v := 1) X dL_law_1218 rfl ?_
                                                                          refine r_iadd X dL_law_1219 ?_
                                                                          obtain ⟨g495, h⟩ := h
                                                                          refine r_ialdM X g1 g495 dL_law_1220 ?_
                                                                          refine r_aload_n X 0 dL_law_1221 rfl rfl ?_
                                                                          refine r_iload_n X 3 dL_law_1222 rfl rfl ?_
                                                                          refine r_iconst (v := 2) X dL_law_1223 rfl ?_
                                                                          refine r_iadd X dL_law_1224 ?_
                                                                          obtain ⟨g496, h⟩ := h
                                                                          refine r_ialdM X g1 g496 dL_law_1225 ?_
                                                                          obtain ⟨g497, h⟩ := h
                                                                          refine r_ci X (r_okVL (As := [.int (gI s v0 (Int32.toNatClampNeg (v3 + 1))), .int (gI s v0 (Int32.toNatClampNeg (v3 + 2)))]) (rest := []) X (m_X0_known (xl x) G X.2.2.2.2.1 hph (gI s v0 (Int32.toNatClampNeg (v3 + 1))) (gI s v0 (Int32.toNatClampNeg (v3 + 2))) s _ h) (cl_L_154 X ⟨(Nat.le_of_ble_eq_true rfl), (Nat.le_of_ble_eq_true rfl)⟩) hph 0 ly_0 rfl rfl rfl rfl (Nat.le_of_ble_eq_true rfl) dL_law_1226 g497) (fun r499 s498 h => ?_)
                                                                          refine r_aload_n X 2 dL_law_1229 rfl rfl ?_
                                                                          refine r_aload_n X 0 dL_law_1230 rfl rfl ?_
                                                                          refine r_iload_n X 3 dL_law_1231 rfl rfl ?_
                                                                          refine r_iconst (v := 1) X dL_law_1232 rfl ?_
                                                                          refine r_iadd X dL_law_1233 ?_
                                                                          obtain ⟨g500, h⟩ := h
                                                                          obtain ⟨g501, h⟩ := h
                                                                          refine r_ialdM X g500 g501 dL_law_1234 ?_
                                                                          refine r_aload_n X 0 dL_law_1235 rfl rfl ?_
                                                                          refine r_iload_n X 3 dL_law_1236 rfl rfl ?_
                                                                          refine r_iconst (v := 2) X dL_law_1237 rfl ?_
                                                                          refine r_iadd X dL_law_1238 ?_
                                                                          obtain ⟨g502, h⟩ := h
                                                                          refine r_ialdM X g500 g502 dL_law_1239 ?_
                                                                          obtain ⟨g503, h⟩ := h
                                                                          refine r_ci X (r_okVL (As := [.int (gI s498 v0 (Int32.toNatClampNeg (v3 + 1))), .int (gI s498 v0 (Int32.toNatClampNeg (v3 + 2)))]) (rest := [.int r499]) X (m_X2_known (xl x) G X.2.2.2.2.1 hph (gI s498 v0 (Int32.toNatClampNeg (v3 + 1))) (gI s498 v0 (Int32.toNatClampNeg (v3 + 2))) s498 _ h) (cl_L_157 X ⟨(Nat.le_of_ble_eq_true rfl), (Nat.le_of_ble_eq_true rfl)⟩) hph 2 ly_182 rfl rfl rfl rfl (Nat.le_of_ble_eq_true rfl) dL_law_1240 g503) (fun r505 s504 h => ?_)
                                                                          refine r_ic_eq X 1501 dL_law_1243 (by decide) (fun c506 => ?_) (fun c506 => ?_)
                                                                          · replace h := h.1 c506
                                                                            refine r_iinc (lv' := [(3, .int (v3 + 6)), (0, .ref v0), (1, .ref (kB G + 0)), (2, .ref (kB G + 182))]) X 3 dL_law_1501 rfl rfl (Nat.le_of_ble_eq_true rfl) rfl ?_
                                                                            refine r_goto X 18 dL_law_1504 (by decide) ?_
                                                                            refine r_sub [1, 2, 3, 0] rfl ?_
                                                                            exact ih (v3 + 6) ((ce + 0) + 0) ((sl + 0) + 0) s504 h
                                                                          · replace h := h.2 c506
                                                                            refine r_iconst (v := 0) X dL_law_1246 rfl ?_
                                                                            obtain ⟨g507, h⟩ := h
                                                                            obtain ⟨g508, h⟩ := h
                                                                            exact r_wret X ha hk g507 g508.1 g508.2 dL_law_1247
                                                                        · replace h := h.2 c494
                                                                          by_cases c509 : y5 = 34
                                                                          · replace h := h.1 c509
                                                                            refine r_tin X 1248 dL_law_33 34 c509 (by decide) (by decide) rfl (by decide) ?_
                                                                            refine r_aload_n X 1 dL_law_1248 rfl rfl ?_
                                                                            obtain ⟨g510, h⟩ := h
                                                                            refine r_ci X (r_okVL (As := []) (rest := []) X (m_X0_fit (xl x) G X.2.2.2.2.1 hph s _ h) (cl_L_158 X ⟨(Nat.le_of_ble_eq_true rfl), (Nat.le_of_ble_eq_true rfl)⟩) hph 0 ly_0 rfl rfl rfl rfl (Nat.le_of_ble_eq_true rfl) dL_law_1249 g510) (fun r512 s511 h => ?_)
                                                                            refine r_aload_n X 2 dL_law_1252 rfl rfl ?_
                                                                            obtain ⟨g513, h⟩ := h
                                                                            refine r_ci X (r_okVL (As := []) (rest := [.int r512]) X (m_X2_fit (xl x) G X.2.2.2.2.1 hph s511 _ h) (cl_L_161 X ⟨(Nat.le_of_ble_eq_true rfl), (Nat.le_of_ble_eq_true rfl)⟩) hph 2 ly_182 rfl rfl rfl rfl (Nat.le_of_ble_eq_true rfl) dL_law_1253 g513) (fun r515 s514 h => ?_)
                                                                            refine r_ic_eq X 1501 dL_law_1256 (by decide) (fun c516 => ?_) (fun c516 => ?_)
                                                                            · replace h := h.1 c516
                                                                              refine r_iinc (lv' := [(3, .int (v3 + 6)), (0, .ref v0), (1, .ref (kB G + 0)), (2, .ref (kB G + 182))]) X 3 dL_law_1501 rfl rfl (Nat.le_of_ble_eq_true rfl) rfl ?_
                                                                              refine r_goto X 18 dL_law_1504 (by decide) ?_
                                                                              refine r_sub [1, 2, 3, 0] rfl ?_
                                                                              exact ih (v3 + 6) ((ce + 0) + 0) ((sl + 0) + 0) s514 h
                                                                            · replace h := h.2 c516
                                                                              refine r_iconst (v := 0) X dL_law_1259 rfl ?_
                                                                              obtain ⟨g517, h⟩ := h
                                                                              obtain ⟨g518, h⟩ := h
                                                                              exact r_wret X ha hk g517 g518.1 g518.2 dL_law_1260
                                                                          · replace h := h.2 c509
                                                                            by_cases c519 : y5 = 35
                                                                            · replace h := h.1 c519
                                                                              refine r_tin X 1261 dL_law_33 35 c519 (by decide) (by decide) rfl (by decide) ?_
                                                                              refine r_aload_n X 1 dL_law_1261 rfl rfl ?_
                                                                              refine r_aload_n X 0 dL_law_1262 rfl rfl ?_
                                                                              refine r_iload_n X 3 dL_law_1263 rfl rfl ?_
                                                                              refine r_iconst (v := 1) X dL_law_1264 rfl ?_
                                                                              refine r_iadd X dL_law_1265 ?_
                                                                              obtain ⟨g520, h⟩ := h
                                                                              refine r_ialdM X g1 g520 dL_law_1266 ?_
                                                                              obtain ⟨g521, h⟩ := h
                                                                              refine r_ci X (r_okVL (As := [.int (gI s v0 (Int32.toNatClampNeg (v3 + 1)))]) (rest := []) X (m_X0_smallest (xl x) G X.2.2.2.2.1 hph (gI s v0 (Int32.toNatClampNeg (v3 + 1))) s _ h) (cl_L_162 X ⟨(Nat.le_of_ble_eq_true rfl), (Nat.le_of_ble_eq_true rfl)⟩) hph 0 ly_0 rfl rfl rfl rfl (Nat.le_of_ble_eq_true rfl) dL_law_1267 g521) (fun r523 s522 h => ?_)
                                                                              refine r_aload_n X 2 dL_law_1270 rfl rfl ?_
                                                                              refine r_aload_n X 0 dL_law_1271 rfl rfl ?_
                                                                              refine r_iload_n X 3 dL_law_1272 rfl rfl ?_
                                                                              refine r_iconst (v := 1) X dL_law_1273 rfl ?_
                                                                              refine r_iadd X dL_law_1274 ?_
                                                                              obtain ⟨g524, h⟩ := h
                                                                              obtain ⟨g525, h⟩ := h
                                                                              refine r_ialdM X g524 g525 dL_law_1275 ?_
                                                                              obtain ⟨g526, h⟩ := h
                                                                              refine r_ci X (r_okVL (As := [.int (gI s522 v0 (Int32.toNatClampNeg (v3 + 1)))]) (rest := [.int r523]) X (m_X2_smallest (xl x) G X.2.2.2.2.1 hph (gI s522 v0 (Int32.toNatClampNeg (v3 + 1))) s522 _ h) (cl_L_165 X ⟨(Nat.le_of_ble_eq_true rfl), (Nat.le_of_ble_eq_true rfl)⟩) hph 2 ly_182 rfl rfl rfl rfl (Nat.le_of_ble_eq_true rfl) dL_law_1276 g526) (fun r528 s527 h => ?_)
                                                                              refine r_ic_eq X 1501 dL_law_1279 (by decide) (fun c529 => ?_) (fun c529 => ?_)
                                                                              · replace h := h.1 c529
                                                                                refine r_iinc (lv' := [(3, .int (v3 + 6)), (0, .ref v0), (1, .ref (kB G + 0)), (2, .ref (kB G + 182))]) X 3 dL_law_1501 rfl rfl (Nat.le_of_ble_eq_true rfl) rfl ?_
                                                                                refine r_goto X 18 dL_law_1504 (by decide) ?_
                                                                                refine r_sub [1, 2, 3, 0] rfl ?_
                                                                                exact ih (v3 + 6) ((ce + 0) + 0) ((sl + 0) + 0) s527 h
                                                                              · replace h := h.2 c529
                                                                                refine r_iconst (v := 0) X dL_law_1282 rfl ?_
                                                                                obtain ⟨g530, h⟩ := h
                                                                                obtain ⟨g531, h⟩ := h
                                                                                exact r_wret X ha hk g530 g531.1 g531.2 dL_law_1283
                                                                            · replace h := h.2 c519
                                                                              by_cases c532 : y5 = 36
                                                                              · replace h := h.1 c532
                                                                                refine r_tin X 1284 dL_law_33 36 c532 (by decide) (by decide) rfl (by decide) ?_
                                                                                refine r_aload_n X 1 dL_law_1284 rfl rfl ?_
                                                                                obtain ⟨g533, h⟩ := h
                                                                                refine r_ci X (r_okVL (As := []) (rest := []) X (m_X0_tells (xl x) G X.2.2.2.2.1 hph s _ h) (cl_L_166 X ⟨(Nat.le_of_ble_eq_true rfl), (Nat.le_of_ble_eq_true rfl)⟩) hph 0 ly_0 rfl rfl rfl rfl (Nat.le_of_ble_eq_true rfl) dL_law_1285 g533) (fun r535 s534 h => ?_)
                                                                                refine r_aload_n X 2 dL_law_1288 rfl rfl ?_
                                                                                obtain ⟨g536, h⟩ := h
                                                                                refine r_ci X (r_okVL (As := []) (rest := [.int r535]) X (m_X2_tells (xl x) G X.2.2.2.2.1 hph s534 _ h) (cl_L_169 X ⟨(Nat.le_of_ble_eq_true rfl), (Nat.le_of_ble_eq_true rfl)⟩) hph 2 ly_182 rfl rfl rfl rfl (Nat.le_of_ble_eq_true rfl) dL_law_1289 g536) (fun r538 s537 h => ?_)
                                                                                refine r_ic_eq X 1501 dL_law_1292 (by decide) (fun c539 => ?_) (fun c539 => ?_)
                                                                                · replace h := h.1 c539
                                                                                  refine r_iinc (lv' := [(3, .int (v3 + 6)), (0, .ref v0), (1, .ref (kB G + 0)), (2, .ref (kB G + 182))]) X 3 dL_law_1501 rfl rfl (Nat.le_of_ble_eq_true rfl) rfl ?_
                                                                                  refine r_goto X 18 dL_law_1504 (by decide) ?_
                                                                                  refine r_sub [1, 2, 3, 0] rfl ?_
                                                                                  exact ih (v3 + 6) ((ce + 0) + 0) ((sl + 0) + 0) s537 h
                                                                                · replace h := h.2 c539
                                                                                  refine r_iconst (v := 0) X dL_law_1295 rfl ?_
                                                                                  obtain ⟨g540, h⟩ := h
                                                                                  obtain ⟨g541, h⟩ := h
                                                                                  exact r_wret X ha hk g540 g541.1 g541.2 dL_law_1296
                                                                              · replace h := h.2 c532
                                                                                by_cases c542 : y5 = 37
                                                                                · replace h := h.1 c542
                                                                                  refine r_tin X 1297 dL_law_33 37 c542 (by decide) (by decide) rfl (by decide) ?_
                                                                                  refine r_aload_n X 1 dL_law_1297 rfl rfl ?_
                                                                                  refine r_aload_n X 0 dL_law_1298 rfl rfl ?_
                                                                                  refine r_iload_n X 3 dL_law_1299 rfl rfl ?_
                                                                                  refine r_iconst (v := 1) X dL_law_1300 rfl ?_
                                                                                  refine r_iadd X dL_law_1301 ?_
                                                                                  obtain ⟨g543, h⟩ := h
                                                                                  refine r_ialdM X g1 g543 dL_law_1302 ?_
                                                                                  obtain ⟨g544, h⟩ := h
                                                                                  refine r_ci X (r_okVL (As := [.int (gI s v0 (Int32.toNatClampNeg (v3 + 1)))]) (rest := []) X (m_X0_should (xl x) G X.2.2.2.2.1 hph (gI s v0 (Int32.toNatClampNeg (v3 + 1))) s _ h) (cl_L_170 X ⟨(Nat.le_of_ble_eq_true rfl), (Nat.le_of_ble_eq_true rfl)⟩) hph 0 ly_0 rfl rfl rfl rfl (Nat.le_of_ble_eq_true rfl) dL_law_1303 g544) (fun r546 s545 h => ?_)
                                                                                  obtain ⟨z547, h⟩ := h
                                                                                  refine r_aload_n X 2 dL_law_1306 rfl rfl ?_
                                                                                  refine r_aload_n X 0 dL_law_1307 rfl rfl ?_
                                                                                  refine r_iload_n X 3 dL_law_1308 rfl rfl ?_
                                                                                  refine r_iconst (v := 1) X dL_law_1309 rfl ?_
                                                                                  refine r_iadd X dL_law_1310 ?_
                                                                                  obtain ⟨g548, h⟩ := h
                                                                                  obtain ⟨g549, h⟩ := h
                                                                                  refine r_ialdM X g548 g549 dL_law_1311 ?_
                                                                                  obtain ⟨g550, h⟩ := h
                                                                                  refine r_ci X (r_okVL (As := [.int (gI s545 v0 (Int32.toNatClampNeg (v3 + 1)))]) (rest := [.int r546]) X (m_X2_should (xl x) G X.2.2.2.2.1 hph (gI s545 v0 (Int32.toNatClampNeg (v3 + 1))) s545 _ h) (cl_L_173 X ⟨(Nat.le_of_ble_eq_true rfl), (Nat.le_of_ble_eq_true rfl)⟩) hph 2 ly_182 rfl rfl rfl rfl (Nat.le_of_ble_eq_true rfl) dL_law_1312 g550) (fun r552 s551 h => ?_)
                                                                                  obtain ⟨z553, h⟩ := h
                                                                                  refine r_ic_eq X 1501 dL_law_1315 (by decide) (fun c554 => ?_) (fun c554 => ?_)
                                                                                  · replace h := h.1 c554
                                                                                    refine r_iinc (lv' := [(3, .int (v3 + 6)), (0, .ref v0), (1, .ref (kB G + 0)), (2, .ref (kB G + 182))]) X 3 dL_law_1501 rfl rfl (Nat.le_of_ble_eq_true rfl) rfl ?_
                                                                                    refine r_goto X 18 dL_law_1504 (by decide) ?_
                                                                                    refine r_sub [1, 2, 3, 0] rfl ?_
                                                                                    exact ih (v3 + 6) ((ce + 0) + 0) ((sl + 0) + 0) s551 h
                                                                                  · replace h := h.2 c554
                                                                                    refine r_iconst (v := 0) X dL_law_1318 rfl ?_
                                                                                    obtain ⟨g555, h⟩ := h
                                                                                    obtain ⟨g556, h⟩ := h
                                                                                    exact r_wret X ha hk g555 g556.1 g556.2 dL_law_1319
                                                                                · replace h := h.2 c542
                                                                                  by_cases c557 : y5 = 38
                                                                                  · replace h := h.1 c557
                                                                                    refine r_tin X 1320 dL_law_33 38 c557 (by decide) (by decide) rfl (by decide) ?_
                                                                                    refine r_aload_n X 1 dL_law_1320 rfl rfl ?_
                                                                                    refine r_aload_n X 0 dL_law_1321 rfl rfl ?_
                                                                                    refine r_iload_n X 3 dL_law_1322 rfl rfl ?_
                                                                                    refine r_iconst (v := 1) X dL_law_1323 rfl ?_
                                                                                    refine r_iadd X dL_law_1324 ?_
                                                                                    obtain ⟨g558, h⟩ := h
                                                                                    refine r_ialdM X g1 g558 dL_law_1325 ?_
                                                                                    have hJ : WB x G 4 (QfW x) ce sl s 1334 [(0, .ref v0), (1, .ref (kB G + 0)), (2, .ref (kB G + 182)), (3, .int v3)] [.int (if (gI s v0 (Int32.toNatClampNeg (v3 + 1))) = 0 then 0 else 1 : Int32), .ref (kB G + 0)] := by
                                                                                      obtain ⟨g560, h⟩ := h
                                                                                      refine r_ci X (r_okVL (As := [.int (if (gI s v0 (Int32.toNatClampNeg (v3 + 1))) = 0 then 0 else 1 : Int32)]) (rest := []) X (m_X0_featherForAll (xl x) G X.2.2.2.2.1 hph (if (gI s v0 (Int32.toNatClampNeg (v3 + 1))) = 0 then 0 else 1 : Int32) s _ h) (cl_L_174 X ⟨(Nat.le_of_ble_eq_true rfl), (Nat.le_of_ble_eq_true rfl)⟩) hph 0 ly_0 rfl rfl rfl rfl (Nat.le_of_ble_eq_true rfl) dL_law_1334 g560) (fun r562 s561 h => ?_)
                                                                                      refine r_aload_n X 2 dL_law_1337 rfl rfl ?_
                                                                                      refine r_aload_n X 0 dL_law_1338 rfl rfl ?_
                                                                                      refine r_iload_n X 3 dL_law_1339 rfl rfl ?_
                                                                                      refine r_iconst (v := 1) X dL_law_1340 rfl ?_
                                                                                      refine r_iadd X dL_law_1341 ?_
                                                                                      obtain ⟨g563, h⟩ := h
                                                                                      obtain ⟨g564, h⟩ := h
                                                                                      refine r_ialdM X g563 g564 dL_law_1342 ?_
                                                                                      have hJ : WB x G 4 (QfW x) (ce + 1) (sl + 6) s561 1351 [(0, .ref v0), (1, .ref (kB G + 0)), (2, .ref (kB G + 182)), (3, .int v3)] [.int (if (gI s561 v0 (Int32.toNatClampNeg (v3 + 1))) = 0 then 0 else 1 : Int32), .ref (kB G + 182), .int r562] := by
                                                                                        obtain ⟨g566, h⟩ := h
                                                                                        refine r_ci X (r_okVL (As := [.int (if (gI s561 v0 (Int32.toNatClampNeg (v3 + 1))) = 0 then 0 else 1 : Int32)]) (rest := [.int r562]) X (m_X2_featherForAll (xl x) G X.2.2.2.2.1 hph (if (gI s561 v0 (Int32.toNatClampNeg (v3 + 1))) = 0 then 0 else 1 : Int32) s561 _ h) (cl_L_178 X ⟨(Nat.le_of_ble_eq_true rfl), (Nat.le_of_ble_eq_true rfl)⟩) hph 2 ly_182 rfl rfl rfl rfl (Nat.le_of_ble_eq_true rfl) dL_law_1351 g566) (fun r568 s567 h => ?_)
                                                                                        refine r_ic_eq X 1501 dL_law_1354 (by decide) (fun c569 => ?_) (fun c569 => ?_)
                                                                                        · replace h := h.1 c569
                                                                                          refine r_iinc (lv' := [(3, .int (v3 + 6)), (0, .ref v0), (1, .ref (kB G + 0)), (2, .ref (kB G + 182))]) X 3 dL_law_1501 rfl rfl (Nat.le_of_ble_eq_true rfl) rfl ?_
                                                                                          refine r_goto X 18 dL_law_1504 (by decide) ?_
                                                                                          refine r_sub [1, 2, 3, 0] rfl ?_
                                                                                          exact ih (v3 + 6) ((ce + 1) + 0) ((sl + 6) + 0) s567 h
                                                                                        · replace h := h.2 c569
                                                                                          refine r_iconst (v := 0) X dL_law_1357 rfl ?_
                                                                                          obtain ⟨g570, h⟩ := h
                                                                                          obtain ⟨g571, h⟩ := h
                                                                                          exact r_wret X ha hk g570 g571.1 g571.2 dL_law_1358
                                                                                      refine r_if_eq X 1350 dL_law_1343 (by decide) (fun c565 => ?_) (fun c565 => ?_)
                                                                                      · rw [if_pos c565] at hJ
                                                                                        refine r_iconst (v := 0) X dL_law_1350 rfl ?_
                                                                                        exact hJ
                                                                                      · rw [if_neg c565] at hJ
                                                                                        refine r_iconst (v := 1) X dL_law_1346 rfl ?_
                                                                                        refine r_goto X 1351 dL_law_1347 (by decide) ?_
                                                                                        exact hJ
                                                                                    refine r_if_eq X 1333 dL_law_1326 (by decide) (fun c559 => ?_) (fun c559 => ?_)
                                                                                    · rw [if_pos c559] at hJ
                                                                                      refine r_iconst (v := 0) X dL_law_1333 rfl ?_
                                                                                      exact hJ
                                                                                    · rw [if_neg c559] at hJ
                                                                                      refine r_iconst (v := 1) X dL_law_1329 rfl ?_
                                                                                      refine r_goto X 1334 dL_law_1330 (by decide) ?_
                                                                                      exact hJ
                                                                                  · replace h := h.2 c557
                                                                                    by_cases c572 : y5 = 39
                                                                                    · replace h := h.1 c572
                                                                                      refine r_tin X 1359 dL_law_33 39 c572 (by decide) (by decide) rfl (by decide) ?_
                                                                                      refine r_aload_n X 1 dL_law_1359 rfl rfl ?_
                                                                                      refine r_aload_n X 0 dL_law_1360 rfl rfl ?_
                                                                                      refine r_iload_n X 3 dL_law_1361 rfl rfl ?_
                                                                                      refine r_iconst (v := 1) X dL_law_1362 rfl ?_
                                                                                      refine r_iadd X dL_law_1363 ?_
                                                                                      obtain ⟨g573, h⟩ := h
                                                                                      refine r_ialdM X g1 g573 dL_law_1364 ?_
                                                                                      refine r_aload_n X 0 dL_law_1365 rfl rfl ?_
                                                                                      refine r_iload_n X 3 dL_law_1366 rfl rfl ?_
                                                                                      refine r_iconst (v := 2) X dL_law_1367 rfl ?_
                                                                                      refine r_iadd X dL_law_1368 ?_
                                                                                      obtain ⟨g574, h⟩ := h
                                                                                      refine r_ialdM X g1 g574 dL_law_1369 ?_
                                                                                      refine r_aload_n X 0 dL_law_1370 rfl rfl ?_
                                                                                      refine r_iload_n X 3 dL_law_1371 rfl rfl ?_
                                                                                      refine r_iconst (v := 3) X dL_law_1372 rfl ?_
                                                                                      refine r_iadd X dL_law_1373 ?_
                                                                                      obtain ⟨g575, h⟩ := h
                                                                                      refine r_ialdM X g1 g575 dL_law_1374 ?_
                                                                                      have hJ : WB x G 4 (QfW x) ce sl s 1383 [(0, .ref v0), (1, .ref (kB G + 0)), (2, .ref (kB G + 182)), (3, .int v3)] [.int (if (gI s v0 (Int32.toNatClampNeg (v3 + 3))) = 0 then 0 else 1 : Int32), .int (gI s v0 (Int32.toNatClampNeg (v3 + 2))), .int (gI s v0 (Int32.toNatClampNeg (v3 + 1))), .ref (kB G + 0)] := by
                                                                                        obtain ⟨g577, h⟩ := h
                                                                                        refine r_cl X (r_okVL (As := [.int (gI s v0 (Int32.toNatClampNeg (v3 + 1))), .int (gI s v0 (Int32.toNatClampNeg (v3 + 2))), .int (if (gI s v0 (Int32.toNatClampNeg (v3 + 3))) = 0 then 0 else 1 : Int32)]) (rest := []) X (m_X0_odds (xl x) G X.2.2.2.2.1 hph (gI s v0 (Int32.toNatClampNeg (v3 + 1))) (gI s v0 (Int32.toNatClampNeg (v3 + 2))) (if (gI s v0 (Int32.toNatClampNeg (v3 + 3))) = 0 then 0 else 1 : Int32) s _ h) (cl_L_179 X ⟨(Nat.le_of_ble_eq_true rfl), (Nat.le_of_ble_eq_true rfl)⟩) hph 0 ly_0 rfl rfl rfl rfl (Nat.le_of_ble_eq_true rfl) dL_law_1383 g577) (fun r579 s578 h => ?_)
                                                                                        refine r_aload_n X 2 dL_law_1386 rfl rfl ?_
                                                                                        refine r_aload_n X 0 dL_law_1387 rfl rfl ?_
                                                                                        refine r_iload_n X 3 dL_law_1388 rfl rfl ?_
                                                                                        refine r_iconst (v := 1) X dL_law_1389 rfl ?_
                                                                                        refine r_iadd X dL_law_1390 ?_
                                                                                        obtain ⟨g580, h⟩ := h
                                                                                        obtain ⟨g581, h⟩ := h
                                                                                        refine r_ialdM X g580 g581 dL_law_1391 ?_
                                                                                        refine r_aload_n X 0 dL_law_1392 rfl rfl ?_
                                                                                        refine r_iload_n X 3 dL_law_1393 rfl rfl ?_
                                                                                        refine r_iconst (v := 2) X dL_law_1394 rfl ?_
                                                                                        refine r_iadd X dL_law_1395 ?_
                                                                                        obtain ⟨g582, h⟩ := h
                                                                                        refine r_ialdM X g580 g582 dL_law_1396 ?_
                                                                                        refine r_aload_n X 0 dL_law_1397 rfl rfl ?_
                                                                                        refine r_iload_n X 3 dL_law_1398 rfl rfl ?_
                                                                                        refine r_iconst (v := 3) X dL_law_1399 rfl ?_
                                                                                        refine r_iadd X dL_law_1400 ?_
                                                                                        obtain ⟨g583, h⟩ := h
                                                                                        refine r_ialdM X g580 g583 dL_law_1401 ?_
                                                                                        have hJ : WB x G 4 (QfW x) (ce + 0) (sl + 0) s578 1410 [(0, .ref v0), (1, .ref (kB G + 0)), (2, .ref (kB G + 182)), (3, .int v3)] [.int (if (gI s578 v0 (Int32.toNatClampNeg (v3 + 3))) = 0 then 0 else 1 : Int32), .int (gI s578 v0 (Int32.toNatClampNeg (v3 + 2))), .int (gI s578 v0 (Int32.toNatClampNeg (v3 + 1))), .ref (kB G + 182), .long r579] := by
                                                                                          obtain ⟨g585, h⟩ := h
                                                                                          refine r_cl X (r_okVL (As := [.int (gI s578 v0 (Int32.toNatClampNeg (v3 + 1))), .int (gI s578 v0 (Int32.toNatClampNeg (v3 + 2))), .int (if (gI s578 v0 (Int32.toNatClampNeg (v3 + 3))) = 0 then 0 else 1 : Int32)]) (rest := [.long r579]) X (m_X2_odds (xl x) G X.2.2.2.2.1 hph (gI s578 v0 (Int32.toNatClampNeg (v3 + 1))) (gI s578 v0 (Int32.toNatClampNeg (v3 + 2))) (if (gI s578 v0 (Int32.toNatClampNeg (v3 + 3))) = 0 then 0 else 1 : Int32) s578 _ h) (cl_L_183 X ⟨(Nat.le_of_ble_eq_true rfl), (Nat.le_of_ble_eq_true rfl)⟩) hph 2 ly_182 rfl rfl rfl rfl (Nat.le_of_ble_eq_true rfl) dL_law_1410 g585) (fun r587 s586 h => ?_)
                                                                                          refine r_lcmp X dL_law_1413 ?_
                                                                                          refine r_if_eq X 1501 dL_law_1414 (by decide) (fun c588 => ?_) (fun c588 => ?_)
                                                                                          · replace h := h.1 c588
                                                                                            refine r_iinc (lv' := [(3, .int (v3 + 6)), (0, .ref v0), (1, .ref (kB G + 0)), (2, .ref (kB G + 182))]) X 3 dL_law_1501 rfl rfl (Nat.le_of_ble_eq_true rfl) rfl ?_
                                                                                            refine r_goto X 18 dL_law_1504 (by decide) ?_
                                                                                            refine r_sub [1, 2, 3, 0] rfl ?_
                                                                                            exact ih (v3 + 6) ((ce + 0) + 0) ((sl + 0) + 0) s586 h
                                                                                          · replace h := h.2 c588
                                                                                            refine r_iconst (v := 0) X dL_law_1417 rfl ?_
                                                                                            obtain ⟨g589, h⟩ := h
                                                                                            obtain ⟨g590, h⟩ := h
                                                                                            exact r_wret X ha hk g589 g590.1 g590.2 dL_law_1418
                                                                                        refine r_if_eq X 1409 dL_law_1402 (by decide) (fun c584 => ?_) (fun c584 => ?_)
                                                                                        · rw [if_pos c584] at hJ
                                                                                          refine r_iconst (v := 0) X dL_law_1409 rfl ?_
                                                                                          exact hJ
                                                                                        · rw [if_neg c584] at hJ
                                                                                          refine r_iconst (v := 1) X dL_law_1405 rfl ?_
                                                                                          refine r_goto X 1410 dL_law_1406 (by decide) ?_
                                                                                          exact hJ
                                                                                      refine r_if_eq X 1382 dL_law_1375 (by decide) (fun c576 => ?_) (fun c576 => ?_)
                                                                                      · rw [if_pos c576] at hJ
                                                                                        refine r_iconst (v := 0) X dL_law_1382 rfl ?_
                                                                                        exact hJ
                                                                                      · rw [if_neg c576] at hJ
                                                                                        refine r_iconst (v := 1) X dL_law_1378 rfl ?_
                                                                                        refine r_goto X 1383 dL_law_1379 (by decide) ?_
                                                                                        exact hJ
                                                                                    · replace h := h.2 c572
                                                                                      by_cases c591 : y5 = 40
                                                                                      · replace h := h.1 c591
                                                                                        refine r_tin X 1419 dL_law_33 40 c591 (by decide) (by decide) rfl (by decide) ?_
                                                                                        refine r_aload_n X 1 dL_law_1419 rfl rfl ?_
                                                                                        refine r_aload_n X 0 dL_law_1420 rfl rfl ?_
                                                                                        refine r_iload_n X 3 dL_law_1421 rfl rfl ?_
                                                                                        refine r_iconst (v := 1) X dL_law_1422 rfl ?_
                                                                                        refine r_iadd X dL_law_1423 ?_
                                                                                        obtain ⟨g592, h⟩ := h
                                                                                        refine r_ialdM X g1 g592 dL_law_1424 ?_
                                                                                        refine r_aload_n X 0 dL_law_1425 rfl rfl ?_
                                                                                        refine r_iload_n X 3 dL_law_1426 rfl rfl ?_
                                                                                        refine r_iconst (v := 2) X dL_law_1427 rfl ?_
                                                                                        refine r_iadd X dL_law_1428 ?_
                                                                                        obtain ⟨g593, h⟩ := h
                                                                                        refine r_ialdM X g1 g593 dL_law_1429 ?_
                                                                                        obtain ⟨g594, h⟩ := h
                                                                                        refine r_ci X (r_okVL (As := [.int (gI s v0 (Int32.toNatClampNeg (v3 + 1))), .int (gI s v0 (Int32.toNatClampNeg (v3 + 2)))]) (rest := []) X (m_X0_often (xl x) G X.2.2.2.2.1 hph (gI s v0 (Int32.toNatClampNeg (v3 + 1))) (gI s v0 (Int32.toNatClampNeg (v3 + 2))) s _ h) (cl_L_184 X ⟨(Nat.le_of_ble_eq_true rfl), (Nat.le_of_ble_eq_true rfl)⟩) hph 0 ly_0 rfl rfl rfl rfl (Nat.le_of_ble_eq_true rfl) dL_law_1430 g594) (fun r596 s595 h => ?_)
                                                                                        refine r_aload_n X 2 dL_law_1433 rfl rfl ?_
                                                                                        refine r_aload_n X 0 dL_law_1434 rfl rfl ?_
                                                                                        refine r_iload_n X 3 dL_law_1435 rfl rfl ?_
                                                                                        refine r_iconst (v := 1) X dL_law_1436 rfl ?_
                                                                                        refine r_iadd X dL_law_1437 ?_
                                                                                        obtain ⟨g597, h⟩ := h
                                                                                        obtain ⟨g598, h⟩ := h
                                                                                        refine r_ialdM X g597 g598 dL_law_1438 ?_
                                                                                        refine r_aload_n X 0 dL_law_1439 rfl rfl ?_
                                                                                        refine r_iload_n X 3 dL_law_1440 rfl rfl ?_
                                                                                        refine r_iconst (v := 2) X dL_law_1441 rfl ?_
                                                                                        refine r_iadd X dL_law_1442 ?_
                                                                                        obtain ⟨g599, h⟩ := h
                                                                                        refine r_ialdM X g597 g599 dL_law_1443 ?_
                                                                                        obtain ⟨g600, h⟩ := h
                                                                                        refine r_ci X (r_okVL (As := [.int (gI s595 v0 (Int32.toNatClampNeg (v3 + 1))), .int (gI s595 v0 (Int32.toNatClampNeg (v3 + 2)))]) (rest := [.int r596]) X (m_X2_often (xl x) G X.2.2.2.2.1 hph (gI s595 v0 (Int32.toNatClampNeg (v3 + 1))) (gI s595 v0 (Int32.toNatClampNeg (v3 + 2))) s595 _ h) (cl_L_187 X ⟨(Nat.le_of_ble_eq_true rfl), (Nat.le_of_ble_eq_true rfl)⟩) hph 2 ly_182 rfl rfl rfl rfl (Nat.le_of_ble_eq_true rfl) dL_law_1444 g600) (fun r602 s601 h => ?_)
                                                                                        refine r_ic_eq X 1501 dL_law_1447 (by decide) (fun c603 => ?_) (fun c603 => ?_)
                                                                                        · replace h := h.1 c603
                                                                                          refine r_iinc (lv' := [(3, .int (v3 + 6)), (0, .ref v0), (1, .ref (kB G + 0)), (2, .ref (kB G + 182))]) X 3 dL_law_1501 rfl rfl (Nat.le_of_ble_eq_true rfl) rfl ?_
                                                                                          refine r_goto X 18 dL_law_1504 (by decide) ?_
                                                                                          refine r_sub [1, 2, 3, 0] rfl ?_
                                                                                          exact ih (v3 + 6) ((ce + 0) + 0) ((sl + 0) + 0) s601 h
                                                                                        · replace h := h.2 c603
                                                                                          refine r_iconst (v := 0) X dL_law_1450 rfl ?_
                                                                                          obtain ⟨g604, h⟩ := h
                                                                                          obtain ⟨g605, h⟩ := h
                                                                                          exact r_wret X ha hk g604 g605.1 g605.2 dL_law_1451
                                                                                      · replace h := h.2 c591
                                                                                        by_cases c606 : y5 = 41
                                                                                        · replace h := h.1 c606
                                                                                          refine r_tin X 1452 dL_law_33 41 c606 (by decide) (by decide) rfl (by decide) ?_
                                                                                          refine r_aload_n X 1 dL_law_1452 rfl rfl ?_
                                                                                          obtain ⟨g607, h⟩ := h
                                                                                          refine r_ci X (r_okVL (As := []) (rest := []) X (m_X0_image (xl x) G X.2.2.2.2.1 hph s _ h) (cl_L_188 X ⟨(Nat.le_of_ble_eq_true rfl), (Nat.le_of_ble_eq_true rfl)⟩) hph 0 ly_0 rfl rfl rfl rfl (Nat.le_of_ble_eq_true rfl) dL_law_1453 g607) (fun r609 s608 h => ?_)
                                                                                          refine r_aload_n X 2 dL_law_1456 rfl rfl ?_
                                                                                          obtain ⟨g610, h⟩ := h
                                                                                          refine r_ci X (r_okVL (As := []) (rest := [.int r609]) X (m_X2_image (xl x) G X.2.2.2.2.1 hph s608 _ h) (cl_L_191 X ⟨(Nat.le_of_ble_eq_true rfl), (Nat.le_of_ble_eq_true rfl)⟩) hph 2 ly_182 rfl rfl rfl rfl (Nat.le_of_ble_eq_true rfl) dL_law_1457 g610) (fun r612 s611 h => ?_)
                                                                                          refine r_ic_eq X 1501 dL_law_1460 (by decide) (fun c613 => ?_) (fun c613 => ?_)
                                                                                          · replace h := h.1 c613
                                                                                            refine r_iinc (lv' := [(3, .int (v3 + 6)), (0, .ref v0), (1, .ref (kB G + 0)), (2, .ref (kB G + 182))]) X 3 dL_law_1501 rfl rfl (Nat.le_of_ble_eq_true rfl) rfl ?_
                                                                                            refine r_goto X 18 dL_law_1504 (by decide) ?_
                                                                                            refine r_sub [1, 2, 3, 0] rfl ?_
                                                                                            exact ih (v3 + 6) ((ce + 0) + 0) ((sl + 0) + 0) s611 h
                                                                                          · replace h := h.2 c613
                                                                                            refine r_iconst (v := 0) X dL_law_1463 rfl ?_
                                                                                            obtain ⟨g614, h⟩ := h
                                                                                            obtain ⟨g615, h⟩ := h
                                                                                            exact r_wret X ha hk g614 g615.1 g615.2 dL_law_1464
                                                                                        · replace h := h.2 c606
                                                                                          by_cases c616 : y5 = 42
                                                                                          · replace h := h.1 c616
                                                                                            refine r_tin X 1465 dL_law_33 42 c616 (by decide) (by decide) rfl (by decide) ?_
                                                                                            refine r_aload_n X 1 dL_law_1465 rfl rfl ?_
                                                                                            obtain ⟨g617, h⟩ := h
                                                                                            refine r_ci X (r_okVL (As := []) (rest := []) X (m_X0_back (xl x) G X.2.2.2.2.1 hph s _ h) (cl_L_192 X ⟨(Nat.le_of_ble_eq_true rfl), (Nat.le_of_ble_eq_true rfl)⟩) hph 0 ly_0 rfl rfl rfl rfl (Nat.le_of_ble_eq_true rfl) dL_law_1466 g617) (fun r619 s618 h => ?_)
                                                                                            refine r_aload_n X 2 dL_law_1469 rfl rfl ?_
                                                                                            obtain ⟨g620, h⟩ := h
                                                                                            refine r_ci X (r_okVL (As := []) (rest := [.int r619]) X (m_X2_back (xl x) G X.2.2.2.2.1 hph s618 _ h) (cl_L_195 X ⟨(Nat.le_of_ble_eq_true rfl), (Nat.le_of_ble_eq_true rfl)⟩) hph 2 ly_182 rfl rfl rfl rfl (Nat.le_of_ble_eq_true rfl) dL_law_1470 g620) (fun r622 s621 h => ?_)
                                                                                            refine r_ic_eq X 1501 dL_law_1473 (by decide) (fun c623 => ?_) (fun c623 => ?_)
                                                                                            · replace h := h.1 c623
                                                                                              refine r_iinc (lv' := [(3, .int (v3 + 6)), (0, .ref v0), (1, .ref (kB G + 0)), (2, .ref (kB G + 182))]) X 3 dL_law_1501 rfl rfl (Nat.le_of_ble_eq_true rfl) rfl ?_
                                                                                              refine r_goto X 18 dL_law_1504 (by decide) ?_
                                                                                              refine r_sub [1, 2, 3, 0] rfl ?_
                                                                                              exact ih (v3 + 6) ((ce + 0) + 0) ((sl + 0) + 0) s621 h
                                                                                            · replace h := h.2 c623
                                                                                              refine r_iconst (v := 0) X dL_law_1476 rfl ?_
                                                                                              obtain ⟨g624, h⟩ := h
                                                                                              obtain ⟨g625, h⟩ := h
                                                                                              exact r_wret X ha hk g624 g625.1 g625.2 dL_law_1477
                                                                                          · replace h := h.2 c616
                                                                                            by_cases c626 : y5 = 43
                                                                                            · replace h := h.1 c626
                                                                                              refine r_tin X 1478 dL_law_33 43 c626 (by decide) (by decide) rfl (by decide) ?_
                                                                                              refine r_aload_n X 1 dL_law_1478 rfl rfl ?_
                                                                                              refine r_aload_n X 0 dL_law_1479 rfl rfl ?_
                                                                                              refine r_iload_n X 3 dL_law_1480 rfl rfl ?_
                                                                                              refine r_iconst (v := 1) X dL_law_1481 rfl ?_
                                                                                              refine r_iadd X dL_law_1482 ?_
                                                                                              obtain ⟨g627, h⟩ := h
                                                                                              refine r_ialdM X g1 g627 dL_law_1483 ?_
                                                                                              obtain ⟨g628, h⟩ := h
                                                                                              refine r_ci X (r_okVL (As := [.int (gI s v0 (Int32.toNatClampNeg (v3 + 1)))]) (rest := []) X (m_X0_about (xl x) G X.2.2.2.2.1 hph (gI s v0 (Int32.toNatClampNeg (v3 + 1))) s _ h) (cl_L_196 X ⟨(Nat.le_of_ble_eq_true rfl), (Nat.le_of_ble_eq_true rfl)⟩) hph 0 ly_0 rfl rfl rfl rfl (Nat.le_of_ble_eq_true rfl) dL_law_1484 g628) (fun r630 s629 h => ?_)
                                                                                              refine r_aload_n X 2 dL_law_1487 rfl rfl ?_
                                                                                              refine r_aload_n X 0 dL_law_1488 rfl rfl ?_
                                                                                              refine r_iload_n X 3 dL_law_1489 rfl rfl ?_
                                                                                              refine r_iconst (v := 1) X dL_law_1490 rfl ?_
                                                                                              refine r_iadd X dL_law_1491 ?_
                                                                                              obtain ⟨g631, h⟩ := h
                                                                                              obtain ⟨g632, h⟩ := h
                                                                                              refine r_ialdM X g631 g632 dL_law_1492 ?_
                                                                                              obtain ⟨g633, h⟩ := h
                                                                                              refine r_ci X (r_okVL (As := [.int (gI s629 v0 (Int32.toNatClampNeg (v3 + 1)))]) (rest := [.int r630]) X (m_X2_about (xl x) G X.2.2.2.2.1 hph (gI s629 v0 (Int32.toNatClampNeg (v3 + 1))) s629 _ h) (cl_L_199 X ⟨(Nat.le_of_ble_eq_true rfl), (Nat.le_of_ble_eq_true rfl)⟩) hph 2 ly_182 rfl rfl rfl rfl (Nat.le_of_ble_eq_true rfl) dL_law_1493 g633) (fun r635 s634 h => ?_)
                                                                                              refine r_ic_eq X 1501 dL_law_1496 (by decide) (fun c636 => ?_) (fun c636 => ?_)
                                                                                              · replace h := h.1 c636
                                                                                                refine r_iinc (lv' := [(3, .int (v3 + 6)), (0, .ref v0), (1, .ref (kB G + 0)), (2, .ref (kB G + 182))]) X 3 dL_law_1501 rfl rfl (Nat.le_of_ble_eq_true rfl) rfl ?_
                                                                                                refine r_goto X 18 dL_law_1504 (by decide) ?_
                                                                                                refine r_sub [1, 2, 3, 0] rfl ?_
                                                                                                exact ih (v3 + 6) ((ce + 0) + 0) ((sl + 0) + 0) s634 h
                                                                                              · replace h := h.2 c636
                                                                                                refine r_iconst (v := 0) X dL_law_1499 rfl ?_
                                                                                                obtain ⟨g637, h⟩ := h
                                                                                                obtain ⟨g638, h⟩ := h
                                                                                                exact r_wret X ha hk g637 g638.1 g638.2 dL_law_1500
                                                                                            · replace h := h.2 c626
                                                                                              have o0 := lv_neT c7 (show Int32.toInt 0 = 0 from rfl)
                                                                                              have o1 := lv_neT c20 (show Int32.toInt 1 = 1 from rfl)
                                                                                              have o2 := lv_neT c41 (show Int32.toInt 2 = 2 from rfl)
                                                                                              have o3 := lv_neT c58 (show Int32.toInt 3 = 3 from rfl)
                                                                                              have o4 := lv_neT c71 (show Int32.toInt 4 = 4 from rfl)
                                                                                              have o5 := lv_neT c86 (show Int32.toInt 5 = 5 from rfl)
                                                                                              have o6 := lv_neT c105 (show Int32.toInt 6 = 6 from rfl)
                                                                                              have o7 := lv_neT c126 (show Int32.toInt 7 = 7 from rfl)
                                                                                              have o8 := lv_neT c139 (show Int32.toInt 8 = 8 from rfl)
                                                                                              have o9 := lv_neT c151 (show Int32.toInt 9 = 9 from rfl)
                                                                                              have o10 := lv_neT c164 (show Int32.toInt 10 = 10 from rfl)
                                                                                              have o11 := lv_neT c179 (show Int32.toInt 11 = 11 from rfl)
                                                                                              have o12 := lv_neT c198 (show Int32.toInt 12 = 12 from rfl)
                                                                                              have o13 := lv_neT c211 (show Int32.toInt 13 = 13 from rfl)
                                                                                              have o14 := lv_neT c224 (show Int32.toInt 14 = 14 from rfl)
                                                                                              have o15 := lv_neT c241 (show Int32.toInt 15 = 15 from rfl)
                                                                                              have o16 := lv_neT c251 (show Int32.toInt 16 = 16 from rfl)
                                                                                              have o17 := lv_neT c266 (show Int32.toInt 17 = 17 from rfl)
                                                                                              have o18 := lv_neT c283 (show Int32.toInt 18 = 18 from rfl)
                                                                                              have o19 := lv_neT c293 (show Int32.toInt 19 = 19 from rfl)
                                                                                              have o20 := lv_neT c306 (show Int32.toInt 20 = 20 from rfl)
                                                                                              have o21 := lv_neT c321 (show Int32.toInt 21 = 21 from rfl)
                                                                                              have o22 := lv_neT c336 (show Int32.toInt 22 = 22 from rfl)
                                                                                              have o23 := lv_neT c351 (show Int32.toInt 23 = 23 from rfl)
                                                                                              have o24 := lv_neT c366 (show Int32.toInt 24 = 24 from rfl)
                                                                                              have o25 := lv_neT c385 (show Int32.toInt 25 = 25 from rfl)
                                                                                              have o26 := lv_neT c400 (show Int32.toInt 26 = 26 from rfl)
                                                                                              have o27 := lv_neT c413 (show Int32.toInt 27 = 27 from rfl)
                                                                                              have o28 := lv_neT c426 (show Int32.toInt 28 = 28 from rfl)
                                                                                              have o29 := lv_neT c439 (show Int32.toInt 29 = 29 from rfl)
                                                                                              have o30 := lv_neT c456 (show Int32.toInt 30 = 30 from rfl)
                                                                                              have o31 := lv_neT c471 (show Int32.toInt 31 = 31 from rfl)
                                                                                              have o32 := lv_neT c481 (show Int32.toInt 32 = 32 from rfl)
                                                                                              have o33 := lv_neT c494 (show Int32.toInt 33 = 33 from rfl)
                                                                                              have o34 := lv_neT c509 (show Int32.toInt 34 = 34 from rfl)
                                                                                              have o35 := lv_neT c519 (show Int32.toInt 35 = 35 from rfl)
                                                                                              have o36 := lv_neT c532 (show Int32.toInt 36 = 36 from rfl)
                                                                                              have o37 := lv_neT c542 (show Int32.toInt 37 = 37 from rfl)
                                                                                              have o38 := lv_neT c557 (show Int32.toInt 38 = 38 from rfl)
                                                                                              have o39 := lv_neT c572 (show Int32.toInt 39 = 39 from rfl)
                                                                                              have o40 := lv_neT c591 (show Int32.toInt 40 = 40 from rfl)
                                                                                              have o41 := lv_neT c606 (show Int32.toInt 41 = 41 from rfl)
                                                                                              have o42 := lv_neT c616 (show Int32.toInt 42 = 42 from rfl)
                                                                                              have o43 := lv_neT c626 (show Int32.toInt 43 = 43 from rfl)
                                                                                              refine r_tout X 1501 dL_law_33 (by omega) (by decide) ?_
                                                                                              refine r_iinc (lv' := [(3, .int (v3 + 6)), (0, .ref v0), (1, .ref (kB G + 0)), (2, .ref (kB G + 182))]) X 3 dL_law_1501 rfl rfl (Nat.le_of_ble_eq_true rfl) rfl ?_
                                                                                              refine r_goto X 18 dL_law_1504 (by decide) ?_
                                                                                              refine r_sub [1, 2, 3, 0] rfl ?_
                                                                                              exact ih (v3 + 6) ce sl s h
