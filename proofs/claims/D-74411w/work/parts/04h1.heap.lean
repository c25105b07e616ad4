/-! the component and the library's methods: what each computes, over pure heaps -/
set_option maxRecDepth 100000
set_option maxHeartbeats 4000000
theorem cl_0 : xCls 0 RX1 TX1 7 tyX1 := ⟨rfl, in_X1, tyX1_ok, nmX1⟩
theorem cl_1 : xCls 1 RX2 TX2 32 tyX2 := ⟨rfl, in_X2, tyX2_ok, nmX2⟩
theorem cl_2 : xCls 2 RX3 TX3 10 tyX3 := ⟨rfl, in_X3, tyX3_ok, nmX3⟩
theorem cl_3 : xCls 3 RX4 TX4 5 tyX4 := ⟨rfl, in_X4, tyX4_ok, nmX4⟩
theorem cl_4 : xCls 4 RX5 TX5 8 tyX5 := ⟨rfl, in_X5, tyX5_ok, nmX5⟩
theorem cl_5 : xCls 5 RX6 TX6 2 tyX6 := ⟨rfl, in_X6, tyX6_ok, nmX6⟩
theorem cl_6 : xCls 6 RX7 TX7 5 tyX7 := ⟨rfl, in_X7, tyX7_ok, nmX7⟩
theorem cl_7 : xCls 7 RX8 TX8 2 tyX8 := ⟨rfl, in_X8, tyX8_ok, nmX8⟩
theorem cl_8 : xCls 8 RX9 TX9 4 tyX9 := ⟨rfl, in_X9, tyX9_ok, nmX9⟩
theorem cl_9 : xCls 9 RX10 TX10 1 tyX10 := ⟨rfl, in_X10, tyX10_ok, nmX10⟩
theorem cl_10 : xCls 10 RX11 TX11 2 tyX11 := ⟨rfl, in_X11, tyX11_ok, nmX11⟩
theorem cl_11 : xCls 11 RX12 TX12 3 tyX12 := ⟨rfl, in_X12, tyX12_ok, nmX12⟩
theorem cl_13 : xCls 13 RJ1 TJ1 3 tyJ1 := ⟨rfl, in_J1, tyJ1_ok, nmJ1⟩
theorem cl_14 : xCls 14 RJ3 TJ3 3 tyJ3 := ⟨rfl, in_J3, tyJ3_ok, nmJ3⟩
theorem cl_15 : xCls 15 RJ5 TJ5 9 tyJ5 := ⟨rfl, in_J5, tyJ5_ok, nmJ5⟩
theorem cl_16 : xCls 16 RJ6 TJ6 4 tyJ6 := ⟨rfl, in_J6, tyJ6_ok, nmJ6⟩
theorem cl_17 : xCls 17 RJ15 TJ15 4 tyJ15 := ⟨rfl, in_J15, tyJ15_ok, nmJ15⟩
theorem cl_18 : xCls 18 RJ19 TJ19 1 tyJ19 := ⟨rfl, in_J19, tyJ19_ok, nmJ19⟩
theorem cl_19 : xCls 19 RJ23 TJ23 6 tyJ23 := ⟨rfl, in_J23, tyJ23_ok, nmJ23⟩
theorem cl_20 : xCls 20 RJ26 TJ26 4 tyJ26 := ⟨rfl, in_J26, tyJ26_ok, nmJ26⟩
theorem cl_22 : xCls 22 RJ32 TJ32 4 tyJ32 := ⟨rfl, in_J32, tyJ32_ok, nmJ32⟩
theorem cl_23 : xCls 23 RJ34 TJ34 1 tyJ34 := ⟨rfl, in_J34, tyJ34_ok, nmJ34⟩
theorem cl_24 : xCls 24 RJ35 TJ35 1 tyJ35 := ⟨rfl, in_J35, tyJ35_ok, nmJ35⟩
theorem cl_25 : xCls 25 RJ37 TJ37 4 tyJ37 := ⟨rfl, in_J37, tyJ37_ok, nmJ37⟩
theorem fl_J1_3 : xFL "java/util/ArrayDeque" 3 13 0 := ⟨_, _, _, _, _, cl_13, by decide, Or.inl q200, Or.inl rfl⟩
theorem pl_J1_3 (nm : String) (v : Value) (h : xfit (tyJ1 0) v) : xPL "java/util/ArrayDeque" 3 13 0 nm v := ⟨_, _, _, _, _, cl_13, by decide, Or.inl q200, Or.inl rfl, Or.inl rfl, h⟩
theorem fl_X1_11 : xFL "ForestLegs" 11 0 1 := ⟨_, _, _, _, _, cl_0, by decide, Or.inl q214, Or.inl rfl⟩
theorem pl_X1_11 (nm : String) (v : Value) (h : xfit (tyX1 1) v) : xPL "ForestLegs" 11 0 1 nm v := ⟨_, _, _, _, _, cl_0, by decide, Or.inl q214, Or.inl rfl, Or.inl rfl, h⟩
theorem fl_X1_20 : xFL "ForestLegs" 20 0 2 := ⟨_, _, _, _, _, cl_0, by decide, Or.inl q216, Or.inl rfl⟩
theorem pl_X1_20 (v : Value) (h : xfit (tyX1 2) v) : xPL "ForestLegs" 20 0 2 "<init>" v := ⟨_, _, _, _, _, cl_0, by decide, Or.inl q216, Or.inl rfl, Or.inr ⟨rfl, rfl, rfl⟩, h⟩
theorem fl_X1_29 : xFL "ForestLegs" 29 0 6 := ⟨_, _, _, _, _, cl_0, by decide, Or.inl q221, Or.inl rfl⟩
theorem pl_X1_29 (v : Value) (h : xfit (tyX1 6) v) : xPL "ForestLegs" 29 0 6 "<init>" v := ⟨_, _, _, _, _, cl_0, by decide, Or.inl q221, Or.inl rfl, Or.inr ⟨rfl, rfl, rfl⟩, h⟩
theorem fl_X1_33 : xFL "ForestLegs" 33 0 3 := ⟨_, _, _, _, _, cl_0, by decide, Or.inl q217, Or.inl rfl⟩
theorem pl_X1_33 (nm : String) (v : Value) (h : xfit (tyX1 3) v) : xPL "ForestLegs" 33 0 3 nm v := ⟨_, _, _, _, _, cl_0, by decide, Or.inl q217, Or.inl rfl, Or.inl rfl, h⟩
theorem fl_X1_7 : xFL "ForestLegs" 7 0 0 := ⟨_, _, _, _, _, cl_0, by decide, Or.inl q213, Or.inl rfl⟩
theorem pl_X1_7 (nm : String) (v : Value) (h : xfit (tyX1 0) v) : xPL "ForestLegs" 7 0 0 nm v := ⟨_, _, _, _, _, cl_0, by decide, Or.inl q213, Or.inl rfl, Or.inl rfl, h⟩
theorem fl_J2_7 : xFL "java/util/AbstractList" 7 14 0 := ⟨_, _, _, _, _, cl_14, by decide, Or.inl q282, Or.inl rfl⟩
theorem pl_J2_7 (nm : String) (v : Value) (h : xfit (tyJ3 0) v) : xPL "java/util/AbstractList" 7 14 0 nm v := ⟨_, _, _, _, _, cl_14, by decide, Or.inl q282, Or.inl rfl, Or.inl rfl, h⟩
theorem fl_J3_9 : xFL "java/util/ArrayList" 9 14 1 := ⟨_, _, _, _, _, cl_14, by decide, Or.inl q278, Or.inl rfl⟩
theorem pl_J3_9 (nm : String) (v : Value) (h : xfit (tyJ3 1) v) : xPL "java/util/ArrayList" 9 14 1 nm v := ⟨_, _, _, _, _, cl_14, by decide, Or.inl q278, Or.inl rfl, Or.inl rfl, h⟩
theorem fl_X4_14 : xFL "ForestLegs$Meet" 14 3 0 := ⟨_, _, _, _, _, cl_3, by decide, Or.inl q293, Or.inl rfl⟩
theorem pl_X4_14 (v : Value) (h : xfit (tyX4 0) v) : xPL "ForestLegs$Meet" 14 3 0 "<init>" v := ⟨_, _, _, _, _, cl_3, by decide, Or.inl q293, Or.inl rfl, Or.inr ⟨rfl, rfl, rfl⟩, h⟩
theorem fl_X4_20 : xFL "ForestLegs$Meet" 20 3 1 := ⟨_, _, _, _, _, cl_3, by decide, Or.inl q296, Or.inl rfl⟩
theorem pl_X4_20 (v : Value) (h : xfit (tyX4 1) v) : xPL "ForestLegs$Meet" 20 3 1 "<init>" v := ⟨_, _, _, _, _, cl_3, by decide, Or.inl q296, Or.inl rfl, Or.inr ⟨rfl, rfl, rfl⟩, h⟩
theorem fl_X4_23 : xFL "ForestLegs$Meet" 23 3 2 := ⟨_, _, _, _, _, cl_3, by decide, Or.inl q300, Or.inl rfl⟩
theorem pl_X4_23 (nm : String) (v : Value) (h : xfit (tyX4 2) v) : xPL "ForestLegs$Meet" 23 3 2 nm v := ⟨_, _, _, _, _, cl_3, by decide, Or.inl q300, Or.inl rfl, Or.inl rfl, h⟩
theorem fl_X4_27 : xFL "ForestLegs$Meet" 27 3 3 := ⟨_, _, _, _, _, cl_3, by decide, Or.inl q303, Or.inl rfl⟩
theorem pl_X4_27 (nm : String) (v : Value) (h : xfit (tyX4 3) v) : xPL "ForestLegs$Meet" 27 3 3 nm v := ⟨_, _, _, _, _, cl_3, by decide, Or.inl q303, Or.inl rfl, Or.inl rfl, h⟩
theorem fl_J5_7 : xFL "java/util/TreeMap" 7 15 4 := ⟨_, _, _, _, _, cl_15, by decide, Or.inl q329, Or.inl rfl⟩
theorem pl_J5_7 (nm : String) (v : Value) (h : xfit (tyJ5 4) v) : xPL "java/util/TreeMap" 7 15 4 nm v := ⟨_, _, _, _, _, cl_15, by decide, Or.inl q329, Or.inl rfl, Or.inl rfl, h⟩
theorem fl_J5_13 : xFL "java/util/TreeMap" 13 15 5 := ⟨_, _, _, _, _, cl_15, by decide, Or.inl q330, Or.inl rfl⟩
theorem pl_J5_13 (nm : String) (v : Value) (h : xfit (tyJ5 5) v) : xPL "java/util/TreeMap" 13 15 5 nm v := ⟨_, _, _, _, _, cl_15, by decide, Or.inl q330, Or.inl rfl, Or.inl rfl, h⟩
theorem fl_J5_16 : xFL "java/util/TreeMap" 16 15 2 := ⟨_, _, _, _, _, cl_15, by decide, Or.inl q327, Or.inl rfl⟩
theorem pl_J5_16 (v : Value) (h : xfit (tyJ5 2) v) : xPL "java/util/TreeMap" 16 15 2 "<init>" v := ⟨_, _, _, _, _, cl_15, by decide, Or.inl q327, Or.inl rfl, Or.inr ⟨rfl, rfl, rfl⟩, h⟩
theorem fl_X3_3 : xFL "ForestLegs$Reader" 3 2 9 := ⟨_, _, _, _, _, cl_2, by decide, Or.inl q361, Or.inl rfl⟩
theorem pl_X3_3 (v : Value) (h : xfit (tyX3 9) v) : xPL "ForestLegs$Reader" 3 2 9 "<init>" v := ⟨_, _, _, _, _, cl_2, by decide, Or.inl q361, Or.inl rfl, Or.inr ⟨rfl, rfl, rfl⟩, h⟩
theorem fl_X3_18 : xFL "ForestLegs$Reader" 18 2 1 := ⟨_, _, _, _, _, cl_2, by decide, Or.inl q353, Or.inl rfl⟩
theorem pl_X3_18 (v : Value) (h : xfit (tyX3 1) v) : xPL "ForestLegs$Reader" 18 2 1 "<init>" v := ⟨_, _, _, _, _, cl_2, by decide, Or.inl q353, Or.inl rfl, Or.inr ⟨rfl, rfl, rfl⟩, h⟩
theorem fl_X3_25 : xFL "ForestLegs$Reader" 25 2 2 := ⟨_, _, _, _, _, cl_2, by decide, Or.inl q354, Or.inl rfl⟩
theorem pl_X3_25 (v : Value) (h : xfit (tyX3 2) v) : xPL "ForestLegs$Reader" 25 2 2 "<init>" v := ⟨_, _, _, _, _, cl_2, by decide, Or.inl q354, Or.inl rfl, Or.inr ⟨rfl, rfl, rfl⟩, h⟩
theorem fl_X3_29 : xFL "ForestLegs$Reader" 29 2 0 := ⟨_, _, _, _, _, cl_2, by decide, Or.inl q352, Or.inl rfl⟩
theorem pl_X3_29 (v : Value) (h : xfit (tyX3 0) v) : xPL "ForestLegs$Reader" 29 2 0 "<init>" v := ⟨_, _, _, _, _, cl_2, by decide, Or.inl q352, Or.inl rfl, Or.inr ⟨rfl, rfl, rfl⟩, h⟩
theorem fl_X3_33 : xFL "ForestLegs$Reader" 33 0 2 := ⟨_, _, _, _, _, cl_0, by decide, Or.inr ⟨_, q215⟩, Or.inl rfl⟩
theorem fl_J6_15 : xFL "java/lang/String" 15 16 1 := ⟨_, _, _, _, _, cl_16, by decide, Or.inl q730, Or.inl rfl⟩
theorem pl_J6_15 (v : Value) (h : xfit (tyJ6 1) v) : xPL "java/lang/String" 15 16 1 "<init>" v := ⟨_, _, _, _, _, cl_16, by decide, Or.inl q730, Or.inl rfl, Or.inr ⟨rfl, rfl, rfl⟩, h⟩
theorem fl_J6_9 : xFL "java/lang/String" 9 16 0 := ⟨_, _, _, _, _, cl_16, by decide, Or.inl q729, Or.inl rfl⟩
theorem pl_J6_9 (v : Value) (h : xfit (tyJ6 0) v) : xPL "java/lang/String" 9 16 0 "<init>" v := ⟨_, _, _, _, _, cl_16, by decide, Or.inl q729, Or.inl rfl, Or.inr ⟨rfl, rfl, rfl⟩, h⟩
theorem fl_X3_45 : xFL "ForestLegs$Reader" 45 2 5 := ⟨_, _, _, _, _, cl_2, by decide, Or.inl q357, Or.inl rfl⟩
theorem pl_X3_45 (nm : String) (v : Value) (h : xfit (tyX3 5) v) : xPL "ForestLegs$Reader" 45 2 5 nm v := ⟨_, _, _, _, _, cl_2, by decide, Or.inl q357, Or.inl rfl, Or.inl rfl, h⟩
theorem fl_X3_48 : xFL "ForestLegs$Reader" 48 2 6 := ⟨_, _, _, _, _, cl_2, by decide, Or.inl q358, Or.inl rfl⟩
theorem pl_X3_48 (nm : String) (v : Value) (h : xfit (tyX3 6) v) : xPL "ForestLegs$Reader" 48 2 6 nm v := ⟨_, _, _, _, _, cl_2, by decide, Or.inl q358, Or.inl rfl, Or.inl rfl, h⟩
theorem fl_X3_51 : xFL "ForestLegs$Reader" 51 2 7 := ⟨_, _, _, _, _, cl_2, by decide, Or.inl q359, Or.inl rfl⟩
theorem pl_X3_51 (nm : String) (v : Value) (h : xfit (tyX3 7) v) : xPL "ForestLegs$Reader" 51 2 7 nm v := ⟨_, _, _, _, _, cl_2, by decide, Or.inl q359, Or.inl rfl, Or.inl rfl, h⟩
theorem fl_X3_61 : xFL "ForestLegs$Reader" 61 2 8 := ⟨_, _, _, _, _, cl_2, by decide, Or.inl q360, Or.inl rfl⟩
theorem pl_X3_61 (nm : String) (v : Value) (h : xfit (tyX3 8) v) : xPL "ForestLegs$Reader" 61 2 8 nm v := ⟨_, _, _, _, _, cl_2, by decide, Or.inl q360, Or.inl rfl, Or.inl rfl, h⟩
theorem fl_J12_7 : xFL "java/lang/Throwable" 7 4 0 := ⟨_, _, _, _, _, cl_4, by decide, Or.inl q558, Or.inl rfl⟩
theorem pl_J12_7 (nm : String) (v : Value) (h : xfit (tyX5 0) v) : xPL "java/lang/Throwable" 7 4 0 nm v := ⟨_, _, _, _, _, cl_4, by decide, Or.inl q558, Or.inl rfl, Or.inl rfl, h⟩
theorem fl_J12_17 : xFL "java/lang/Throwable" 17 4 1 := ⟨_, _, _, _, _, cl_4, by decide, Or.inl q559, Or.inl rfl⟩
theorem pl_J12_17 (nm : String) (v : Value) (h : xfit (tyX5 1) v) : xPL "java/lang/Throwable" 17 4 1 nm v := ⟨_, _, _, _, _, cl_4, by decide, Or.inl q559, Or.inl rfl, Or.inl rfl, h⟩
theorem fl_J12_24 : xFL "java/lang/Throwable" 24 4 2 := ⟨_, _, _, _, _, cl_4, by decide, Or.inl q560, Or.inl rfl⟩
theorem pl_J12_24 (nm : String) (v : Value) (h : xfit (tyX5 2) v) : xPL "java/lang/Throwable" 24 4 2 nm v := ⟨_, _, _, _, _, cl_4, by decide, Or.inl q560, Or.inl rfl, Or.inl rfl, h⟩
theorem fl_J12_31 : xFL "java/lang/Throwable" 31 4 3 := ⟨_, _, _, _, _, cl_4, by decide, Or.inl q557, Or.inl rfl⟩
theorem pl_J12_31 (nm : String) (v : Value) (h : xfit (tyX5 3) v) : xPL "java/lang/Throwable" 31 4 3 nm v := ⟨_, _, _, _, _, cl_4, by decide, Or.inl q557, Or.inl rfl, Or.inl rfl, h⟩
theorem fl_X5_7 : xFL "ForestLegs$Fault" 7 4 6 := ⟨_, _, _, _, _, cl_4, by decide, Or.inl q552, Or.inl rfl⟩
theorem pl_X5_7 (v : Value) (h : xfit (tyX5 6) v) : xPL "ForestLegs$Fault" 7 4 6 "<init>" v := ⟨_, _, _, _, _, cl_4, by decide, Or.inl q552, Or.inl rfl, Or.inr ⟨rfl, rfl, rfl⟩, h⟩
theorem fl_X5_13 : xFL "ForestLegs$Fault" 13 4 7 := ⟨_, _, _, _, _, cl_4, by decide, Or.inl q554, Or.inl rfl⟩
theorem pl_X5_13 (v : Value) (h : xfit (tyX5 7) v) : xPL "ForestLegs$Fault" 13 4 7 "<init>" v := ⟨_, _, _, _, _, cl_4, by decide, Or.inl q554, Or.inl rfl, Or.inr ⟨rfl, rfl, rfl⟩, h⟩
theorem fl_J14_15 : xFL "java/lang/AbstractStringBuilder" 15 17 0 := ⟨_, _, _, _, _, cl_17, by decide, Or.inl q590, Or.inl rfl⟩
theorem pl_J14_15 (nm : String) (v : Value) (h : xfit (tyJ15 0) v) : xPL "java/lang/AbstractStringBuilder" 15 17 0 nm v := ⟨_, _, _, _, _, cl_17, by decide, Or.inl q590, Or.inl rfl, Or.inl rfl, h⟩
theorem fl_J14_22 : xFL "java/lang/AbstractStringBuilder" 22 17 1 := ⟨_, _, _, _, _, cl_17, by decide, Or.inl q591, Or.inl rfl⟩
theorem pl_J14_22 (nm : String) (v : Value) (h : xfit (tyJ15 1) v) : xPL "java/lang/AbstractStringBuilder" 22 17 1 nm v := ⟨_, _, _, _, _, cl_17, by decide, Or.inl q591, Or.inl rfl, Or.inl rfl, h⟩
theorem fl_J14_79 : xFL "java/lang/AbstractStringBuilder" 79 17 3 := ⟨_, _, _, _, _, cl_17, by decide, Or.inl q593, Or.inl rfl⟩
theorem pl_J14_79 (nm : String) (v : Value) (h : xfit (tyJ15 3) v) : xPL "java/lang/AbstractStringBuilder" 79 17 3 nm v := ⟨_, _, _, _, _, cl_17, by decide, Or.inl q593, Or.inl rfl, Or.inl rfl, h⟩
theorem fl_J6_1048 : xFL "java/lang/String" 1048 17 2 := ⟨_, _, _, _, _, cl_17, by decide, Or.inl q592, Or.inl rfl⟩
theorem pl_J6_1048 (nm : String) (v : Value) (h : xfit (tyJ15 2) v) : xPL "java/lang/String" 1048 17 2 nm v := ⟨_, _, _, _, _, cl_17, by decide, Or.inl q592, Or.inl rfl, Or.inl rfl, h⟩
theorem fl_J6_19 : xFL "java/lang/String" 19 16 2 := ⟨_, _, _, _, _, cl_16, by decide, Or.inl q731, Or.inl rfl⟩
theorem pl_J6_19 (nm : String) (v : Value) (h : xfit (tyJ6 2) v) : xPL "java/lang/String" 19 16 2 nm v := ⟨_, _, _, _, _, cl_16, by decide, Or.inl q731, Or.inl rfl, Or.inl rfl, h⟩
theorem fl_J6_23 : xFL "java/lang/String" 23 16 3 := ⟨_, _, _, _, _, cl_16, by decide, Or.inl q732, Or.inl rfl⟩
theorem pl_J6_23 (nm : String) (v : Value) (h : xfit (tyJ6 3) v) : xPL "java/lang/String" 23 16 3 nm v := ⟨_, _, _, _, _, cl_16, by decide, Or.inl q732, Or.inl rfl, Or.inl rfl, h⟩
theorem fl_J3_48 : xFL "java/util/ArrayList" 48 14 2 := ⟨_, _, _, _, _, cl_14, by decide, Or.inl q281, Or.inl rfl⟩
theorem pl_J3_48 (nm : String) (v : Value) (h : xfit (tyJ3 2) v) : xPL "java/util/ArrayList" 48 14 2 nm v := ⟨_, _, _, _, _, cl_14, by decide, Or.inl q281, Or.inl rfl, Or.inl rfl, h⟩
theorem fl_J19_205 : xFL "java/lang/Integer" 205 18 0 := ⟨_, _, _, _, _, cl_18, by decide, Or.inl q1227, Or.inl rfl⟩
theorem pl_J19_205 (v : Value) (h : xfit (tyJ19 0) v) : xPL "java/lang/Integer" 205 18 0 "<init>" v := ⟨_, _, _, _, _, cl_18, by decide, Or.inl q1227, Or.inl rfl, Or.inr ⟨rfl, rfl, rfl⟩, h⟩
theorem fl_X11_7 : xFL "ForestLegs$Part" 7 10 0 := ⟨_, _, _, _, _, cl_10, by decide, Or.inl q2045, Or.inl rfl⟩
theorem pl_X11_7 (v : Value) (h : xfit (tyX11 0) v) : xPL "ForestLegs$Part" 7 10 0 "<init>" v := ⟨_, _, _, _, _, cl_10, by decide, Or.inl q2045, Or.inl rfl, Or.inr ⟨rfl, rfl, rfl⟩, h⟩
theorem fl_X11_13 : xFL "ForestLegs$Part" 13 10 1 := ⟨_, _, _, _, _, cl_10, by decide, Or.inl q2047, Or.inl rfl⟩
theorem pl_X11_13 (v : Value) (h : xfit (tyX11 1) v) : xPL "ForestLegs$Part" 13 10 1 "<init>" v := ⟨_, _, _, _, _, cl_10, by decide, Or.inl q2047, Or.inl rfl, Or.inr ⟨rfl, rfl, rfl⟩, h⟩
theorem fl_J5_101 : xFL "java/util/TreeMap" 101 15 3 := ⟨_, _, _, _, _, cl_15, by decide, Or.inl q328, Or.inl rfl⟩
theorem pl_J5_101 (nm : String) (v : Value) (h : xfit (tyJ5 3) v) : xPL "java/util/TreeMap" 101 15 3 nm v := ⟨_, _, _, _, _, cl_15, by decide, Or.inl q328, Or.inl rfl, Or.inl rfl, h⟩
theorem fl_J5_105 : xFL "java/util/TreeMap" 105 19 0 := ⟨_, _, _, _, _, cl_19, by decide, Or.inl q1330, Or.inl rfl⟩
theorem pl_J5_105 (nm : String) (v : Value) (h : xfit (tyJ23 0) v) : xPL "java/util/TreeMap" 105 19 0 nm v := ⟨_, _, _, _, _, cl_19, by decide, Or.inl q1330, Or.inl rfl, Or.inl rfl, h⟩
theorem fl_J5_114 : xFL "java/util/TreeMap" 114 19 3 := ⟨_, _, _, _, _, cl_19, by decide, Or.inl q1336, Or.inl rfl⟩
theorem pl_J5_114 (nm : String) (v : Value) (h : xfit (tyJ23 3) v) : xPL "java/util/TreeMap" 114 19 3 nm v := ⟨_, _, _, _, _, cl_19, by decide, Or.inl q1336, Or.inl rfl, Or.inl rfl, h⟩
theorem fl_J5_111 : xFL "java/util/TreeMap" 111 19 2 := ⟨_, _, _, _, _, cl_19, by decide, Or.inl q1334, Or.inl rfl⟩
theorem pl_J5_111 (nm : String) (v : Value) (h : xfit (tyJ23 2) v) : xPL "java/util/TreeMap" 111 19 2 nm v := ⟨_, _, _, _, _, cl_19, by decide, Or.inl q1334, Or.inl rfl, Or.inl rfl, h⟩
theorem fl_X6_12 : xFL "ForestLegs$Course" 12 5 1 := ⟨_, _, _, _, _, cl_5, by decide, Or.inl q1186, Or.inl rfl⟩
theorem pl_X6_12 (v : Value) (h : xfit (tyX6 1) v) : xPL "ForestLegs$Course" 12 5 1 "<init>" v := ⟨_, _, _, _, _, cl_5, by decide, Or.inl q1186, Or.inl rfl, Or.inr ⟨rfl, rfl, rfl⟩, h⟩
theorem fl_X6_18 : xFL "ForestLegs$Course" 18 5 0 := ⟨_, _, _, _, _, cl_5, by decide, Or.inl q1183, Or.inl rfl⟩
theorem pl_X6_18 (v : Value) (h : xfit (tyX6 0) v) : xPL "ForestLegs$Course" 18 5 0 "<init>" v := ⟨_, _, _, _, _, cl_5, by decide, Or.inl q1183, Or.inl rfl, Or.inr ⟨rfl, rfl, rfl⟩, h⟩
theorem fl_J3_63 : xFL "java/util/ArrayList" 63 14 0 := ⟨_, _, _, _, _, cl_14, by decide, Or.inl q285, Or.inr q284⟩
theorem pl_J3_63 (nm : String) (v : Value) (h : xfit (tyJ3 0) v) : xPL "java/util/ArrayList" 63 14 0 nm v := ⟨_, _, _, _, _, cl_14, by decide, Or.inl q285, Or.inr q284, Or.inl rfl, h⟩
theorem fl_X7_32 : xFL "ForestLegs$Runner" 32 6 3 := ⟨_, _, _, _, _, cl_6, by decide, Or.inl q1412, Or.inl rfl⟩
theorem pl_X7_32 (nm : String) (v : Value) (h : xfit (tyX7 3) v) : xPL "ForestLegs$Runner" 32 6 3 nm v := ⟨_, _, _, _, _, cl_6, by decide, Or.inl q1412, Or.inl rfl, Or.inl rfl, h⟩
theorem fl_X7_29 : xFL "ForestLegs$Runner" 29 6 2 := ⟨_, _, _, _, _, cl_6, by decide, Or.inl q1408, Or.inl rfl⟩
theorem pl_X7_29 (nm : String) (v : Value) (h : xfit (tyX7 2) v) : xPL "ForestLegs$Runner" 29 6 2 nm v := ⟨_, _, _, _, _, cl_6, by decide, Or.inl q1408, Or.inl rfl, Or.inl rfl, h⟩
theorem fl_X10_1 : xFL "ForestLegs$2" 1 9 0 := ⟨_, _, _, _, _, cl_9, by decide, Or.inl q1591, Or.inl rfl⟩
theorem pl_X10_1 (v : Value) (h : xfit (tyX10 0) v) : xPL "ForestLegs$2" 1 9 0 "<init>" v := ⟨_, _, _, _, _, cl_9, by decide, Or.inl q1591, Or.inl rfl, Or.inr ⟨rfl, rfl, rfl⟩, h⟩
theorem fl_X10_13 : xFL "ForestLegs$2" 13 0 5 := ⟨_, _, _, _, _, cl_0, by decide, Or.inr ⟨_, q219⟩, Or.inl rfl⟩
theorem pl_X10_13 (nm : String) (v : Value) (h : xfit (tyX1 5) v) : xPL "ForestLegs$2" 13 0 5 nm v := ⟨_, _, _, _, _, cl_0, by decide, Or.inr ⟨rfl, _, q219⟩, Or.inl rfl, Or.inl rfl, h⟩
theorem fl_X10_19 : xFL "ForestLegs$2" 19 3 1 := ⟨_, _, _, _, _, cl_3, by decide, Or.inr ⟨_, q297⟩, Or.inl rfl⟩
theorem fl_X13_7 : xFL "ForestLegs$1" 7 11 0 := ⟨_, _, _, _, _, cl_11, by decide, Or.inr ⟨_, q2216⟩, Or.inl rfl⟩
theorem fl_X13_19 : xFL "ForestLegs$1" 19 11 1 := ⟨_, _, _, _, _, cl_11, by decide, Or.inr ⟨_, q2220⟩, Or.inl rfl⟩
theorem fl_X13_22 : xFL "ForestLegs$1" 22 11 2 := ⟨_, _, _, _, _, cl_11, by decide, Or.inr ⟨_, q2223⟩, Or.inl rfl⟩
theorem fl_J23_9 : xFL "java/util/TreeMap$Entry" 9 19 5 := ⟨_, _, _, _, _, cl_19, by decide, Or.inl q1339, Or.inl rfl⟩
theorem pl_J23_9 (nm : String) (v : Value) (h : xfit (tyJ23 5) v) : xPL "java/util/TreeMap$Entry" 9 19 5 nm v := ⟨_, _, _, _, _, cl_19, by decide, Or.inl q1339, Or.inl rfl, Or.inl rfl, h⟩
theorem fl_J23_15 : xFL "java/util/TreeMap$Entry" 15 19 0 := ⟨_, _, _, _, _, cl_19, by decide, Or.inl q1328, Or.inl rfl⟩
theorem pl_J23_15 (nm : String) (v : Value) (h : xfit (tyJ23 0) v) : xPL "java/util/TreeMap$Entry" 15 19 0 nm v := ⟨_, _, _, _, _, cl_19, by decide, Or.inl q1328, Or.inl rfl, Or.inl rfl, h⟩
theorem fl_J23_19 : xFL "java/util/TreeMap$Entry" 19 19 1 := ⟨_, _, _, _, _, cl_19, by decide, Or.inl q1331, Or.inl rfl⟩
theorem pl_J23_19 (nm : String) (v : Value) (h : xfit (tyJ23 1) v) : xPL "java/util/TreeMap$Entry" 19 19 1 nm v := ⟨_, _, _, _, _, cl_19, by decide, Or.inl q1331, Or.inl rfl, Or.inl rfl, h⟩
theorem fl_J23_22 : xFL "java/util/TreeMap$Entry" 22 19 4 := ⟨_, _, _, _, _, cl_19, by decide, Or.inl q1337, Or.inl rfl⟩
theorem pl_J23_22 (nm : String) (v : Value) (h : xfit (tyJ23 4) v) : xPL "java/util/TreeMap$Entry" 22 19 4 nm v := ⟨_, _, _, _, _, cl_19, by decide, Or.inl q1337, Or.inl rfl, Or.inl rfl, h⟩
theorem fl_J5_124 : xFL "java/util/TreeMap" 124 19 4 := ⟨_, _, _, _, _, cl_19, by decide, Or.inl q1338, Or.inl rfl⟩
theorem pl_J5_124 (nm : String) (v : Value) (h : xfit (tyJ23 4) v) : xPL "java/util/TreeMap" 124 19 4 nm v := ⟨_, _, _, _, _, cl_19, by decide, Or.inl q1338, Or.inl rfl, Or.inl rfl, h⟩
theorem fl_J5_290 : xFL "java/util/TreeMap" 290 19 5 := ⟨_, _, _, _, _, cl_19, by decide, Or.inl q1340, Or.inl rfl⟩
theorem pl_J5_290 (nm : String) (v : Value) (h : xfit (tyJ23 5) v) : xPL "java/util/TreeMap" 290 19 5 nm v := ⟨_, _, _, _, _, cl_19, by decide, Or.inl q1340, Or.inl rfl, Or.inl rfl, h⟩
theorem fl_J5_58 : xFL "java/util/TreeMap" 58 19 1 := ⟨_, _, _, _, _, cl_19, by decide, Or.inl q1332, Or.inl rfl⟩
theorem pl_J5_58 (nm : String) (v : Value) (h : xfit (tyJ23 1) v) : xPL "java/util/TreeMap" 58 19 1 nm v := ⟨_, _, _, _, _, cl_19, by decide, Or.inl q1332, Or.inl rfl, Or.inl rfl, h⟩
theorem fl_X3_123 : xFL "ForestLegs$Reader" 123 3 0 := ⟨_, _, _, _, _, cl_3, by decide, Or.inr ⟨_, q295⟩, Or.inl rfl⟩
theorem fl_X3_136 : xFL "ForestLegs$Reader" 136 5 1 := ⟨_, _, _, _, _, cl_5, by decide, Or.inr ⟨_, q1187⟩, Or.inl rfl⟩
theorem fl_X3_154 : xFL "ForestLegs$Reader" 154 5 0 := ⟨_, _, _, _, _, cl_5, by decide, Or.inr ⟨_, q1184⟩, Or.inl rfl⟩
theorem fl_X7_12 : xFL "ForestLegs$Runner" 12 6 4 := ⟨_, _, _, _, _, cl_6, by decide, Or.inl q1416, Or.inl rfl⟩
theorem pl_X7_12 (v : Value) (h : xfit (tyX7 4) v) : xPL "ForestLegs$Runner" 12 6 4 "<init>" v := ⟨_, _, _, _, _, cl_6, by decide, Or.inl q1416, Or.inl rfl, Or.inr ⟨rfl, rfl, rfl⟩, h⟩
theorem fl_X7_18 : xFL "ForestLegs$Runner" 18 6 0 := ⟨_, _, _, _, _, cl_6, by decide, Or.inl q1403, Or.inl rfl⟩
theorem pl_X7_18 (v : Value) (h : xfit (tyX7 0) v) : xPL "ForestLegs$Runner" 18 6 0 "<init>" v := ⟨_, _, _, _, _, cl_6, by decide, Or.inl q1403, Or.inl rfl, Or.inr ⟨rfl, rfl, rfl⟩, h⟩
theorem fl_X7_22 : xFL "ForestLegs$Runner" 22 6 1 := ⟨_, _, _, _, _, cl_6, by decide, Or.inl q1405, Or.inl rfl⟩
theorem pl_X7_22 (nm : String) (v : Value) (h : xfit (tyX7 1) v) : xPL "ForestLegs$Runner" 22 6 1 nm v := ⟨_, _, _, _, _, cl_6, by decide, Or.inl q1405, Or.inl rfl, Or.inl rfl, h⟩
theorem fl_X8_7 : xFL "ForestLegs$Punch" 7 7 0 := ⟨_, _, _, _, _, cl_7, by decide, Or.inl q1457, Or.inl rfl⟩
theorem pl_X8_7 (v : Value) (h : xfit (tyX8 0) v) : xPL "ForestLegs$Punch" 7 7 0 "<init>" v := ⟨_, _, _, _, _, cl_7, by decide, Or.inl q1457, Or.inl rfl, Or.inr ⟨rfl, rfl, rfl⟩, h⟩
theorem fl_X8_13 : xFL "ForestLegs$Punch" 13 7 1 := ⟨_, _, _, _, _, cl_7, by decide, Or.inl q1461, Or.inl rfl⟩
theorem pl_X8_13 (v : Value) (h : xfit (tyX8 1) v) : xPL "ForestLegs$Punch" 13 7 1 "<init>" v := ⟨_, _, _, _, _, cl_7, by decide, Or.inl q1461, Or.inl rfl, Or.inr ⟨rfl, rfl, rfl⟩, h⟩
theorem fl_X3_161 : xFL "ForestLegs$Reader" 161 6 4 := ⟨_, _, _, _, _, cl_6, by decide, Or.inr ⟨_, q1419⟩, Or.inl rfl⟩
theorem fl_X3_179 : xFL "ForestLegs$Reader" 179 7 1 := ⟨_, _, _, _, _, cl_7, by decide, Or.inr ⟨_, q1463⟩, Or.inl rfl⟩
theorem fl_X3_182 : xFL "ForestLegs$Reader" 182 6 3 := ⟨_, _, _, _, _, cl_6, by decide, Or.inr ⟨_, q1414⟩, Or.inl rfl⟩
theorem pl_X3_182 (nm : String) (v : Value) (h : xfit (tyX7 3) v) : xPL "ForestLegs$Reader" 182 6 3 nm v := ⟨_, _, _, _, _, cl_6, by decide, Or.inr ⟨rfl, _, q1414⟩, Or.inl rfl, Or.inl rfl, h⟩
theorem fl_X3_170 : xFL "ForestLegs$Reader" 170 6 2 := ⟨_, _, _, _, _, cl_6, by decide, Or.inr ⟨_, q1410⟩, Or.inl rfl⟩
theorem pl_X3_170 (nm : String) (v : Value) (h : xfit (tyX7 2) v) : xPL "ForestLegs$Reader" 170 6 2 nm v := ⟨_, _, _, _, _, cl_6, by decide, Or.inr ⟨rfl, _, q1410⟩, Or.inl rfl, Or.inl rfl, h⟩
theorem fl_X3_190 : xFL "ForestLegs$Reader" 190 3 1 := ⟨_, _, _, _, _, cl_3, by decide, Or.inr ⟨_, q299⟩, Or.inl rfl⟩
theorem fl_X3_224 : xFL "ForestLegs$Reader" 224 2 3 := ⟨_, _, _, _, _, cl_2, by decide, Or.inl q355, Or.inl rfl⟩
theorem pl_X3_224 (nm : String) (v : Value) (h : xfit (tyX3 3) v) : xPL "ForestLegs$Reader" 224 2 3 nm v := ⟨_, _, _, _, _, cl_2, by decide, Or.inl q355, Or.inl rfl, Or.inl rfl, h⟩
theorem fl_X3_228 : xFL "ForestLegs$Reader" 228 3 2 := ⟨_, _, _, _, _, cl_3, by decide, Or.inr ⟨_, q302⟩, Or.inl rfl⟩
theorem pl_X3_228 (nm : String) (v : Value) (h : xfit (tyX4 2) v) : xPL "ForestLegs$Reader" 228 3 2 nm v := ⟨_, _, _, _, _, cl_3, by decide, Or.inr ⟨rfl, _, q302⟩, Or.inl rfl, Or.inl rfl, h⟩
theorem fl_X3_230 : xFL "ForestLegs$Reader" 230 2 4 := ⟨_, _, _, _, _, cl_2, by decide, Or.inl q356, Or.inl rfl⟩
theorem pl_X3_230 (nm : String) (v : Value) (h : xfit (tyX3 4) v) : xPL "ForestLegs$Reader" 230 2 4 nm v := ⟨_, _, _, _, _, cl_2, by decide, Or.inl q356, Or.inl rfl, Or.inl rfl, h⟩
theorem fl_X3_233 : xFL "ForestLegs$Reader" 233 3 3 := ⟨_, _, _, _, _, cl_3, by decide, Or.inr ⟨_, q305⟩, Or.inl rfl⟩
theorem pl_X3_233 (nm : String) (v : Value) (h : xfit (tyX4 3) v) : xPL "ForestLegs$Reader" 233 3 3 nm v := ⟨_, _, _, _, _, cl_3, by decide, Or.inr ⟨rfl, _, q305⟩, Or.inl rfl, Or.inl rfl, h⟩
theorem fl_J1_24 : xFL "java/util/ArrayDeque" 24 13 1 := ⟨_, _, _, _, _, cl_13, by decide, Or.inl q203, Or.inl rfl⟩
theorem pl_J1_24 (nm : String) (v : Value) (h : xfit (tyJ1 1) v) : xPL "java/util/ArrayDeque" 24 13 1 nm v := ⟨_, _, _, _, _, cl_13, by decide, Or.inl q203, Or.inl rfl, Or.inl rfl, h⟩
theorem fl_J1_20 : xFL "java/util/ArrayDeque" 20 13 2 := ⟨_, _, _, _, _, cl_13, by decide, Or.inl q204, Or.inl rfl⟩
theorem pl_J1_20 (nm : String) (v : Value) (h : xfit (tyJ1 2) v) : xPL "java/util/ArrayDeque" 20 13 2 nm v := ⟨_, _, _, _, _, cl_13, by decide, Or.inl q204, Or.inl rfl, Or.inl rfl, h⟩
theorem fl_X1_44 : xFL "ForestLegs" 44 0 4 := ⟨_, _, _, _, _, cl_0, by decide, Or.inl q218, Or.inl rfl⟩
theorem pl_X1_44 (nm : String) (v : Value) (h : xfit (tyX1 4) v) : xPL "ForestLegs" 44 0 4 nm v := ⟨_, _, _, _, _, cl_0, by decide, Or.inl q218, Or.inl rfl, Or.inl rfl, h⟩
theorem fl_X1_56 : xFL "ForestLegs" 56 0 5 := ⟨_, _, _, _, _, cl_0, by decide, Or.inl q220, Or.inl rfl⟩
theorem pl_X1_56 (nm : String) (v : Value) (h : xfit (tyX1 5) v) : xPL "ForestLegs" 56 0 5 nm v := ⟨_, _, _, _, _, cl_0, by decide, Or.inl q220, Or.inl rfl, Or.inl rfl, h⟩
theorem fl_X1_71 : xFL "ForestLegs" 71 3 1 := ⟨_, _, _, _, _, cl_3, by decide, Or.inr ⟨_, q298⟩, Or.inl rfl⟩
theorem fl_X1_62 : xFL "ForestLegs" 62 4 6 := ⟨_, _, _, _, _, cl_4, by decide, Or.inr ⟨_, q553⟩, Or.inl rfl⟩
theorem fl_X1_65 : xFL "ForestLegs" 65 4 7 := ⟨_, _, _, _, _, cl_4, by decide, Or.inr ⟨_, q555⟩, Or.inl rfl⟩
theorem fl_X9_9 : xFL "ForestLegs$Match" 9 8 0 := ⟨_, _, _, _, _, cl_8, by decide, Or.inl q1536, Or.inl rfl⟩
theorem pl_X9_9 (v : Value) (h : xfit (tyX9 0) v) : xPL "ForestLegs$Match" 9 8 0 "<init>" v := ⟨_, _, _, _, _, cl_8, by decide, Or.inl q1536, Or.inl rfl, Or.inr ⟨rfl, rfl, rfl⟩, h⟩
theorem fl_X9_19 : xFL "ForestLegs$Match" 19 6 4 := ⟨_, _, _, _, _, cl_6, by decide, Or.inr ⟨_, q1417⟩, Or.inl rfl⟩
theorem fl_X9_57 : xFL "ForestLegs$Match" 57 7 0 := ⟨_, _, _, _, _, cl_7, by decide, Or.inr ⟨_, q1458⟩, Or.inl rfl⟩
theorem fl_X9_15 : xFL "ForestLegs$Match" 15 8 1 := ⟨_, _, _, _, _, cl_8, by decide, Or.inl q1537, Or.inl rfl⟩
theorem pl_X9_15 (v : Value) (h : xfit (tyX9 1) v) : xPL "ForestLegs$Match" 15 8 1 "<init>" v := ⟨_, _, _, _, _, cl_8, by decide, Or.inl q1537, Or.inl rfl, Or.inr ⟨rfl, rfl, rfl⟩, h⟩
theorem fl_X9_40 : xFL "ForestLegs$Match" 40 8 3 := ⟨_, _, _, _, _, cl_8, by decide, Or.inl q1541, Or.inl rfl⟩
theorem pl_X9_40 (v : Value) (h : xfit (tyX9 3) v) : xPL "ForestLegs$Match" 40 8 3 "<init>" v := ⟨_, _, _, _, _, cl_8, by decide, Or.inl q1541, Or.inl rfl, Or.inr ⟨rfl, rfl, rfl⟩, h⟩
theorem fl_X9_34 : xFL "ForestLegs$Match" 34 8 2 := ⟨_, _, _, _, _, cl_8, by decide, Or.inl q1538, Or.inl rfl⟩
theorem pl_X9_34 (v : Value) (h : xfit (tyX9 2) v) : xPL "ForestLegs$Match" 34 8 2 "<init>" v := ⟨_, _, _, _, _, cl_8, by decide, Or.inl q1538, Or.inl rfl, Or.inr ⟨rfl, rfl, rfl⟩, h⟩
theorem fl_X4_62 : xFL "ForestLegs$Meet" 62 3 4 := ⟨_, _, _, _, _, cl_3, by decide, Or.inl q306, Or.inl rfl⟩
theorem pl_X4_62 (nm : String) (v : Value) (h : xfit (tyX4 4) v) : xPL "ForestLegs$Meet" 62 3 4 nm v := ⟨_, _, _, _, _, cl_3, by decide, Or.inl q306, Or.inl rfl, Or.inl rfl, h⟩
theorem fl_X4_72 : xFL "ForestLegs$Meet" 72 6 1 := ⟨_, _, _, _, _, cl_6, by decide, Or.inr ⟨_, q1406⟩, Or.inl rfl⟩
theorem pl_X4_72 (nm : String) (v : Value) (h : xfit (tyX7 1) v) : xPL "ForestLegs$Meet" 72 6 1 nm v := ⟨_, _, _, _, _, cl_6, by decide, Or.inr ⟨rfl, _, q1406⟩, Or.inl rfl, Or.inl rfl, h⟩
theorem fl_X1_86 : xFL "ForestLegs" 86 3 0 := ⟨_, _, _, _, _, cl_3, by decide, Or.inr ⟨_, q294⟩, Or.inl rfl⟩
theorem fl_X1_118 : xFL "ForestLegs" 118 3 2 := ⟨_, _, _, _, _, cl_3, by decide, Or.inr ⟨_, q301⟩, Or.inl rfl⟩
theorem pl_X1_118 (nm : String) (v : Value) (h : xfit (tyX4 2) v) : xPL "ForestLegs" 118 3 2 nm v := ⟨_, _, _, _, _, cl_3, by decide, Or.inr ⟨rfl, _, q301⟩, Or.inl rfl, Or.inl rfl, h⟩
theorem fl_X1_121 : xFL "ForestLegs" 121 3 3 := ⟨_, _, _, _, _, cl_3, by decide, Or.inr ⟨_, q304⟩, Or.inl rfl⟩
theorem pl_X1_121 (nm : String) (v : Value) (h : xfit (tyX4 3) v) : xPL "ForestLegs" 121 3 3 nm v := ⟨_, _, _, _, _, cl_3, by decide, Or.inr ⟨rfl, _, q304⟩, Or.inl rfl, Or.inl rfl, h⟩
theorem fl_X1_112 : xFL "ForestLegs" 112 6 4 := ⟨_, _, _, _, _, cl_6, by decide, Or.inr ⟨_, q1418⟩, Or.inl rfl⟩
theorem fl_X9_76 : xFL "ForestLegs$Match" 76 7 1 := ⟨_, _, _, _, _, cl_7, by decide, Or.inr ⟨_, q1462⟩, Or.inl rfl⟩
theorem fl_X9_73 : xFL "ForestLegs$Match" 73 6 3 := ⟨_, _, _, _, _, cl_6, by decide, Or.inr ⟨_, q1413⟩, Or.inl rfl⟩
theorem pl_X9_73 (nm : String) (v : Value) (h : xfit (tyX7 3) v) : xPL "ForestLegs$Match" 73 6 3 nm v := ⟨_, _, _, _, _, cl_6, by decide, Or.inr ⟨rfl, _, q1413⟩, Or.inl rfl, Or.inl rfl, h⟩
theorem fl_X9_70 : xFL "ForestLegs$Match" 70 6 2 := ⟨_, _, _, _, _, cl_6, by decide, Or.inr ⟨_, q1409⟩, Or.inl rfl⟩
theorem pl_X9_70 (nm : String) (v : Value) (h : xfit (tyX7 2) v) : xPL "ForestLegs$Match" 70 6 2 nm v := ⟨_, _, _, _, _, cl_6, by decide, Or.inr ⟨rfl, _, q1409⟩, Or.inl rfl, Or.inl rfl, h⟩
theorem fl_J26_1 : xFL "java/util/ArrayList$Itr" 1 20 3 := ⟨_, _, _, _, _, cl_20, by decide, Or.inl q1812, Or.inl rfl⟩
theorem pl_J26_1 (v : Value) (h : xfit (tyJ26 3) v) : xPL "java/util/ArrayList$Itr" 1 20 3 "<init>" v := ⟨_, _, _, _, _, cl_20, by decide, Or.inl q1812, Or.inl rfl, Or.inr ⟨rfl, rfl, rfl⟩, h⟩
theorem fl_J26_13 : xFL "java/util/ArrayList$Itr" 13 20 1 := ⟨_, _, _, _, _, cl_20, by decide, Or.inl q1808, Or.inl rfl⟩
theorem pl_J26_13 (nm : String) (v : Value) (h : xfit (tyJ26 1) v) : xPL "java/util/ArrayList$Itr" 13 20 1 nm v := ⟨_, _, _, _, _, cl_20, by decide, Or.inl q1808, Or.inl rfl, Or.inl rfl, h⟩
theorem fl_J26_17 : xFL "java/util/ArrayList$Itr" 17 14 0 := ⟨_, _, _, _, _, cl_14, by decide, Or.inl q283, Or.inr q284⟩
theorem pl_J26_17 (nm : String) (v : Value) (h : xfit (tyJ3 0) v) : xPL "java/util/ArrayList$Itr" 17 14 0 nm v := ⟨_, _, _, _, _, cl_14, by decide, Or.inl q283, Or.inr q284, Or.inl rfl, h⟩
theorem fl_J26_22 : xFL "java/util/ArrayList$Itr" 22 20 2 := ⟨_, _, _, _, _, cl_20, by decide, Or.inl q1811, Or.inl rfl⟩
theorem pl_J26_22 (nm : String) (v : Value) (h : xfit (tyJ26 2) v) : xPL "java/util/ArrayList$Itr" 22 20 2 nm v := ⟨_, _, _, _, _, cl_20, by decide, Or.inl q1811, Or.inl rfl, Or.inl rfl, h⟩
theorem fl_J26_25 : xFL "java/util/ArrayList$Itr" 25 20 0 := ⟨_, _, _, _, _, cl_20, by decide, Or.inl q1807, Or.inl rfl⟩
theorem pl_J26_25 (nm : String) (v : Value) (h : xfit (tyJ26 0) v) : xPL "java/util/ArrayList$Itr" 25 20 0 nm v := ⟨_, _, _, _, _, cl_20, by decide, Or.inl q1807, Or.inl rfl, Or.inl rfl, h⟩
theorem fl_J26_28 : xFL "java/util/ArrayList$Itr" 28 14 2 := ⟨_, _, _, _, _, cl_14, by decide, Or.inr ⟨_, q280⟩, Or.inl rfl⟩
theorem pl_J26_28 (nm : String) (v : Value) (h : xfit (tyJ3 2) v) : xPL "java/util/ArrayList$Itr" 28 14 2 nm v := ⟨_, _, _, _, _, cl_14, by decide, Or.inr ⟨rfl, _, q280⟩, Or.inl rfl, Or.inl rfl, h⟩
theorem fl_J36_26 : xFL "java/util/TreeMap$PrivateEntryIterator" 26 25 0 := ⟨_, _, _, _, _, cl_25, by decide, Or.inl q2295, Or.inl rfl⟩
theorem pl_J36_26 (nm : String) (v : Value) (h : xfit (tyJ37 0) v) : xPL "java/util/TreeMap$PrivateEntryIterator" 26 25 0 nm v := ⟨_, _, _, _, _, cl_25, by decide, Or.inl q2295, Or.inl rfl, Or.inl rfl, h⟩
theorem fl_J26_37 : xFL "java/util/ArrayList$Itr" 37 14 1 := ⟨_, _, _, _, _, cl_14, by decide, Or.inl q279, Or.inl rfl⟩
theorem pl_J26_37 (nm : String) (v : Value) (h : xfit (tyJ3 1) v) : xPL "java/util/ArrayList$Itr" 37 14 1 nm v := ⟨_, _, _, _, _, cl_14, by decide, Or.inl q279, Or.inl rfl, Or.inl rfl, h⟩
theorem fl_J36_1 : xFL "java/util/TreeMap$PrivateEntryIterator" 1 25 3 := ⟨_, _, _, _, _, cl_25, by decide, Or.inl q2298, Or.inl rfl⟩
theorem pl_J36_1 (v : Value) (h : xfit (tyJ37 3) v) : xPL "java/util/TreeMap$PrivateEntryIterator" 1 25 3 "<init>" v := ⟨_, _, _, _, _, cl_25, by decide, Or.inl q2298, Or.inl rfl, Or.inr ⟨rfl, rfl, rfl⟩, h⟩
theorem fl_J36_13 : xFL "java/util/TreeMap$PrivateEntryIterator" 13 15 5 := ⟨_, _, _, _, _, cl_15, by decide, Or.inr ⟨_, q331⟩, Or.inl rfl⟩
theorem pl_J36_13 (nm : String) (v : Value) (h : xfit (tyJ5 5) v) : xPL "java/util/TreeMap$PrivateEntryIterator" 13 15 5 nm v := ⟨_, _, _, _, _, cl_15, by decide, Or.inr ⟨rfl, _, q331⟩, Or.inl rfl, Or.inl rfl, h⟩
theorem fl_J36_19 : xFL "java/util/TreeMap$PrivateEntryIterator" 19 25 2 := ⟨_, _, _, _, _, cl_25, by decide, Or.inl q2297, Or.inl rfl⟩
theorem pl_J36_19 (nm : String) (v : Value) (h : xfit (tyJ37 2) v) : xPL "java/util/TreeMap$PrivateEntryIterator" 19 25 2 nm v := ⟨_, _, _, _, _, cl_25, by decide, Or.inl q2297, Or.inl rfl, Or.inl rfl, h⟩
theorem fl_J36_22 : xFL "java/util/TreeMap$PrivateEntryIterator" 22 25 1 := ⟨_, _, _, _, _, cl_25, by decide, Or.inl q2296, Or.inl rfl⟩
theorem pl_J36_22 (nm : String) (v : Value) (h : xfit (tyJ37 1) v) : xPL "java/util/TreeMap$PrivateEntryIterator" 22 25 1 nm v := ⟨_, _, _, _, _, cl_25, by decide, Or.inl q2296, Or.inl rfl, Or.inl rfl, h⟩
theorem fl_J37_13 : xFL "java/util/TreeMap$KeyIterator" 13 19 0 := ⟨_, _, _, _, _, cl_19, by decide, Or.inl q1329, Or.inl rfl⟩
theorem pl_J37_13 (nm : String) (v : Value) (h : xfit (tyJ23 0) v) : xPL "java/util/TreeMap$KeyIterator" 13 19 0 nm v := ⟨_, _, _, _, _, cl_19, by decide, Or.inl q1329, Or.inl rfl, Or.inl rfl, h⟩
theorem fl_X1_105 : xFL "ForestLegs" 105 6 1 := ⟨_, _, _, _, _, cl_6, by decide, Or.inr ⟨_, q1407⟩, Or.inl rfl⟩
theorem pl_X1_105 (nm : String) (v : Value) (h : xfit (tyX7 1) v) : xPL "ForestLegs" 105 6 1 nm v := ⟨_, _, _, _, _, cl_6, by decide, Or.inr ⟨rfl, _, q1407⟩, Or.inl rfl, Or.inl rfl, h⟩
theorem fl_X1_193 : xFL "ForestLegs" 193 8 2 := ⟨_, _, _, _, _, cl_8, by decide, Or.inr ⟨_, q1540⟩, Or.inl rfl⟩
theorem fl_X1_199 : xFL "ForestLegs" 199 6 2 := ⟨_, _, _, _, _, cl_6, by decide, Or.inr ⟨_, q1411⟩, Or.inl rfl⟩
theorem pl_X1_199 (nm : String) (v : Value) (h : xfit (tyX7 2) v) : xPL "ForestLegs" 199 6 2 nm v := ⟨_, _, _, _, _, cl_6, by decide, Or.inr ⟨rfl, _, q1411⟩, Or.inl rfl, Or.inl rfl, h⟩
theorem fl_X1_202 : xFL "ForestLegs" 202 6 3 := ⟨_, _, _, _, _, cl_6, by decide, Or.inr ⟨_, q1415⟩, Or.inl rfl⟩
theorem pl_X1_202 (nm : String) (v : Value) (h : xfit (tyX7 3) v) : xPL "ForestLegs" 202 6 3 nm v := ⟨_, _, _, _, _, cl_6, by decide, Or.inr ⟨rfl, _, q1415⟩, Or.inl rfl, Or.inl rfl, h⟩
theorem fl_X1_218 : xFL "ForestLegs" 218 7 1 := ⟨_, _, _, _, _, cl_7, by decide, Or.inr ⟨_, q1465⟩, Or.inl rfl⟩
theorem fl_X1_216 : xFL "ForestLegs" 216 7 0 := ⟨_, _, _, _, _, cl_7, by decide, Or.inr ⟨_, q1460⟩, Or.inl rfl⟩
theorem fl_J32_17 : xFL "java/util/PriorityQueue" 17 22 0 := ⟨_, _, _, _, _, cl_22, by decide, Or.inl q2024, Or.inl rfl⟩
theorem pl_J32_17 (nm : String) (v : Value) (h : xfit (tyJ32 0) v) : xPL "java/util/PriorityQueue" 17 22 0 nm v := ⟨_, _, _, _, _, cl_22, by decide, Or.inl q2024, Or.inl rfl, Or.inl rfl, h⟩
theorem fl_J32_21 : xFL "java/util/PriorityQueue" 21 22 2 := ⟨_, _, _, _, _, cl_22, by decide, Or.inl q2027, Or.inl rfl⟩
theorem pl_J32_21 (v : Value) (h : xfit (tyJ32 2) v) : xPL "java/util/PriorityQueue" 21 22 2 "<init>" v := ⟨_, _, _, _, _, cl_22, by decide, Or.inl q2027, Or.inl rfl, Or.inr ⟨rfl, rfl, rfl⟩, h⟩
theorem fl_J32_93 : xFL "java/util/PriorityQueue" 93 22 3 := ⟨_, _, _, _, _, cl_22, by decide, Or.inl q2029, Or.inl rfl⟩
theorem pl_J32_93 (nm : String) (v : Value) (h : xfit (tyJ32 3) v) : xPL "java/util/PriorityQueue" 93 22 3 nm v := ⟨_, _, _, _, _, cl_22, by decide, Or.inl q2029, Or.inl rfl, Or.inl rfl, h⟩
theorem fl_J32_58 : xFL "java/util/PriorityQueue" 58 22 1 := ⟨_, _, _, _, _, cl_22, by decide, Or.inl q2026, Or.inl rfl⟩
theorem pl_J32_58 (nm : String) (v : Value) (h : xfit (tyJ32 1) v) : xPL "java/util/PriorityQueue" 58 22 1 nm v := ⟨_, _, _, _, _, cl_22, by decide, Or.inl q2026, Or.inl rfl, Or.inl rfl, h⟩
theorem fl_X1_267 : xFL "ForestLegs" 267 10 0 := ⟨_, _, _, _, _, cl_10, by decide, Or.inr ⟨_, q2046⟩, Or.inl rfl⟩
theorem fl_X1_270 : xFL "ForestLegs" 270 10 1 := ⟨_, _, _, _, _, cl_10, by decide, Or.inr ⟨_, q2048⟩, Or.inl rfl⟩
theorem fl_X4_140 : xFL "ForestLegs$Meet" 140 8 2 := ⟨_, _, _, _, _, cl_8, by decide, Or.inr ⟨_, q1539⟩, Or.inl rfl⟩
theorem fl_J34_7 : xFL "java/util/TreeSet" 7 23 0 := ⟨_, _, _, _, _, cl_23, by decide, Or.inl q2204, Or.inl rfl⟩
theorem pl_J34_7 (nm : String) (v : Value) (h : xfit (tyJ34 0) v) : xPL "java/util/TreeSet" 7 23 0 nm v := ⟨_, _, _, _, _, cl_23, by decide, Or.inl q2204, Or.inl rfl, Or.inl rfl, h⟩
theorem fl_X12_7 : xFL "ForestLegs$Stamp" 7 11 0 := ⟨_, _, _, _, _, cl_11, by decide, Or.inl q2215, Or.inl rfl⟩
theorem pl_X12_7 (v : Value) (h : xfit (tyX12 0) v) : xPL "ForestLegs$Stamp" 7 11 0 "<init>" v := ⟨_, _, _, _, _, cl_11, by decide, Or.inl q2215, Or.inl rfl, Or.inr ⟨rfl, rfl, rfl⟩, h⟩
theorem fl_X12_13 : xFL "ForestLegs$Stamp" 13 11 1 := ⟨_, _, _, _, _, cl_11, by decide, Or.inl q2219, Or.inl rfl⟩
theorem pl_X12_13 (v : Value) (h : xfit (tyX12 1) v) : xPL "ForestLegs$Stamp" 13 11 1 "<init>" v := ⟨_, _, _, _, _, cl_11, by decide, Or.inl q2219, Or.inl rfl, Or.inr ⟨rfl, rfl, rfl⟩, h⟩
theorem fl_X12_16 : xFL "ForestLegs$Stamp" 16 11 2 := ⟨_, _, _, _, _, cl_11, by decide, Or.inl q2222, Or.inl rfl⟩
theorem pl_X12_16 (v : Value) (h : xfit (tyX12 2) v) : xPL "ForestLegs$Stamp" 16 11 2 "<init>" v := ⟨_, _, _, _, _, cl_11, by decide, Or.inl q2222, Or.inl rfl, Or.inr ⟨rfl, rfl, rfl⟩, h⟩
theorem fl_J35_7 : xFL "java/util/TreeMap$KeySet" 7 24 0 := ⟨_, _, _, _, _, cl_24, by decide, Or.inl q2263, Or.inl rfl⟩
theorem pl_J35_7 (v : Value) (h : xfit (tyJ35 0) v) : xPL "java/util/TreeMap$KeySet" 7 24 0 "<init>" v := ⟨_, _, _, _, _, cl_24, by decide, Or.inl q2263, Or.inl rfl, Or.inr ⟨rfl, rfl, rfl⟩, h⟩
theorem fl_J5_191 : xFL "java/util/TreeMap" 191 15 7 := ⟨_, _, _, _, _, cl_15, by decide, Or.inl q332, Or.inl rfl⟩
theorem pl_J5_191 (nm : String) (v : Value) (h : xfit (tyJ5 7) v) : xPL "java/util/TreeMap" 191 15 7 nm v := ⟨_, _, _, _, _, cl_15, by decide, Or.inl q332, Or.inl rfl, Or.inl rfl, h⟩
theorem fl_X4_183 : xFL "ForestLegs$Meet" 183 11 0 := ⟨_, _, _, _, _, cl_11, by decide, Or.inr ⟨_, q2217⟩, Or.inl rfl⟩
theorem fl_X4_162 : xFL "ForestLegs$Meet" 162 6 4 := ⟨_, _, _, _, _, cl_6, by decide, Or.inr ⟨_, q1420⟩, Or.inl rfl⟩
theorem fl_X4_167 : xFL "ForestLegs$Meet" 167 7 0 := ⟨_, _, _, _, _, cl_7, by decide, Or.inr ⟨_, q1459⟩, Or.inl rfl⟩
theorem fl_X4_172 : xFL "ForestLegs$Meet" 172 7 1 := ⟨_, _, _, _, _, cl_7, by decide, Or.inr ⟨_, q1464⟩, Or.inl rfl⟩
theorem fl_X1_283 : xFL "ForestLegs" 283 11 0 := ⟨_, _, _, _, _, cl_11, by decide, Or.inr ⟨_, q2218⟩, Or.inl rfl⟩
theorem fl_X1_280 : xFL "ForestLegs" 280 11 1 := ⟨_, _, _, _, _, cl_11, by decide, Or.inr ⟨_, q2221⟩, Or.inl rfl⟩
theorem fl_J36_45 : xFL "java/util/TreeMap$PrivateEntryIterator" 45 19 2 := ⟨_, _, _, _, _, cl_19, by decide, Or.inl q1333, Or.inl rfl⟩
theorem pl_J36_45 (nm : String) (v : Value) (h : xfit (tyJ23 2) v) : xPL "java/util/TreeMap$PrivateEntryIterator" 45 19 2 nm v := ⟨_, _, _, _, _, cl_19, by decide, Or.inl q1333, Or.inl rfl, Or.inl rfl, h⟩
theorem fl_J36_50 : xFL "java/util/TreeMap$PrivateEntryIterator" 50 19 3 := ⟨_, _, _, _, _, cl_19, by decide, Or.inl q1335, Or.inl rfl⟩
theorem pl_J36_50 (nm : String) (v : Value) (h : xfit (tyJ23 3) v) : xPL "java/util/TreeMap$PrivateEntryIterator" 50 19 3 nm v := ⟨_, _, _, _, _, cl_19, by decide, Or.inl q1335, Or.inl rfl, Or.inl rfl, h⟩
theorem fl_X1_359 : xFL "ForestLegs" 359 5 1 := ⟨_, _, _, _, _, cl_5, by decide, Or.inr ⟨_, q1188⟩, Or.inl rfl⟩
theorem fl_X1_385 : xFL "ForestLegs" 385 6 0 := ⟨_, _, _, _, _, cl_6, by decide, Or.inr ⟨_, q1404⟩, Or.inl rfl⟩
theorem fl_X1_381 : xFL "ForestLegs" 381 5 0 := ⟨_, _, _, _, _, cl_5, by decide, Or.inr ⟨_, q1185⟩, Or.inl rfl⟩
theorem cst_java_lang_String : ∀ c ∈ [16], ∃ r : vw_C, xcl[c]? = some r ∧ 0 < r.2.2 ∧ xCan r.1 "java/lang/String" := fun c hc => by
  simp only [List.mem_cons, List.not_mem_nil, or_false] at hc
  rcases hc with rfl
  · exact ⟨_, rfl, by decide, Or.inl rfl⟩
theorem cst_java_lang_Integer : ∀ c ∈ [18], ∃ r : vw_C, xcl[c]? = some r ∧ 0 < r.2.2 ∧ xCan r.1 "java/lang/Integer" := fun c hc => by
  simp only [List.mem_cons, List.not_mem_nil, or_false] at hc
  rcases hc with rfl
  · exact ⟨_, rfl, by decide, Or.inl rfl⟩
theorem cst_ForestLegs_Part : ∀ c ∈ [10], ∃ r : vw_C, xcl[c]? = some r ∧ 0 < r.2.2 ∧ xCan r.1 "ForestLegs$Part" := fun c hc => by
  simp only [List.mem_cons, List.not_mem_nil, or_false] at hc
  rcases hc with rfl
  · exact ⟨_, rfl, by decide, Or.inl rfl⟩
theorem cst_java_lang_Comparable : ∀ c ∈ [16, 18, 10], ∃ r : vw_C, xcl[c]? = some r ∧ 0 < r.2.2 ∧ xCan r.1 "java/lang/Comparable" := fun c hc => by
  simp only [List.mem_cons, List.not_mem_nil, or_false] at hc
  rcases hc with rfl | rfl | rfl
  · exact ⟨_, rfl, by decide, Or.inr q1001⟩
  · exact ⟨_, rfl, by decide, Or.inr q989⟩
  · exact ⟨_, rfl, by decide, Or.inr q975⟩
theorem cst_ForestLegs_Runner : ∀ c ∈ [6], ∃ r : vw_C, xcl[c]? = some r ∧ 0 < r.2.2 ∧ xCan r.1 "ForestLegs$Runner" := fun c hc => by
  simp only [List.mem_cons, List.not_mem_nil, or_false] at hc
  rcases hc with rfl
  · exact ⟨_, rfl, by decide, Or.inl rfl⟩
theorem cst_ForestLegs_Stamp : ∀ c ∈ [11], ∃ r : vw_C, xcl[c]? = some r ∧ 0 < r.2.2 ∧ xCan r.1 "ForestLegs$Stamp" := fun c hc => by
  simp only [List.mem_cons, List.not_mem_nil, or_false] at hc
  rcases hc with rfl
  · exact ⟨_, rfl, by decide, Or.inl rfl⟩
theorem cst_ForestLegs_Punch : ∀ c ∈ [7], ∃ r : vw_C, xcl[c]? = some r ∧ 0 < r.2.2 ∧ xCan r.1 "ForestLegs$Punch" := fun c hc => by
  simp only [List.mem_cons, List.not_mem_nil, or_false] at hc
  rcases hc with rfl
  · exact ⟨_, rfl, by decide, Or.inl rfl⟩
theorem cst_ForestLegs_Course : ∀ c ∈ [5], ∃ r : vw_C, xcl[c]? = some r ∧ 0 < r.2.2 ∧ xCan r.1 "ForestLegs$Course" := fun c hc => by
  simp only [List.mem_cons, List.not_mem_nil, or_false] at hc
  rcases hc with rfl
  · exact ⟨_, rfl, by decide, Or.inl rfl⟩
theorem cst_java_util_TreeMap : ∀ c ∈ [15], ∃ r : vw_C, xcl[c]? = some r ∧ 0 < r.2.2 ∧ xCan r.1 "java/util/TreeMap" := fun c hc => by
  simp only [List.mem_cons, List.not_mem_nil, or_false] at hc
  rcases hc with rfl
  · exact ⟨_, rfl, by decide, Or.inl rfl⟩
theorem cst_java_util_List : ∀ c ∈ [14], ∃ r : vw_C, xcl[c]? = some r ∧ 0 < r.2.2 ∧ xCan r.1 "java/util/List" := fun c hc => by
  simp only [List.mem_cons, List.not_mem_nil, or_false] at hc
  rcases hc with rfl
  · exact ⟨_, rfl, by decide, Or.inr q811⟩
theorem cst_ForestLegs_Meet : ∀ c ∈ [3], ∃ r : vw_C, xcl[c]? = some r ∧ 0 < r.2.2 ∧ xCan r.1 "ForestLegs$Meet" := fun c hc => by
  simp only [List.mem_cons, List.not_mem_nil, or_false] at hc
  rcases hc with rfl
  · exact ⟨_, rfl, by decide, Or.inl rfl⟩
theorem fc_java_lang_String_java_lang_CharSequence_toString_0_Ljaval : xFc "java/lang/String" ⟨"java/lang/CharSequence", "toString", "()Ljava/lang/String;"⟩ ⟨"java/lang/String", "toString", "()Ljava/lang/String;"⟩ 0 := ⟨q866, q865, q871, q869, q867, q868, q870, ⟨by decide +kernel, by decide +kernel⟩, by decide +kernel⟩
theorem fc_ForestLegs_Part_java_lang_Comparable_compareTo_1_Ljaval : xFc "ForestLegs$Part" ⟨"java/lang/Comparable", "compareTo", "(Ljava/lang/Object;)I"⟩ ⟨"ForestLegs$Part", "compareTo", "(Ljava/lang/Object;)I"⟩ 1 := ⟨q974, q973, q979, q977, q975, q976, q978, ⟨by decide +kernel, by decide +kernel⟩, by decide +kernel⟩
theorem fc_java_lang_String_java_lang_Comparable_compareTo_1_Ljaval : xFc "java/lang/String" ⟨"java/lang/Comparable", "compareTo", "(Ljava/lang/Object;)I"⟩ ⟨"java/lang/String", "compareTo", "(Ljava/lang/Object;)I"⟩ 1 := ⟨q974, q973, q1005, q1003, q1001, q1002, q1004, ⟨by decide +kernel, by decide +kernel⟩, by decide +kernel⟩
theorem fc_java_lang_Integer_java_lang_Comparable_compareTo_1_Ljaval : xFc "java/lang/Integer" ⟨"java/lang/Comparable", "compareTo", "(Ljava/lang/Object;)I"⟩ ⟨"java/lang/Integer", "compareTo", "(Ljava/lang/Object;)I"⟩ 1 := ⟨q974, q973, q993, q991, q989, q990, q992, ⟨by decide +kernel, by decide +kernel⟩, by decide +kernel⟩
theorem fc_java_util_ArrayList_java_util_List_size_0_I : xFc "java/util/ArrayList" ⟨"java/util/List", "size", "()I"⟩ ⟨"java/util/ArrayList", "size", "()I"⟩ 0 := ⟨q810, q809, q815, q813, q811, q812, q814, ⟨by decide +kernel, by decide +kernel⟩, by decide +kernel⟩
theorem fc_java_util_ArrayList_java_util_List_get_1_ILjava : xFc "java/util/ArrayList" ⟨"java/util/List", "get", "(I)Ljava/lang/Object;"⟩ ⟨"java/util/ArrayList", "get", "(I)Ljava/lang/Object;"⟩ 1 := ⟨q947, q946, q951, q949, q811, q948, q950, ⟨by decide +kernel, by decide +kernel⟩, by decide +kernel⟩
theorem fc_ForestLegs_2_java_util_Comparator_compare_2_Ljaval : xFc "ForestLegs$2" ⟨"java/util/Comparator", "compare", "(Ljava/lang/Object;Ljava/lang/Object;)I"⟩ ⟨"ForestLegs$2", "compare", "(Ljava/lang/Object;Ljava/lang/Object;)I"⟩ 2 := ⟨q914, q913, q933, q931, q929, q930, q932, ⟨by decide +kernel, by decide +kernel⟩, by decide +kernel⟩
theorem fc_ForestLegs_1_java_util_Comparator_compare_2_Ljaval : xFc "ForestLegs$1" ⟨"java/util/Comparator", "compare", "(Ljava/lang/Object;Ljava/lang/Object;)I"⟩ ⟨"ForestLegs$1", "compare", "(Ljava/lang/Object;Ljava/lang/Object;)I"⟩ 2 := ⟨q914, q913, q919, q917, q915, q916, q918, ⟨by decide +kernel, by decide +kernel⟩, by decide +kernel⟩
theorem fc_java_util_ArrayList_java_util_List_add_1_Ljaval : xFc "java/util/ArrayList" ⟨"java/util/List", "add", "(Ljava/lang/Object;)Z"⟩ ⟨"java/util/ArrayList", "add", "(Ljava/lang/Object;)Z"⟩ 1 := ⟨q1234, q1233, q1238, q1236, q811, q1235, q1237, ⟨by decide +kernel, by decide +kernel⟩, by decide +kernel⟩
theorem fc_java_util_ArrayList_java_util_List_isEmpty_0_Z : xFc "java/util/ArrayList" ⟨"java/util/List", "isEmpty", "()Z"⟩ ⟨"java/util/ArrayList", "isEmpty", "()Z"⟩ 0 := ⟨q1443, q1442, q1447, q1445, q811, q1444, q1446, ⟨by decide +kernel, by decide +kernel⟩, by decide +kernel⟩
theorem fc_java_util_ArrayList_java_util_List_sort_1_Ljavau : xFc "java/util/ArrayList" ⟨"java/util/List", "sort", "(Ljava/util/Comparator;)V"⟩ ⟨"java/util/ArrayList", "sort", "(Ljava/util/Comparator;)V"⟩ 1 := ⟨q1598, q1597, q1602, q1600, q811, q1599, q1601, ⟨by decide +kernel, by decide +kernel⟩, by decide +kernel⟩
theorem fc_java_util_ArrayList_java_util_List_iterator_0_Ljavau : xFc "java/util/ArrayList" ⟨"java/util/List", "iterator", "()Ljava/util/Iterator;"⟩ ⟨"java/util/ArrayList", "iterator", "()Ljava/util/Iterator;"⟩ 0 := ⟨q1793, q1792, q1797, q1795, q811, q1794, q1796, ⟨by decide +kernel, by decide +kernel⟩, by decide +kernel⟩
theorem fc_java_util_ArrayList_Itr_java_util_Iterator_hasNext_0_Z : xFc "java/util/ArrayList$Itr" ⟨"java/util/Iterator", "hasNext", "()Z"⟩ ⟨"java/util/ArrayList$Itr", "hasNext", "()Z"⟩ 0 := ⟨q1825, q1824, q1836, q1834, q1832, q1833, q1835, ⟨by decide +kernel, by decide +kernel⟩, by decide +kernel⟩
theorem fc_java_util_ArrayList_Itr_java_util_Iterator_next_0_Ljaval : xFc "java/util/ArrayList$Itr" ⟨"java/util/Iterator", "next", "()Ljava/lang/Object;"⟩ ⟨"java/util/ArrayList$Itr", "next", "()Ljava/lang/Object;"⟩ 0 := ⟨q1860, q1859, q1898, q1896, q1832, q1895, q1897, ⟨by decide +kernel, by decide +kernel⟩, by decide +kernel⟩
theorem fc_java_util_TreeMap_KeyIterator_java_util_Iterator_next_0_Ljaval : xFc "java/util/TreeMap$KeyIterator" ⟨"java/util/Iterator", "next", "()Ljava/lang/Object;"⟩ ⟨"java/util/TreeMap$KeyIterator", "next", "()Ljava/lang/Object;"⟩ 0 := ⟨q1860, q1859, q1932, q1930, q1851, q1929, q1931, ⟨by decide +kernel, by decide +kernel⟩, by decide +kernel⟩
theorem fc_java_util_TreeMap_KeyIterator_java_util_Iterator_hasNext_0_Z : xFc "java/util/TreeMap$KeyIterator" ⟨"java/util/Iterator", "hasNext", "()Z"⟩ ⟨"java/util/TreeMap$PrivateEntryIterator", "hasNext", "()Z"⟩ 0 := ⟨q1825, q1824, q1855, q1853, q1851, q1852, q1854, ⟨by decide +kernel, by decide +kernel⟩, by decide +kernel⟩
theorem fd_put : xFd "java/util/TreeMap" "java/util/Map" ⟨"java/util/NavigableMap", "put", "(Ljava/lang/Object;Ljava/lang/Object;)Ljava/lang/Object;"⟩ ⟨"java/util/TreeMap", "put", "(Ljava/lang/Object;Ljava/lang/Object;)Ljava/lang/Object;"⟩ 2 := ⟨q2239, q2238, lx_putI, q2243, q2242, q2240, q2241, q1307, ⟨by decide +kernel, by decide +kernel⟩, ⟨by decide +kernel, by decide +kernel⟩, by decide +kernel, by decide +kernel⟩
theorem fc_java_util_TreeMap_java_util_NavigableMap_navigableKeySet_0_Ljavau : xFc "java/util/TreeMap" ⟨"java/util/NavigableMap", "navigableKeySet", "()Ljava/util/NavigableSet;"⟩ ⟨"java/util/TreeMap", "navigableKeySet", "()Ljava/util/NavigableSet;"⟩ 0 := ⟨q2251, q2250, q2255, q2253, q2240, q2252, q2254, ⟨by decide +kernel, by decide +kernel⟩, by decide +kernel⟩
theorem fc_java_util_TreeMap_KeySet_java_util_NavigableSet_iterator_0_Ljavau : xFc "java/util/TreeMap$KeySet" ⟨"java/util/NavigableSet", "iterator", "()Ljava/util/Iterator;"⟩ ⟨"java/util/TreeMap$KeySet", "iterator", "()Ljava/util/Iterator;"⟩ 0 := ⟨q2270, q2269, q2275, q2273, q2271, q2272, q2274, ⟨by decide +kernel, by decide +kernel⟩, by decide +kernel⟩
theorem fc_java_util_TreeSet_java_util_Set_iterator_0_Ljavau : xFc "java/util/TreeSet" ⟨"java/util/Set", "iterator", "()Ljava/util/Iterator;"⟩ ⟨"java/util/TreeSet", "iterator", "()Ljava/util/Iterator;"⟩ 0 := ⟨q2392, q2391, q2315, q2314, q2395, q2396, q2245, ⟨by decide +kernel, by decide +kernel⟩, by decide +kernel⟩
theorem fc_java_util_TreeMap_KeySet_java_util_Set_iterator_0_Ljavau : xFc "java/util/TreeMap$KeySet" ⟨"java/util/Set", "iterator", "()Ljava/util/Iterator;"⟩ ⟨"java/util/TreeMap$KeySet", "iterator", "()Ljava/util/Iterator;"⟩ 0 := ⟨q2392, q2391, q2275, q2273, q2393, q2394, q2274, ⟨by decide +kernel, by decide +kernel⟩, by decide +kernel⟩
theorem fd_containsKey : xFd "java/util/TreeMap" "java/util/Map" ⟨"java/util/NavigableMap", "containsKey", "(Ljava/lang/Object;)Z"⟩ ⟨"java/util/TreeMap", "containsKey", "(Ljava/lang/Object;)Z"⟩ 1 := ⟨q2554, q2553, lx_hasI, q2557, q2556, q2240, q2555, q900, ⟨by decide +kernel, by decide +kernel⟩, ⟨by decide +kernel, by decide +kernel⟩, by decide +kernel, by decide +kernel⟩
theorem fc_java_util_TreeSet_java_util_Collection_contains_1_Ljaval : xFc "java/util/TreeSet" ⟨"java/util/Collection", "contains", "(Ljava/lang/Object;)Z"⟩ ⟨"java/util/TreeSet", "contains", "(Ljava/lang/Object;)Z"⟩ 1 := ⟨q2486, q2485, q2562, q2560, q2558, q2559, q2561, ⟨by decide +kernel, by decide +kernel⟩, by decide +kernel⟩
theorem fc_java_util_TreeMap_KeyIterator_java_util_Iterator_remove_0_V : xFc "java/util/TreeMap$KeyIterator" ⟨"java/util/Iterator", "remove", "()V"⟩ ⟨"java/util/TreeMap$PrivateEntryIterator", "remove", "()V"⟩ 0 := ⟨q2568, q2567, q2676, q2674, q1851, q2673, q2675, ⟨by decide +kernel, by decide +kernel⟩, by decide +kernel⟩
theorem fd_size : xFd "java/util/TreeMap" "java/util/Map" ⟨"java/util/NavigableMap", "size", "()I"⟩ ⟨"java/util/TreeMap", "size", "()I"⟩ 0 := ⟨q2693, q2692, lx_sizeI, q2697, q2695, q2240, q2694, q2696, ⟨by decide +kernel, by decide +kernel⟩, ⟨by decide +kernel, by decide +kernel⟩, by decide +kernel, by decide +kernel⟩
theorem fc_java_util_ArrayList_java_util_Collection_toArray_0_Ljaval : xFc "java/util/ArrayList" ⟨"java/util/Collection", "toArray", "()[Ljava/lang/Object;"⟩ ⟨"java/util/ArrayList", "toArray", "()[Ljava/lang/Object;"⟩ 0 := ⟨q2740, q2739, q2757, q2755, q2520, q2754, q2756, ⟨by decide +kernel, by decide +kernel⟩, by decide +kernel⟩
theorem fc_java_util_ArrayList_java_util_List_addAll_1_Ljavau : xFc "java/util/ArrayList" ⟨"java/util/List", "addAll", "(Ljava/util/Collection;)Z"⟩ ⟨"java/util/ArrayList", "addAll", "(Ljava/util/Collection;)Z"⟩ 1 := ⟨q2731, q2730, q2735, q2733, q811, q2732, q2734, ⟨by decide +kernel, by decide +kernel⟩, by decide +kernel⟩
theorem fc_java_util_ArrayList_java_util_List_add_2_ILjava : xFc "java/util/ArrayList" ⟨"java/util/List", "add", "(ILjava/lang/Object;)V"⟩ ⟨"java/util/ArrayList", "add", "(ILjava/lang/Object;)V"⟩ 2 := ⟨q2800, q2799, q2804, q2802, q811, q2801, q2803, ⟨by decide +kernel, by decide +kernel⟩, by decide +kernel⟩
theorem fc_java_util_ArrayList_java_util_List_remove_1_ILjava : xFc "java/util/ArrayList" ⟨"java/util/List", "remove", "(I)Ljava/lang/Object;"⟩ ⟨"java/util/ArrayList", "remove", "(I)Ljava/lang/Object;"⟩ 1 := ⟨q2817, q2816, q2820, q2819, q811, q2818, q2608, ⟨by decide +kernel, by decide +kernel⟩, by decide +kernel⟩
theorem fc_java_util_ArrayList_java_util_List_set_2_ILjava : xFc "java/util/ArrayList" ⟨"java/util/List", "set", "(ILjava/lang/Object;)Ljava/lang/Object;"⟩ ⟨"java/util/ArrayList", "set", "(ILjava/lang/Object;)Ljava/lang/Object;"⟩ 2 := ⟨q2850, q2849, q2854, q2852, q811, q2851, q2853, ⟨by decide +kernel, by decide +kernel⟩, by decide +kernel⟩
theorem arc_J17_150 : xArc "java/util/Arrays" 150 := ⟨q638, q640, q639, q146⟩
theorem arc_J6_212 : xArc "java/lang/String" 212 := ⟨q857, q640, q639, q146⟩
theorem arc_J25_95 : xArc "java/util/TimSort" 95 := ⟨q1721, q640, q639, q146⟩
theorem arc_J3_112 : xArc "java/util/ArrayList" 112 := ⟨q2615, q640, q639, q146⟩
theorem clo_J17_310 : xClo "java/util/Arrays" "[B" 310 := ⟨q630, q631, q632, q633, q634, q635⟩
theorem gcs_J17_86 : xGc "java/util/Arrays" 86 := ⟨q1258, q3526, q3525, q1259, q1295⟩
abbrev cJ0_init : ByteArray := prog_40_method_1_code
def yJ0_init : MethodName := ⟨RJ0, "<init>", "()V"⟩
theorem dJ0_init_0 : decode cJ0_init 0 = .ok (.aload_n 0, 1) := by decide +kernel
theorem dJ0_init_1 : decode cJ0_init 1 = .ok (.invokespecial 1, 3) := by decide +kernel
theorem dJ0_init_4 : decode cJ0_init 4 = .ok (.return_, 1) := by decide +kernel
theorem md_J0_init : xMd yJ0_init cJ0_init 1 (Option.none : Option Jvm.ClassFile.FieldType) 0 := ⟨q195, q124, by decide, by decide +kernel, by decide +kernel, by decide +kernel⟩
def f_J0_init (p0 : PH) (a0 : Nat) : Option (xO × PH) :=
  (rV p0)
theorem f_J0_init_ok {G : xG} (hO : xOK G) (p0 : PH) (a0 : Nat) : CT G 1 yJ0_init cJ0_init 1 (Option.none : Option Jvm.ClassFile.FieldType) [.ref a0] p0 (f_J0_init p0 a0) := by
  refine CT_of hO (by decide +kernel) (by decide +kernel) (Nat.le_of_ble_eq_true rfl) ?_
  show X G "java/util/AbstractCollection" "<init>" cJ0_init 1 (Option.none : Option Jvm.ClassFile.FieldType) 1 0 [(0, .ref a0)] [] p0 (f_J0_init p0 a0)
  refine x_aload_nr 0 dJ0_init_0 rfl rfl (n := 1) rfl ?_
  refine x_objInit q196 q186 q187 dJ0_init_1 (by decide) (Nat.le_of_ble_eq_true rfl) (n := 4) rfl ?_
  exact x_return dJ0_init_4
abbrev cJ1_init : ByteArray := prog_45_method_4_code
def yJ1_init : MethodName := ⟨RJ1, "<init>", "(I)V"⟩
def dkwJ1_init_1 : List UInt8 := [167, 0, 6, 27, 4, 96, 189, 0, 47, 181, 0, 3, 177]
abbrev dktJ1_init_1 : List UInt8 := dkwJ1_init_1 ++ []
def dkwJ1_init_0 : List UInt8 := [42, 183, 0, 42, 42, 27, 4, 162, 0, 7, 4, 167, 0, 17, 27, 18, 41, 160, 0, 8, 18, 41]
abbrev dktJ1_init_0 : List UInt8 := dkwJ1_init_0 ++ dktJ1_init_1
theorem dksJ1_init_0 : cJ1_init.data.toList.drop 0 = dktJ1_init_0 := by decide +kernel
theorem dksJ1_init_1 : cJ1_init.data.toList.drop 22 = dktJ1_init_1 := dk_seg dksJ1_init_0 22 rfl rfl
theorem dJ1_init_0 : decode cJ1_init 0 = .ok (.aload_n 0, 1) := dk_42 (dk_at dksJ1_init_0 0 rfl rfl)
theorem dJ1_init_1 : decode cJ1_init 1 = .ok (.invokespecial 42, 3) := dk_183 0 42 (dk_at dksJ1_init_0 1 rfl rfl)
theorem dJ1_init_4 : decode cJ1_init 4 = .ok (.aload_n 0, 1) := dk_42 (dk_at dksJ1_init_0 4 rfl rfl)
theorem dJ1_init_5 : decode cJ1_init 5 = .ok (.iload_n 1, 1) := dk_27 (dk_at dksJ1_init_0 5 rfl rfl)
theorem dJ1_init_6 : decode cJ1_init 6 = .ok (.iconst 1, 1) := dk_4 (dk_at dksJ1_init_0 6 rfl rfl)
theorem dJ1_init_7 : decode cJ1_init 7 = .ok (.if_icmp .ge 7, 3) := dk_162 0 7 (dk_at dksJ1_init_0 7 rfl rfl)
theorem dJ1_init_10 : decode cJ1_init 10 = .ok (.iconst 1, 1) := dk_4 (dk_at dksJ1_init_0 10 rfl rfl)
theorem dJ1_init_11 : decode cJ1_init 11 = .ok (.goto 17, 3) := dk_167 0 17 (dk_at dksJ1_init_0 11 rfl rfl)
theorem dJ1_init_14 : decode cJ1_init 14 = .ok (.iload_n 1, 1) := dk_27 (dk_at dksJ1_init_0 14 rfl rfl)
theorem dJ1_init_15 : decode cJ1_init 15 = .ok (.ldc 41, 2) := dk_18 41 (dk_at dksJ1_init_0 15 rfl rfl)
theorem dJ1_init_17 : decode cJ1_init 17 = .ok (.if_icmp .ne 8, 3) := dk_160 0 8 (dk_at dksJ1_init_0 17 rfl rfl)
theorem dJ1_init_20 : decode cJ1_init 20 = .ok (.ldc 41, 2) := dk_18 41 (dk_at dksJ1_init_0 20 rfl rfl)
theorem dJ1_init_22 : decode cJ1_init 22 = .ok (.goto 6, 3) := dk_167 0 6 (dk_at dksJ1_init_1 0 rfl rfl)
theorem dJ1_init_25 : decode cJ1_init 25 = .ok (.iload_n 1, 1) := dk_27 (dk_at dksJ1_init_1 3 rfl rfl)
theorem dJ1_init_26 : decode cJ1_init 26 = .ok (.iconst 1, 1) := dk_4 (dk_at dksJ1_init_1 4 rfl rfl)
theorem dJ1_init_27 : decode cJ1_init 27 = .ok (.iadd, 1) := dk_96 (dk_at dksJ1_init_1 5 rfl rfl)
theorem dJ1_init_28 : decode cJ1_init 28 = .ok (.anewarray 47, 3) := dk_189 0 47 (dk_at dksJ1_init_1 6 rfl rfl)
theorem dJ1_init_31 : decode cJ1_init 31 = .ok (.putfield 3, 3) := dk_181 0 3 (dk_at dksJ1_init_1 9 rfl rfl)
theorem dJ1_init_34 : decode cJ1_init 34 = .ok (.return_, 1) := dk_177 (dk_at dksJ1_init_1 12 rfl rfl)
theorem md_J1_init : xMd yJ1_init cJ1_init 2 (Option.none : Option Jvm.ClassFile.FieldType) 1 := ⟨q192, q125, by decide, by decide +kernel, by decide +kernel, by decide +kernel⟩
def f_J1_init_28 (a0 : Nat)  (w1 : Int32) (p0 : PH) : Option (xO × PH) :=
  (xnaR p0 4 w1 fun b2 p3 =>
  (xpF p3 a0 13 0 (.ref b2) fun p4 =>
  (rV p4)))
def f_J1_init (p0 : PH) (a0 : Nat) (a1 : Int32) : Option (xO × PH) :=
  (xcV (f_J0_init p0 a0 ) fun p1 =>
  (if 1 ≤ a1 then
  (if a1 = 2147483647 then
  (f_J1_init_28 a0 2147483647 p1) else
  (f_J1_init_28 a0 (a1 + 1) p1)) else
  (f_J1_init_28 a0 1 p1)))
theorem f_J1_init_28_ok {G : xG} (hO : xOK G) (a0 : Nat)  (w1 : Int32) (p0 : PH) : X G "java/util/ArrayDeque" "<init>" cJ1_init 2 (Option.none : Option Jvm.ClassFile.FieldType) 2 28 [] [.int w1, .ref a0] p0 (f_J1_init_28 a0 w1 p0) := by
  unfold f_J1_init_28
  refine x_anew (t := 4) rfl (by decide) q198 q199 dJ1_init_28 (n := 31) rfl (fun b2 p3 => ?_)
  refine x_pF (pl_J1_3 _ _ (xfit_a (some b2))) dJ1_init_31 (n := 34) rfl (fun p4 => ?_)
  exact x_return dJ1_init_34
theorem f_J1_init_ok {G : xG} (hO : xOK G) (p0 : PH) (a0 : Nat) (a1 : Int32) : CT G 2 yJ1_init cJ1_init 2 (Option.none : Option Jvm.ClassFile.FieldType) [.ref a0, .int a1] p0 (f_J1_init p0 a0 a1) := by
  refine CT_of hO (by decide +kernel) (by decide +kernel) (Nat.le_of_ble_eq_true rfl) ?_
  show X G "java/util/ArrayDeque" "<init>" cJ1_init 2 (Option.none : Option Jvm.ClassFile.FieldType) 2 0 [(0, .ref a0), (1, .int a1)] [] p0 (f_J1_init p0 a0 a1)
  refine x_aload_nr 0 dJ1_init_0 rfl rfl (n := 1) rfl ?_
  refine x_callI_V [] [] (f_J0_init_ok hO p0 a0 ) md_J0_init rfl q193 q194 dJ1_init_1 rfl rfl (by decide) (Nat.le_of_ble_eq_true rfl) (n := 4) rfl (fun p1 => ?_)
  refine x_aload_nr 0 dJ1_init_4 rfl rfl (n := 5) rfl ?_
  refine x_iload_n 1 dJ1_init_5 rfl rfl (n := 6) rfl ?_
  refine x_iconst 1 dJ1_init_6 rfl (n := 7) rfl ?_
  refine x_icmp_ge dJ1_init_7 (t := 14) (by decide) (n := 10) rfl (fun _ => ?_) (fun _ => ?_)
  · refine x_iload_n 1 dJ1_init_14 rfl rfl (n := 15) rfl ?_
    refine x_ldc 2147483647 dJ1_init_15 q197 (n := 17) rfl ?_
    refine x_icmp_ne dJ1_init_17 (t := 25) (by decide) (n := 20) rfl (fun _ => ?_) (fun _ => ?_)
    · refine x_iload_n 1 dJ1_init_25 rfl rfl (n := 26) rfl ?_
      refine x_iconst 1 dJ1_init_26 rfl (n := 27) rfl ?_
      refine x_iadd dJ1_init_27 (n := 28) rfl ?_
      refine x_sub [] [] rfl ?_
      exact f_J1_init_28_ok hO a0 (a1 + 1) p1
    · refine x_ldc 2147483647 dJ1_init_20 q197 (n := 22) rfl ?_
      refine x_goto dJ1_init_22 (n := 28) (by decide) ?_
      refine x_sub [] [] rfl ?_
      exact f_J1_init_28_ok hO a0 2147483647 p1
  · refine x_iconst 1 dJ1_init_10 rfl (n := 11) rfl ?_
    refine x_goto dJ1_init_11 (n := 28) (by decide) ?_
    refine x_sub [] [] rfl ?_
    exact f_J1_init_28_ok hO a0 1 p1
abbrev cX1_init : ByteArray := prog_1_method_5_code
def yX1_init : MethodName := ⟨RX1, "<init>", "()V"⟩
def dkwX1_init_1 : List UInt8 := [16, 16, 183, 0, 26, 181, 0, 29, 177]
abbrev dktX1_init_1 : List UInt8 := dkwX1_init_1 ++ []
def dkwX1_init_0 : List UInt8 := [42, 183, 0, 14, 42, 2, 181, 0, 11, 42, 17, 3, 132, 188, 8, 181, 0, 20, 42, 187, 0, 24, 89]
abbrev dktX1_init_0 : List UInt8 := dkwX1_init_0 ++ dktX1_init_1
theorem dksX1_init_0 : cX1_init.data.toList.drop 0 = dktX1_init_0 := by decide +kernel
theorem dksX1_init_1 : cX1_init.data.toList.drop 23 = dktX1_init_1 := dk_seg dksX1_init_0 23 rfl rfl
theorem dX1_init_0 : decode cX1_init 0 = .ok (.aload_n 0, 1) := dk_42 (dk_at dksX1_init_0 0 rfl rfl)
theorem dX1_init_1 : decode cX1_init 1 = .ok (.invokespecial 14, 3) := dk_183 0 14 (dk_at dksX1_init_0 1 rfl rfl)
theorem dX1_init_4 : decode cX1_init 4 = .ok (.aload_n 0, 1) := dk_42 (dk_at dksX1_init_0 4 rfl rfl)
theorem dX1_init_5 : decode cX1_init 5 = .ok (.iconst (-1), 1) := dk_2 (dk_at dksX1_init_0 5 rfl rfl)
theorem dX1_init_6 : decode cX1_init 6 = .ok (.putfield 11, 3) := dk_181 0 11 (dk_at dksX1_init_0 6 rfl rfl)
theorem dX1_init_9 : decode cX1_init 9 = .ok (.aload_n 0, 1) := dk_42 (dk_at dksX1_init_0 9 rfl rfl)
theorem dX1_init_10 : decode cX1_init 10 = .ok (.sipush 900, 3) := dk_17 3 132 (dk_at dksX1_init_0 10 rfl rfl)
theorem dX1_init_13 : decode cX1_init 13 = .ok (.newarray .byte, 2) := dk_188_8 (dk_at dksX1_init_0 13 rfl rfl)
theorem dX1_init_15 : decode cX1_init 15 = .ok (.putfield 20, 3) := dk_181 0 20 (dk_at dksX1_init_0 15 rfl rfl)
theorem dX1_init_18 : decode cX1_init 18 = .ok (.aload_n 0, 1) := dk_42 (dk_at dksX1_init_0 18 rfl rfl)
theorem dX1_init_19 : decode cX1_init 19 = .ok (.new 24, 3) := dk_187 0 24 (dk_at dksX1_init_0 19 rfl rfl)
theorem dX1_init_22 : decode cX1_init 22 = .ok (.dup, 1) := dk_89 (dk_at dksX1_init_0 22 rfl rfl)
theorem dX1_init_23 : decode cX1_init 23 = .ok (.bipush 16, 2) := dk_16 16 (dk_at dksX1_init_1 0 rfl rfl)
theorem dX1_init_25 : decode cX1_init 25 = .ok (.invokespecial 26, 3) := dk_183 0 26 (dk_at dksX1_init_1 2 rfl rfl)
theorem dX1_init_28 : decode cX1_init 28 = .ok (.putfield 29, 3) := dk_181 0 29 (dk_at dksX1_init_1 5 rfl rfl)
theorem dX1_init_31 : decode cX1_init 31 = .ok (.return_, 1) := dk_177 (dk_at dksX1_init_1 8 rfl rfl)
theorem md_X1_init : xMd yX1_init cX1_init 1 (Option.none : Option Jvm.ClassFile.FieldType) 0 := ⟨q184, q123, by decide, by decide +kernel, by decide +kernel, by decide +kernel⟩
def f_X1_init (p0 : PH) (a0 : Nat) : Option (xO × PH) :=
  (xpF p0 a0 0 1 (.int (-1)) fun p1 =>
  (xnaI p1 2 900 fun b2 p3 =>
  (xpF p3 a0 0 2 (.ref b2) fun p4 =>
  (xnew p4 13 [.null, .int 0, .int 0] fun b5 p6 =>
  (xcV (f_J1_init p6 b5 16) fun p7 =>
  (xpF p7 a0 0 6 (.ref b5) fun p8 =>
  (rV p8)))))))
theorem f_X1_init_ok {G : xG} (hO : xOK G) (p0 : PH) (a0 : Nat) : CT G 3 yX1_init cX1_init 1 (Option.none : Option Jvm.ClassFile.FieldType) [.ref a0] p0 (f_X1_init p0 a0) := by
  refine CT_of hO (by decide +kernel) (by decide +kernel) (Nat.le_of_ble_eq_true rfl) ?_
  show X G "ForestLegs" "<init>" cX1_init 1 (Option.none : Option Jvm.ClassFile.FieldType) 3 0 [(0, .ref a0)] [] p0 (f_X1_init p0 a0)
  refine x_aload_nr 0 dX1_init_0 rfl rfl (n := 1) rfl ?_
  refine x_objInit q185 q186 q187 dX1_init_1 (by decide) (Nat.le_of_ble_eq_true rfl) (n := 4) rfl ?_
  refine x_aload_nr 0 dX1_init_4 rfl rfl (n := 5) rfl ?_
  refine x_iconst (-1) dX1_init_5 rfl (n := 6) rfl ?_
  refine x_pF (pl_X1_11 _ _ ⟨rfl, rfl⟩) dX1_init_6 (n := 9) rfl (fun p1 => ?_)
  refine x_aload_nr 0 dX1_init_9 rfl rfl (n := 10) rfl ?_
  refine x_sipush 900 dX1_init_10 rfl (n := 13) rfl ?_
  refine x_newI (t := 2) (atype := .byte) rfl q212 rfl (by decide) dX1_init_13 (n := 15) rfl (fun b2 p3 => ?_)
  refine x_pF (pl_X1_20 _ (xfit_a (some b2))) dX1_init_15 (n := 18) rfl (fun p4 => ?_)
  refine x_aload_nr 0 dX1_init_18 rfl rfl (n := 19) rfl ?_
  refine x_new cl_13 (by decide) q188 q189 q125 rfl dX1_init_19 (n := 22) rfl (fun b5 p6 => ?_)
  refine x_dup dX1_init_22 rfl (n := 23) rfl ?_
  refine x_bipush 16 dX1_init_23 rfl (n := 25) rfl ?_
  refine x_callI_V [.int 16] [.ref b5, .ref a0] (f_J1_init_ok hO p6 b5 16) md_J1_init rfl q190 q191 dX1_init_25 rfl rfl (by decide) (Nat.le_of_ble_eq_true rfl) (n := 28) rfl (fun p7 => ?_)
  refine x_pF (pl_X1_29 _ (xfit_o (some b5))) dX1_init_28 (n := 31) rfl (fun p8 => ?_)
  exact x_return dX1_init_31
abbrev cX1_feed : ByteArray := prog_1_method_6_code
def yX1_feed : MethodName := ⟨RX1, "feed", "(IIIII)I"⟩
def dkwX1_feed_4 : List UInt8 := [122, 145, 84, 132, 11, 248, 167, 255, 226, 132, 9, 1, 167, 255, 202, 42, 180, 0, 33, 172]
abbrev dktX1_feed_4 : List UInt8 := dkwX1_feed_4 ++ []
def dkwX1_feed_3 : List UInt8 := [21, 11, 155, 0, 31, 42, 180, 0, 20, 42, 89, 180, 0, 33, 90, 4, 96, 181, 0, 33, 21, 10, 21, 11]
abbrev dktX1_feed_3 : List UInt8 := dkwX1_feed_3 ++ dktX1_feed_4
def dkwX1_feed_2 : List UInt8 := [190, 54, 8, 3, 54, 9, 21, 9, 21, 8, 162, 0, 53, 25, 7, 21, 9, 46, 54, 10, 16, 24, 54, 11]
abbrev dktX1_feed_2 : List UInt8 := dkwX1_feed_2 ++ dktX1_feed_3
def dkwX1_feed_1 : List UInt8 := [28, 79, 89, 5, 29, 79, 89, 6, 21, 4, 79, 89, 7, 21, 5, 79, 58, 6, 25, 6, 58, 7, 25, 7]
abbrev dktX1_feed_1 : List UInt8 := dkwX1_feed_1 ++ dktX1_feed_2
def dkwX1_feed_0 : List UInt8 := [42, 180, 0, 33, 16, 20, 96, 17, 3, 132, 164, 0, 5, 2, 172, 8, 188, 10, 89, 3, 27, 79, 89, 4]
abbrev dktX1_feed_0 : List UInt8 := dkwX1_feed_0 ++ dktX1_feed_1
theorem dksX1_feed_0 : cX1_feed.data.toList.drop 0 = dktX1_feed_0 := by decide +kernel
theorem dksX1_feed_1 : cX1_feed.data.toList.drop 24 = dktX1_feed_1 := dk_seg dksX1_feed_0 24 rfl rfl
theorem dksX1_feed_2 : cX1_feed.data.toList.drop 48 = dktX1_feed_2 := dk_seg dksX1_feed_1 24 rfl rfl
theorem dksX1_feed_3 : cX1_feed.data.toList.drop 72 = dktX1_feed_3 := dk_seg dksX1_feed_2 24 rfl rfl
theorem dksX1_feed_4 : cX1_feed.data.toList.drop 96 = dktX1_feed_4 := dk_seg dksX1_feed_3 24 rfl rfl
theorem dX1_feed_0 : decode cX1_feed 0 = .ok (.aload_n 0, 1) := dk_42 (dk_at dksX1_feed_0 0 rfl rfl)
theorem dX1_feed_1 : decode cX1_feed 1 = .ok (.getfield 33, 3) := dk_180 0 33 (dk_at dksX1_feed_0 1 rfl rfl)
theorem dX1_feed_4 : decode cX1_feed 4 = .ok (.bipush 20, 2) := dk_16 20 (dk_at dksX1_feed_0 4 rfl rfl)
theorem dX1_feed_6 : decode cX1_feed 6 = .ok (.iadd, 1) := dk_96 (dk_at dksX1_feed_0 6 rfl rfl)
theorem dX1_feed_7 : decode cX1_feed 7 = .ok (.sipush 900, 3) := dk_17 3 132 (dk_at dksX1_feed_0 7 rfl rfl)
theorem dX1_feed_10 : decode cX1_feed 10 = .ok (.if_icmp .le 5, 3) := dk_164 0 5 (dk_at dksX1_feed_0 10 rfl rfl)
theorem dX1_feed_13 : decode cX1_feed 13 = .ok (.iconst (-1), 1) := dk_2 (dk_at dksX1_feed_0 13 rfl rfl)
theorem dX1_feed_14 : decode cX1_feed 14 = .ok (.ireturn, 1) := dk_172 (dk_at dksX1_feed_0 14 rfl rfl)
theorem dX1_feed_15 : decode cX1_feed 15 = .ok (.iconst 5, 1) := dk_8 (dk_at dksX1_feed_0 15 rfl rfl)
theorem dX1_feed_16 : decode cX1_feed 16 = .ok (.newarray .int, 2) := dk_188_10 (dk_at dksX1_feed_0 16 rfl rfl)
theorem dX1_feed_18 : decode cX1_feed 18 = .ok (.dup, 1) := dk_89 (dk_at dksX1_feed_0 18 rfl rfl)
theorem dX1_feed_19 : decode cX1_feed 19 = .ok (.iconst 0, 1) := dk_3 (dk_at dksX1_feed_0 19 rfl rfl)
theorem dX1_feed_20 : decode cX1_feed 20 = .ok (.iload_n 1, 1) := dk_27 (dk_at dksX1_feed_0 20 rfl rfl)
theorem dX1_feed_21 : decode cX1_feed 21 = .ok (.iastore, 1) := dk_79 (dk_at dksX1_feed_0 21 rfl rfl)
theorem dX1_feed_22 : decode cX1_feed 22 = .ok (.dup, 1) := dk_89 (dk_at dksX1_feed_0 22 rfl rfl)
theorem dX1_feed_23 : decode cX1_feed 23 = .ok (.iconst 1, 1) := dk_4 (dk_at dksX1_feed_0 23 rfl rfl)
theorem dX1_feed_24 : decode cX1_feed 24 = .ok (.iload_n 2, 1) := dk_28 (dk_at dksX1_feed_1 0 rfl rfl)
theorem dX1_feed_25 : decode cX1_feed 25 = .ok (.iastore, 1) := dk_79 (dk_at dksX1_feed_1 1 rfl rfl)
theorem dX1_feed_26 : decode cX1_feed 26 = .ok (.dup, 1) := dk_89 (dk_at dksX1_feed_1 2 rfl rfl)
theorem dX1_feed_27 : decode cX1_feed 27 = .ok (.iconst 2, 1) := dk_5 (dk_at dksX1_feed_1 3 rfl rfl)
theorem dX1_feed_28 : decode cX1_feed 28 = .ok (.iload_n 3, 1) := dk_29 (dk_at dksX1_feed_1 4 rfl rfl)
theorem dX1_feed_29 : decode cX1_feed 29 = .ok (.iastore, 1) := dk_79 (dk_at dksX1_feed_1 5 rfl rfl)
theorem dX1_feed_30 : decode cX1_feed 30 = .ok (.dup, 1) := dk_89 (dk_at dksX1_feed_1 6 rfl rfl)
theorem dX1_feed_31 : decode cX1_feed 31 = .ok (.iconst 3, 1) := dk_6 (dk_at dksX1_feed_1 7 rfl rfl)
theorem dX1_feed_32 : decode cX1_feed 32 = .ok (.iload 4, 2) := dk_21 4 (dk_at dksX1_feed_1 8 rfl rfl)
theorem dX1_feed_34 : decode cX1_feed 34 = .ok (.iastore, 1) := dk_79 (dk_at dksX1_feed_1 10 rfl rfl)
theorem dX1_feed_35 : decode cX1_feed 35 = .ok (.dup, 1) := dk_89 (dk_at dksX1_feed_1 11 rfl rfl)
theorem dX1_feed_36 : decode cX1_feed 36 = .ok (.iconst 4, 1) := dk_7 (dk_at dksX1_feed_1 12 rfl rfl)
theorem dX1_feed_37 : decode cX1_feed 37 = .ok (.iload 5, 2) := dk_21 5 (dk_at dksX1_feed_1 13 rfl rfl)
theorem dX1_feed_39 : decode cX1_feed 39 = .ok (.iastore, 1) := dk_79 (dk_at dksX1_feed_1 15 rfl rfl)
theorem dX1_feed_40 : decode cX1_feed 40 = .ok (.astore 6, 2) := dk_58 6 (dk_at dksX1_feed_1 16 rfl rfl)
theorem dX1_feed_42 : decode cX1_feed 42 = .ok (.aload 6, 2) := dk_25 6 (dk_at dksX1_feed_1 18 rfl rfl)
theorem dX1_feed_44 : decode cX1_feed 44 = .ok (.astore 7, 2) := dk_58 7 (dk_at dksX1_feed_1 20 rfl rfl)
theorem dX1_feed_46 : decode cX1_feed 46 = .ok (.aload 7, 2) := dk_25 7 (dk_at dksX1_feed_1 22 rfl rfl)
theorem dX1_feed_48 : decode cX1_feed 48 = .ok (.arraylength, 1) := dk_190 (dk_at dksX1_feed_2 0 rfl rfl)
theorem dX1_feed_49 : decode cX1_feed 49 = .ok (.istore 8, 2) := dk_54 8 (dk_at dksX1_feed_2 1 rfl rfl)
theorem dX1_feed_51 : decode cX1_feed 51 = .ok (.iconst 0, 1) := dk_3 (dk_at dksX1_feed_2 3 rfl rfl)
theorem dX1_feed_52 : decode cX1_feed 52 = .ok (.istore 9, 2) := dk_54 9 (dk_at dksX1_feed_2 4 rfl rfl)
theorem dX1_feed_54 : decode cX1_feed 54 = .ok (.iload 9, 2) := dk_21 9 (dk_at dksX1_feed_2 6 rfl rfl)
theorem dX1_feed_56 : decode cX1_feed 56 = .ok (.iload 8, 2) := dk_21 8 (dk_at dksX1_feed_2 8 rfl rfl)
theorem dX1_feed_58 : decode cX1_feed 58 = .ok (.if_icmp .ge 53, 3) := dk_162 0 53 (dk_at dksX1_feed_2 10 rfl rfl)
theorem dX1_feed_61 : decode cX1_feed 61 = .ok (.aload 7, 2) := dk_25 7 (dk_at dksX1_feed_2 13 rfl rfl)
theorem dX1_feed_63 : decode cX1_feed 63 = .ok (.iload 9, 2) := dk_21 9 (dk_at dksX1_feed_2 15 rfl rfl)
theorem dX1_feed_65 : decode cX1_feed 65 = .ok (.iaload, 1) := dk_46 (dk_at dksX1_feed_2 17 rfl rfl)
theorem dX1_feed_66 : decode cX1_feed 66 = .ok (.istore 10, 2) := dk_54 10 (dk_at dksX1_feed_2 18 rfl rfl)
theorem dX1_feed_68 : decode cX1_feed 68 = .ok (.bipush 24, 2) := dk_16 24 (dk_at dksX1_feed_2 20 rfl rfl)
theorem dX1_feed_70 : decode cX1_feed 70 = .ok (.istore 11, 2) := dk_54 11 (dk_at dksX1_feed_2 22 rfl rfl)
theorem dX1_feed_72 : decode cX1_feed 72 = .ok (.iload 11, 2) := dk_21 11 (dk_at dksX1_feed_3 0 rfl rfl)
theorem dX1_feed_74 : decode cX1_feed 74 = .ok (.ifCond .lt 31, 3) := dk_155 0 31 (dk_at dksX1_feed_3 2 rfl rfl)
theorem dX1_feed_77 : decode cX1_feed 77 = .ok (.aload_n 0, 1) := dk_42 (dk_at dksX1_feed_3 5 rfl rfl)
theorem dX1_feed_78 : decode cX1_feed 78 = .ok (.getfield 20, 3) := dk_180 0 20 (dk_at dksX1_feed_3 6 rfl rfl)
theorem dX1_feed_81 : decode cX1_feed 81 = .ok (.aload_n 0, 1) := dk_42 (dk_at dksX1_feed_3 9 rfl rfl)
theorem dX1_feed_82 : decode cX1_feed 82 = .ok (.dup, 1) := dk_89 (dk_at dksX1_feed_3 10 rfl rfl)
theorem dX1_feed_83 : decode cX1_feed 83 = .ok (.getfield 33, 3) := dk_180 0 33 (dk_at dksX1_feed_3 11 rfl rfl)
theorem dX1_feed_86 : decode cX1_feed 86 = .ok (.dup_x1, 1) := dk_90 (dk_at dksX1_feed_3 14 rfl rfl)
theorem dX1_feed_87 : decode cX1_feed 87 = .ok (.iconst 1, 1) := dk_4 (dk_at dksX1_feed_3 15 rfl rfl)
theorem dX1_feed_88 : decode cX1_feed 88 = .ok (.iadd, 1) := dk_96 (dk_at dksX1_feed_3 16 rfl rfl)
theorem dX1_feed_89 : decode cX1_feed 89 = .ok (.putfield 33, 3) := dk_181 0 33 (dk_at dksX1_feed_3 17 rfl rfl)
theorem dX1_feed_92 : decode cX1_feed 92 = .ok (.iload 10, 2) := dk_21 10 (dk_at dksX1_feed_3 20 rfl rfl)
theorem dX1_feed_94 : decode cX1_feed 94 = .ok (.iload 11, 2) := dk_21 11 (dk_at dksX1_feed_3 22 rfl rfl)
theorem dX1_feed_96 : decode cX1_feed 96 = .ok (.ishr, 1) := dk_122 (dk_at dksX1_feed_4 0 rfl rfl)
theorem dX1_feed_97 : decode cX1_feed 97 = .ok (.i2b, 1) := dk_145 (dk_at dksX1_feed_4 1 rfl rfl)
theorem dX1_feed_98 : decode cX1_feed 98 = .ok (.bastore, 1) := dk_84 (dk_at dksX1_feed_4 2 rfl rfl)
theorem dX1_feed_99 : decode cX1_feed 99 = .ok (.iinc 11 (-8), 3) := dk_132 11 248 (dk_at dksX1_feed_4 3 rfl rfl)
theorem dX1_feed_102 : decode cX1_feed 102 = .ok (.goto (-30), 3) := dk_167 255 226 (dk_at dksX1_feed_4 6 rfl rfl)
theorem dX1_feed_105 : decode cX1_feed 105 = .ok (.iinc 9 1, 3) := dk_132 9 1 (dk_at dksX1_feed_4 9 rfl rfl)
theorem dX1_feed_108 : decode cX1_feed 108 = .ok (.goto (-54), 3) := dk_167 255 202 (dk_at dksX1_feed_4 12 rfl rfl)
theorem dX1_feed_111 : decode cX1_feed 111 = .ok (.aload_n 0, 1) := dk_42 (dk_at dksX1_feed_4 15 rfl rfl)
theorem dX1_feed_112 : decode cX1_feed 112 = .ok (.getfield 33, 3) := dk_180 0 33 (dk_at dksX1_feed_4 16 rfl rfl)
theorem dX1_feed_115 : decode cX1_feed 115 = .ok (.ireturn, 1) := dk_172 (dk_at dksX1_feed_4 19 rfl rfl)
theorem md_X1_feed : xMd yX1_feed cX1_feed 12 (Option.some Jvm.ClassFile.FieldType.int) 5 := ⟨q240, q123, by decide, by decide +kernel, by decide +kernel, by decide +kernel⟩
def f_X1_feed_72F (a0 : Nat) (k54 : Nat × Int32 × Int32 × PH → Option (xO × PH)) (k72 : Nat × Int32 × Int32 × Int32 × Int32 × PH → Option (xO × PH)) (p : Nat × Int32 × Int32 × Int32 × Int32 × PH) : Option (xO × PH) := match p with
  | (v7, v8, v9, v10, v11, p0) => (if v11 < 0 then
  (bnd (v9 + 1) fun x12 =>
  (k54 (v7, v8, x12, p0))) else
  (xgR p0 a0 0 2 fun x13 =>
  (xgI p0 a0 0 3 fun x14 =>
  (xpF p0 a0 0 3 (.int (x14 + 1)) fun p15 =>
  (xnul x13 none fun b16 =>
  (xsI p15 b16 2 x14 (vp_nar .byte ((v10 >>> (v11 &&& 31)).toInt8.toInt32)) fun p17 =>
  (bnd (v11 + (-8)) fun x18 =>
  (k72 (v7, v8, v9, v10, x18, p17)))))))))
def f_X1_feed_54F (a0 : Nat)  (k54 : Nat × Int32 × Int32 × PH → Option (xO × PH)) (p : Nat × Int32 × Int32 × PH) : Option (xO × PH) := match p with
  | (v7, v8, v9, p0) => (if v8 ≤ v9 then
  (xgI p0 a0 0 3 fun x10 =>
  (rI x10 p0)) else
  (xaI p0 v7 0 v9 fun x11 =>
  (lp (f_X1_feed_72F a0 k54) FU (v7, v8, v9, x11, 24, p0))))
def f_X1_feed (p0 : PH) (a0 : Nat) (a1 : Int32) (a2 : Int32) (a3 : Int32) (a4 : Int32) (a5 : Int32) : Option (xO × PH) :=
  (xcl1 p0 a0 0 (xgI p0 a0 0 3 fun x1 =>
  (if (x1 + 20) ≤ 900 then
  (xnaI p0 0 5 fun b2 p3 =>
  (xsI p3 b2 0 0 a1 fun p4 =>
  (xsI p4 b2 0 1 a2 fun p5 =>
  (xsI p5 b2 0 2 a3 fun p6 =>
  (xsI p6 b2 0 3 a4 fun p7 =>
  (xsI p7 b2 0 4 a5 fun p8 =>
  (xlen p8 b2 fun x9 =>
  (lp (f_X1_feed_54F a0) FU (b2, x9, 0, p8))))))))) else
  (rI (-1) p0))))
theorem rc_X1_feed {p0 : PH} {a0 : Nat} {a1 : Int32} {a2 : Int32} {a3 : Int32} {a4 : Int32} {a5 : Int32} : ∀ z, f_X1_feed p0 a0 a1 a2 a3 a4 a5 = some z → xco p0 a0 = some 0 := fun z h => xcl1_some h
theorem f_X1_feed_72F_ok {G : xG} (hO : xOK G) (a0 : Nat) {k54 : Nat × Int32 × Int32 × PH → Option (xO × PH)} (hk54 : ∀ (v7 : Nat) (v8 : Int32) (v9 : Int32) (p0 : PH), X G "ForestLegs" "feed" cX1_feed 12 (Option.some Jvm.ClassFile.FieldType.int) 0 54 [(0, .ref a0), (7, .ref v7), (8, .int v8), (9, .int v9)] [] p0 (k54 (v7, v8, v9, p0))) {k72 : Nat × Int32 × Int32 × Int32 × Int32 × PH → Option (xO × PH)} (hk72 : ∀ (v7 : Nat) (v8 : Int32) (v9 : Int32) (v10 : Int32) (v11 : Int32) (p0 : PH), X G "ForestLegs" "feed" cX1_feed 12 (Option.some Jvm.ClassFile.FieldType.int) 0 72 [(0, .ref a0), (7, .ref v7), (8, .int v8), (9, .int v9), (10, .int v10), (11, .int v11)] [] p0 (k72 (v7, v8, v9, v10, v11, p0))) (v7 : Nat) (v8 : Int32) (v9 : Int32) (v10 : Int32) (v11 : Int32) (p0 : PH) : X G "ForestLegs" "feed" cX1_feed 12 (Option.some Jvm.ClassFile.FieldType.int) 0 72 [(0, .ref a0), (7, .ref v7), (8, .int v8), (9, .int v9), (10, .int v10), (11, .int v11)] [] p0 (f_X1_feed_72F a0 k54 k72 (v7, v8, v9, v10, v11, p0)) := by
  unfold f_X1_feed_72F
  refine x_iload 5 dX1_feed_72 rfl (n := 74) rfl ?_
  refine x_if_lt dX1_feed_74 (t := 105) (by decide) (n := 77) rfl (fun _ => ?_) (fun _ => ?_)
  · refine x_iincB 3 (fun x12 => [(9, .int x12), (0, .ref a0), (7, .ref v7), (8, .int v8), (10, .int v10), (11, .int v11)]) dX1_feed_105 rfl rfl (by decide) (fun _ => rfl) (n := 108) rfl (fun x12 => ?_)
    refine x_goto dX1_feed_108 (n := 54) (by decide) ?_
    refine x_sub [1, 2, 3, 0] [(0, .ref a0), (7, .ref v7), (8, .int v8), (9, .int x12)] rfl ?_
    exact hk54 v7 v8 x12 p0
  · refine x_aload_nr 0 dX1_feed_77 rfl rfl (n := 78) rfl ?_
    refine x_getR fl_X1_20 dX1_feed_78 (n := 81) rfl (fun x13 => ?_)
    refine x_aload_nr 0 dX1_feed_81 rfl rfl (n := 82) rfl ?_
    refine x_dup dX1_feed_82 rfl (n := 83) rfl ?_
    refine x_getI fl_X1_33 dX1_feed_83 (n := 86) rfl (fun x14 => ?_)
    refine x_dup_x1 dX1_feed_86 rfl rfl (n := 87) rfl ?_
    refine x_iconst 1 dX1_feed_87 rfl (n := 88) rfl ?_
    refine x_iadd dX1_feed_88 (n := 89) rfl ?_
    refine x_pF (pl_X1_33 _ _ ⟨rfl, rfl⟩) dX1_feed_89 (n := 92) rfl (fun p15 => ?_)
    refine x_iload 4 dX1_feed_92 rfl (n := 94) rfl ?_
    refine x_iload 5 dX1_feed_94 rfl (n := 96) rfl ?_
    refine x_ishr dX1_feed_96 (n := 97) rfl ?_
    refine x_i2b dX1_feed_97 (n := 98) rfl ?_
    refine x_sm (fun b16 e => ?_)
    subst e
    refine x_bast (t := 2) rfl dX1_feed_98 (n := 99) rfl (fun p17 => ?_)
    refine x_iincB 5 (fun x18 => [(11, .int x18), (0, .ref a0), (7, .ref v7), (8, .int v8), (9, .int v9), (10, .int v10)]) dX1_feed_99 rfl rfl (by decide) (fun _ => rfl) (n := 102) rfl (fun x18 => ?_)
    refine x_goto dX1_feed_102 (n := 72) (by decide) ?_
    refine x_sub [1, 2, 3, 4, 5, 0] [(0, .ref a0), (7, .ref v7), (8, .int v8), (9, .int v9), (10, .int v10), (11, .int x18)] rfl ?_
    exact hk72 v7 v8 v9 v10 x18 p17
theorem f_X1_feed_72_lp {G : xG} (hO : xOK G) (a0 : Nat) {k54 : Nat × Int32 × Int32 × PH → Option (xO × PH)} (hk54 : ∀ (v7 : Nat) (v8 : Int32) (v9 : Int32) (p0 : PH), X G "ForestLegs" "feed" cX1_feed 12 (Option.some Jvm.ClassFile.FieldType.int) 0 54 [(0, .ref a0), (7, .ref v7), (8, .int v8), (9, .int v9)] [] p0 (k54 (v7, v8, v9, p0))) (n : Nat) (v7 : Nat) (v8 : Int32) (v9 : Int32) (v10 : Int32) (v11 : Int32) (p0 : PH) : X G "ForestLegs" "feed" cX1_feed 12 (Option.some Jvm.ClassFile.FieldType.int) 0 72 [(0, .ref a0), (7, .ref v7), (8, .int v8), (9, .int v9), (10, .int v10), (11, .int v11)] [] p0 (lp (f_X1_feed_72F a0 k54) n (v7, v8, v9, v10, v11, p0)) :=
  lp_ok (W := fun p K => X G "ForestLegs" "feed" cX1_feed 12 (Option.some Jvm.ClassFile.FieldType.int) 0 72 [(0, .ref a0), (7, .ref p.1), (8, .int p.2.1), (9, .int p.2.2.1), (10, .int p.2.2.2.1), (11, .int p.2.2.2.2.1)] [] p.2.2.2.2.2 K) (fun _ => x_no) (fun k hk => fun (v7, v8, v9, v10, v11, p0) => f_X1_feed_72F_ok hO a0 hk54 (fun v7 v8 v9 v10 v11 p0 => hk (v7, v8, v9, v10, v11, p0)) v7 v8 v9 v10 v11 p0) n (v7, v8, v9, v10, v11, p0)
theorem f_X1_feed_54F_ok {G : xG} (hO : xOK G) (a0 : Nat)  {k54 : Nat × Int32 × Int32 × PH → Option (xO × PH)} (hk54 : ∀ (v7 : Nat) (v8 : Int32) (v9 : Int32) (p0 : PH), X G "ForestLegs" "feed" cX1_feed 12 (Option.some Jvm.ClassFile.FieldType.int) 0 54 [(0, .ref a0), (7, .ref v7), (8, .int v8), (9, .int v9)] [] p0 (k54 (v7, v8, v9, p0))) (v7 : Nat) (v8 : Int32) (v9 : Int32) (p0 : PH) : X G "ForestLegs" "feed" cX1_feed 12 (Option.some Jvm.ClassFile.FieldType.int) 0 54 [(0, .ref a0), (7, .ref v7), (8, .int v8), (9, .int v9)] [] p0 (f_X1_feed_54F a0 k54 (v7, v8, v9, p0)) := by
  unfold f_X1_feed_54F
  refine x_iload 3 dX1_feed_54 rfl (n := 56) rfl ?_
  refine x_iload 2 dX1_feed_56 rfl (n := 58) rfl ?_
  refine x_icmp_ge dX1_feed_58 (t := 111) (by decide) (n := 61) rfl (fun _ => ?_) (fun _ => ?_)
  · refine x_aload_nr 0 dX1_feed_111 rfl rfl (n := 112) rfl ?_
    refine x_getI fl_X1_33 dX1_feed_112 (n := 115) rfl (fun x10 => ?_)
    exact x_ireturn dX1_feed_115
  · refine x_aloadr 1 dX1_feed_61 rfl (n := 63) rfl ?_
    refine x_iload 3 dX1_feed_63 rfl (n := 65) rfl ?_
    refine x_iald (t := 0) rfl dX1_feed_65 (n := 66) rfl (fun x11 => ?_)
    refine x_istore [(10, .int x11), (0, .ref a0), (7, .ref v7), (8, .int v8), (9, .int v9)] dX1_feed_66 (by decide) rfl (n := 68) rfl ?_
    refine x_bipush 24 dX1_feed_68 rfl (n := 70) rfl ?_
    refine x_istore [(11, .int 24), (10, .int x11), (0, .ref a0), (7, .ref v7), (8, .int v8), (9, .int v9)] dX1_feed_70 (by decide) rfl (n := 72) rfl ?_
    refine x_sub [2, 3, 4, 5, 1, 0] [(0, .ref a0), (7, .ref v7), (8, .int v8), (9, .int v9), (10, .int x11), (11, .int 24)] rfl ?_
    exact f_X1_feed_72_lp hO a0 hk54 FU v7 v8 v9 x11 24 p0
theorem f_X1_feed_54_lp {G : xG} (hO : xOK G) (a0 : Nat)  (n : Nat) (v7 : Nat) (v8 : Int32) (v9 : Int32) (p0 : PH) : X G "ForestLegs" "feed" cX1_feed 12 (Option.some Jvm.ClassFile.FieldType.int) 0 54 [(0, .ref a0), (7, .ref v7), (8, .int v8), (9, .int v9)] [] p0 (lp (f_X1_feed_54F a0) n (v7, v8, v9, p0)) :=
  lp_ok (W := fun p K => X G "ForestLegs" "feed" cX1_feed 12 (Option.some Jvm.ClassFile.FieldType.int) 0 54 [(0, .ref a0), (7, .ref p.1), (8, .int p.2.1), (9, .int p.2.2.1)] [] p.2.2.2 K) (fun _ => x_no) (fun k hk => fun (v7, v8, v9, p0) => f_X1_feed_54F_ok hO a0 (fun v7 v8 v9 p0 => hk (v7, v8, v9, p0)) v7 v8 v9 p0) n (v7, v8, v9, p0)
theorem f_X1_feed_ok {G : xG} (hO : xOK G) (p0 : PH) (a0 : Nat) (a1 : Int32) (a2 : Int32) (a3 : Int32) (a4 : Int32) (a5 : Int32) : CT G 0 yX1_feed cX1_feed 12 (Option.some Jvm.ClassFile.FieldType.int) [.ref a0, .int a1, .int a2, .int a3, .int a4, .int a5] p0 (f_X1_feed p0 a0 a1 a2 a3 a4 a5) := by
  refine CT_of hO (by decide +kernel) (by decide +kernel) (Nat.le_of_ble_eq_true rfl) ?_
  show X G "ForestLegs" "feed" cX1_feed 12 (Option.some Jvm.ClassFile.FieldType.int) 0 0 [(0, .ref a0), (1, .int a1), (2, .int a2), (3, .int a3), (4, .int a4), (5, .int a5)] [] p0 (f_X1_feed p0 a0 a1 a2 a3 a4 a5)
  refine x_cl1 (fun e0 => ?_)
  refine x_aload_nr 0 dX1_feed_0 rfl rfl (n := 1) rfl ?_
  refine x_getI fl_X1_33 dX1_feed_1 (n := 4) rfl (fun x1 => ?_)
  refine x_bipush 20 dX1_feed_4 rfl (n := 6) rfl ?_
  refine x_iadd dX1_feed_6 (n := 7) rfl ?_
  refine x_sipush 900 dX1_feed_7 rfl (n := 10) rfl ?_
  refine x_icmp_le dX1_feed_10 (t := 15) (by decide) (n := 13) rfl (fun _ => ?_) (fun _ => ?_)
  · refine x_iconst 5 dX1_feed_15 rfl (n := 16) rfl ?_
    refine x_newI (t := 0) (atype := .int) rfl q241 rfl (by decide) dX1_feed_16 (n := 18) rfl (fun b2 p3 => ?_)
    refine x_dup dX1_feed_18 rfl (n := 19) rfl ?_
    refine x_iconst 0 dX1_feed_19 rfl (n := 20) rfl ?_
    refine x_iload_n 1 dX1_feed_20 rfl rfl (n := 21) rfl ?_
    refine x_iast (t := 0) rfl dX1_feed_21 (n := 22) rfl (fun p4 => ?_)
    refine x_dup dX1_feed_22 rfl (n := 23) rfl ?_
    refine x_iconst 1 dX1_feed_23 rfl (n := 24) rfl ?_
    refine x_iload_n 2 dX1_feed_24 rfl rfl (n := 25) rfl ?_
    refine x_iast (t := 0) rfl dX1_feed_25 (n := 26) rfl (fun p5 => ?_)
    refine x_dup dX1_feed_26 rfl (n := 27) rfl ?_
    refine x_iconst 2 dX1_feed_27 rfl (n := 28) rfl ?_
    refine x_iload_n 3 dX1_feed_28 rfl rfl (n := 29) rfl ?_
    refine x_iast (t := 0) rfl dX1_feed_29 (n := 30) rfl (fun p6 => ?_)
    refine x_dup dX1_feed_30 rfl (n := 31) rfl ?_
    refine x_iconst 3 dX1_feed_31 rfl (n := 32) rfl ?_
    refine x_iload 4 dX1_feed_32 rfl (n := 34) rfl ?_
    refine x_iast (t := 0) rfl dX1_feed_34 (n := 35) rfl (fun p7 => ?_)
    refine x_dup dX1_feed_35 rfl (n := 36) rfl ?_
    refine x_iconst 4 dX1_feed_36 rfl (n := 37) rfl ?_
    refine x_iload 5 dX1_feed_37 rfl (n := 39) rfl ?_
    refine x_iast (t := 0) rfl dX1_feed_39 (n := 40) rfl (fun p8 => ?_)
    refine x_astorer [(6, .ref b2), (0, .ref a0), (1, .int a1), (2, .int a2), (3, .int a3), (4, .int a4), (5, .int a5)] dX1_feed_40 (by decide) rfl (n := 42) rfl ?_
    refine x_aloadr 0 dX1_feed_42 rfl (n := 44) rfl ?_
    refine x_astorer [(7, .ref b2), (6, .ref b2), (0, .ref a0), (1, .int a1), (2, .int a2), (3, .int a3), (4, .int a4), (5, .int a5)] dX1_feed_44 (by decide) rfl (n := 46) rfl ?_
    refine x_aloadr 0 dX1_feed_46 rfl (n := 48) rfl ?_
    refine x_alen dX1_feed_48 (n := 49) rfl (fun x9 => ?_)
    refine x_istore [(8, .int x9), (7, .ref b2), (6, .ref b2), (0, .ref a0), (1, .int a1), (2, .int a2), (3, .int a3), (4, .int a4), (5, .int a5)] dX1_feed_49 (by decide) rfl (n := 51) rfl ?_
    refine x_iconst 0 dX1_feed_51 rfl (n := 52) rfl ?_
    refine x_istore [(9, .int 0), (8, .int x9), (7, .ref b2), (6, .ref b2), (0, .ref a0), (1, .int a1), (2, .int a2), (3, .int a3), (4, .int a4), (5, .int a5)] dX1_feed_52 (by decide) rfl (n := 54) rfl ?_
    refine x_sub [4, 2, 1, 0] [(0, .ref a0), (7, .ref b2), (8, .int x9), (9, .int 0)] rfl ?_
    exact f_X1_feed_54_lp hO a0 FU b2 x9 0 p8
  · refine x_iconst (-1) dX1_feed_13 rfl (n := 14) rfl ?_
    exact x_ireturn dX1_feed_14
abbrev cX1_isIn : ByteArray := prog_1_method_1_code
def yX1_isIn : MethodName := ⟨RX1, "isIn", "(III)Z"⟩
def dkwX1_isIn_0 : List UInt8 := [26, 27, 161, 0, 12, 26, 28, 163, 0, 7, 4, 167, 0, 4, 3, 172]
abbrev dktX1_isIn_0 : List UInt8 := dkwX1_isIn_0 ++ []
theorem dksX1_isIn_0 : cX1_isIn.data.toList.drop 0 = dktX1_isIn_0 := by decide +kernel
theorem dX1_isIn_0 : decode cX1_isIn 0 = .ok (.iload_n 0, 1) := dk_26 (dk_at dksX1_isIn_0 0 rfl rfl)
theorem dX1_isIn_1 : decode cX1_isIn 1 = .ok (.iload_n 1, 1) := dk_27 (dk_at dksX1_isIn_0 1 rfl rfl)
theorem dX1_isIn_2 : decode cX1_isIn 2 = .ok (.if_icmp .lt 12, 3) := dk_161 0 12 (dk_at dksX1_isIn_0 2 rfl rfl)
theorem dX1_isIn_5 : decode cX1_isIn 5 = .ok (.iload_n 0, 1) := dk_26 (dk_at dksX1_isIn_0 5 rfl rfl)
theorem dX1_isIn_6 : decode cX1_isIn 6 = .ok (.iload_n 2, 1) := dk_28 (dk_at dksX1_isIn_0 6 rfl rfl)
theorem dX1_isIn_7 : decode cX1_isIn 7 = .ok (.if_icmp .gt 7, 3) := dk_163 0 7 (dk_at dksX1_isIn_0 7 rfl rfl)
theorem dX1_isIn_10 : decode cX1_isIn 10 = .ok (.iconst 1, 1) := dk_4 (dk_at dksX1_isIn_0 10 rfl rfl)
theorem dX1_isIn_11 : decode cX1_isIn 11 = .ok (.goto 4, 3) := dk_167 0 4 (dk_at dksX1_isIn_0 11 rfl rfl)
theorem dX1_isIn_14 : decode cX1_isIn 14 = .ok (.iconst 0, 1) := dk_3 (dk_at dksX1_isIn_0 14 rfl rfl)
theorem dX1_isIn_15 : decode cX1_isIn 15 = .ok (.ireturn, 1) := dk_172 (dk_at dksX1_isIn_0 15 rfl rfl)
theorem md_X1_isIn : xMd yX1_isIn cX1_isIn 3 (Option.some Jvm.ClassFile.FieldType.boolean) 3 := ⟨q249, q123, by decide, by decide +kernel, by decide +kernel, by decide +kernel⟩
def f_X1_isIn (p0 : PH) (a0 : Int32) (a1 : Int32) (a2 : Int32) : Option (xO × PH) :=
  (if a0 < a1 then
  (if vp_nar .boolean 0 = 0 then rI 0 p0 else none) else
  (if a2 < a0 then
  (if vp_nar .boolean 0 = 0 then rI 0 p0 else none) else
  (if vp_nar .boolean 1 = 1 then rI 1 p0 else none)))
theorem f_X1_isIn_ok {G : xG} (hO : xOK G) (p0 : PH) (a0 : Int32) (a1 : Int32) (a2 : Int32) : CT G 0 yX1_isIn cX1_isIn 3 (Option.some Jvm.ClassFile.FieldType.boolean) [.int a0, .int a1, .int a2] p0 (f_X1_isIn p0 a0 a1 a2) := by
  refine CT_of hO (by decide +kernel) (by decide +kernel) (Nat.le_of_ble_eq_true rfl) ?_
  show X G "ForestLegs" "isIn" cX1_isIn 3 (Option.some Jvm.ClassFile.FieldType.boolean) 0 0 [(0, .int a0), (1, .int a1), (2, .int a2)] [] p0 (f_X1_isIn p0 a0 a1 a2)
  refine x_iload_n 0 dX1_isIn_0 rfl rfl (n := 1) rfl ?_
  refine x_iload_n 1 dX1_isIn_1 rfl rfl (n := 2) rfl ?_
  refine x_icmp_lt dX1_isIn_2 (t := 14) (by decide) (n := 5) rfl (fun _ => ?_) (fun _ => ?_)
  · refine x_iconst 0 dX1_isIn_14 rfl (n := 15) rfl ?_
    exact x_nreturn rfl dX1_isIn_15
  · refine x_iload_n 0 dX1_isIn_5 rfl rfl (n := 6) rfl ?_
    refine x_iload_n 2 dX1_isIn_6 rfl rfl (n := 7) rfl ?_
    refine x_icmp_gt dX1_isIn_7 (t := 14) (by decide) (n := 10) rfl (fun _ => ?_) (fun _ => ?_)
    · refine x_iconst 0 dX1_isIn_14 rfl (n := 15) rfl ?_
      exact x_nreturn rfl dX1_isIn_15
    · refine x_iconst 1 dX1_isIn_10 rfl (n := 11) rfl ?_
      refine x_goto dX1_isIn_11 (n := 15) (by decide) ?_
      exact x_nreturn rfl dX1_isIn_15
abbrev cX1_refused : ByteArray := prog_1_method_3_code
def yX1_refused : MethodName := ⟨RX1, "refused", "(I)I"⟩
def dkwX1_refused_0 : List UInt8 := [42, 27, 181, 0, 7, 42, 2, 181, 0, 11, 2, 172]
abbrev dktX1_refused_0 : List UInt8 := dkwX1_refused_0 ++ []
theorem dksX1_refused_0 : cX1_refused.data.toList.drop 0 = dktX1_refused_0 := by decide +kernel
theorem dX1_refused_0 : decode cX1_refused 0 = .ok (.aload_n 0, 1) := dk_42 (dk_at dksX1_refused_0 0 rfl rfl)
theorem dX1_refused_1 : decode cX1_refused 1 = .ok (.iload_n 1, 1) := dk_27 (dk_at dksX1_refused_0 1 rfl rfl)
theorem dX1_refused_2 : decode cX1_refused 2 = .ok (.putfield 7, 3) := dk_181 0 7 (dk_at dksX1_refused_0 2 rfl rfl)
theorem dX1_refused_5 : decode cX1_refused 5 = .ok (.aload_n 0, 1) := dk_42 (dk_at dksX1_refused_0 5 rfl rfl)
theorem dX1_refused_6 : decode cX1_refused 6 = .ok (.iconst (-1), 1) := dk_2 (dk_at dksX1_refused_0 6 rfl rfl)
theorem dX1_refused_7 : decode cX1_refused 7 = .ok (.putfield 11, 3) := dk_181 0 11 (dk_at dksX1_refused_0 7 rfl rfl)
theorem dX1_refused_10 : decode cX1_refused 10 = .ok (.iconst (-1), 1) := dk_2 (dk_at dksX1_refused_0 10 rfl rfl)
theorem dX1_refused_11 : decode cX1_refused 11 = .ok (.ireturn, 1) := dk_172 (dk_at dksX1_refused_0 11 rfl rfl)
theorem md_X1_refused : xMd yX1_refused cX1_refused 2 (Option.some Jvm.ClassFile.FieldType.int) 1 := ⟨q253, q123, by decide, by decide +kernel, by decide +kernel, by decide +kernel⟩
def f_X1_refused (p0 : PH) (a0 : Nat) (a1 : Int32) : Option (xO × PH) :=
  (xcl1 p0 a0 0 (xpF p0 a0 0 0 (.int a1) fun p1 =>
  (xpF p1 a0 0 1 (.int (-1)) fun p2 =>
  (rI (-1) p2))))
theorem rc_X1_refused {p0 : PH} {a0 : Nat} {a1 : Int32} : ∀ z, f_X1_refused p0 a0 a1 = some z → xco p0 a0 = some 0 := fun z h => xcl1_some h
theorem f_X1_refused_ok {G : xG} (hO : xOK G) (p0 : PH) (a0 : Nat) (a1 : Int32) : CT G 0 yX1_refused cX1_refused 2 (Option.some Jvm.ClassFile.FieldType.int) [.ref a0, .int a1] p0 (f_X1_refused p0 a0 a1) := by
  refine CT_of hO (by decide +kernel) (by decide +kernel) (Nat.le_of_ble_eq_true rfl) ?_
  show X G "ForestLegs" "refused" cX1_refused 2 (Option.some Jvm.ClassFile.FieldType.int) 0 0 [(0, .ref a0), (1, .int a1)] [] p0 (f_X1_refused p0 a0 a1)
  refine x_cl1 (fun e0 => ?_)
  refine x_aload_nr 0 dX1_refused_0 rfl rfl (n := 1) rfl ?_
  refine x_iload_n 1 dX1_refused_1 rfl rfl (n := 2) rfl ?_
  refine x_pF (pl_X1_7 _ _ ⟨rfl, rfl⟩) dX1_refused_2 (n := 5) rfl (fun p1 => ?_)
  refine x_aload_nr 0 dX1_refused_5 rfl rfl (n := 6) rfl ?_
  refine x_iconst (-1) dX1_refused_6 rfl (n := 7) rfl ?_
  refine x_pF (pl_X1_11 _ _ ⟨rfl, rfl⟩) dX1_refused_7 (n := 10) rfl (fun p2 => ?_)
  refine x_iconst (-1) dX1_refused_10 rfl (n := 11) rfl ?_
  exact x_ireturn dX1_refused_11
abbrev cJ2_init : ByteArray := prog_41_method_1_code
def yJ2_init : MethodName := ⟨RJ2, "<init>", "()V"⟩
def dkwJ2_init_0 : List UInt8 := [42, 183, 0, 1, 42, 3, 181, 0, 7, 177]
abbrev dktJ2_init_0 : List UInt8 := dkwJ2_init_0 ++ []
theorem dksJ2_init_0 : cJ2_init.data.toList.drop 0 = dktJ2_init_0 := by decide +kernel
theorem dJ2_init_0 : decode cJ2_init 0 = .ok (.aload_n 0, 1) := dk_42 (dk_at dksJ2_init_0 0 rfl rfl)
theorem dJ2_init_1 : decode cJ2_init 1 = .ok (.invokespecial 1, 3) := dk_183 0 1 (dk_at dksJ2_init_0 1 rfl rfl)
theorem dJ2_init_4 : decode cJ2_init 4 = .ok (.aload_n 0, 1) := dk_42 (dk_at dksJ2_init_0 4 rfl rfl)
theorem dJ2_init_5 : decode cJ2_init 5 = .ok (.iconst 0, 1) := dk_3 (dk_at dksJ2_init_0 5 rfl rfl)
theorem dJ2_init_6 : decode cJ2_init 6 = .ok (.putfield 7, 3) := dk_181 0 7 (dk_at dksJ2_init_0 6 rfl rfl)
theorem dJ2_init_9 : decode cJ2_init 9 = .ok (.return_, 1) := dk_177 (dk_at dksJ2_init_0 9 rfl rfl)
theorem md_J2_init : xMd yJ2_init cJ2_init 1 (Option.none : Option Jvm.ClassFile.FieldType) 0 := ⟨q273, q129, by decide, by decide +kernel, by decide +kernel, by decide +kernel⟩
def f_J2_init (p0 : PH) (a0 : Nat) : Option (xO × PH) :=
  (xcV (f_J0_init p0 a0 ) fun p1 =>
  (xpF p1 a0 14 0 (.int 0) fun p2 =>
  (rV p2)))
theorem f_J2_init_ok {G : xG} (hO : xOK G) (p0 : PH) (a0 : Nat) : CT G 2 yJ2_init cJ2_init 1 (Option.none : Option Jvm.ClassFile.FieldType) [.ref a0] p0 (f_J2_init p0 a0) := by
  refine CT_of hO (by decide +kernel) (by decide +kernel) (Nat.le_of_ble_eq_true rfl) ?_
  show X G "java/util/AbstractList" "<init>" cJ2_init 1 (Option.none : Option Jvm.ClassFile.FieldType) 2 0 [(0, .ref a0)] [] p0 (f_J2_init p0 a0)
  refine x_aload_nr 0 dJ2_init_0 rfl rfl (n := 1) rfl ?_
  refine x_callI_V [] [] (f_J0_init_ok hO p0 a0 ) md_J0_init rfl q274 q194 dJ2_init_1 rfl rfl (by decide) (Nat.le_of_ble_eq_true rfl) (n := 4) rfl (fun p1 => ?_)
  refine x_aload_nr 0 dJ2_init_4 rfl rfl (n := 5) rfl ?_
  refine x_iconst 0 dJ2_init_5 rfl (n := 6) rfl ?_
  refine x_pF (pl_J2_7 _ _ ⟨rfl, rfl⟩) dJ2_init_6 (n := 9) rfl (fun p2 => ?_)
  exact x_return dJ2_init_9
abbrev cJ3_init : ByteArray := prog_47_method_1_code
def yJ3_init : MethodName := ⟨RJ3, "<init>", "(I)V"⟩
def dkwJ3_init_2 : List UInt8 := [182, 0, 25, 27, 182, 0, 29, 182, 0, 32, 183, 0, 36, 191, 177]
abbrev dktJ3_init_2 : List UInt8 := dkwJ3_init_2 ++ []
def dkwJ3_init_1 : List UInt8 := [178, 0, 15, 181, 0, 9, 167, 0, 30, 187, 0, 18, 89, 187, 0, 20, 89, 183, 0, 22, 18, 23]
abbrev dktJ3_init_1 : List UInt8 := dkwJ3_init_1 ++ dktJ3_init_2
def dkwJ3_init_0 : List UInt8 := [42, 183, 0, 1, 27, 158, 0, 14, 42, 27, 189, 0, 7, 181, 0, 9, 167, 0, 44, 27, 154, 0, 13, 42]
abbrev dktJ3_init_0 : List UInt8 := dkwJ3_init_0 ++ dktJ3_init_1
theorem dksJ3_init_0 : cJ3_init.data.toList.drop 0 = dktJ3_init_0 := by decide +kernel
theorem dksJ3_init_1 : cJ3_init.data.toList.drop 24 = dktJ3_init_1 := dk_seg dksJ3_init_0 24 rfl rfl
theorem dksJ3_init_2 : cJ3_init.data.toList.drop 46 = dktJ3_init_2 := dk_seg dksJ3_init_1 22 rfl rfl
theorem dJ3_init_0 : decode cJ3_init 0 = .ok (.aload_n 0, 1) := dk_42 (dk_at dksJ3_init_0 0 rfl rfl)
theorem dJ3_init_1 : decode cJ3_init 1 = .ok (.invokespecial 1, 3) := dk_183 0 1 (dk_at dksJ3_init_0 1 rfl rfl)
theorem dJ3_init_4 : decode cJ3_init 4 = .ok (.iload_n 1, 1) := dk_27 (dk_at dksJ3_init_0 4 rfl rfl)
theorem dJ3_init_5 : decode cJ3_init 5 = .ok (.ifCond .le 14, 3) := dk_158 0 14 (dk_at dksJ3_init_0 5 rfl rfl)
theorem dJ3_init_8 : decode cJ3_init 8 = .ok (.aload_n 0, 1) := dk_42 (dk_at dksJ3_init_0 8 rfl rfl)
theorem dJ3_init_9 : decode cJ3_init 9 = .ok (.iload_n 1, 1) := dk_27 (dk_at dksJ3_init_0 9 rfl rfl)
theorem dJ3_init_10 : decode cJ3_init 10 = .ok (.anewarray 7, 3) := dk_189 0 7 (dk_at dksJ3_init_0 10 rfl rfl)
theorem dJ3_init_13 : decode cJ3_init 13 = .ok (.putfield 9, 3) := dk_181 0 9 (dk_at dksJ3_init_0 13 rfl rfl)
theorem dJ3_init_16 : decode cJ3_init 16 = .ok (.goto 44, 3) := dk_167 0 44 (dk_at dksJ3_init_0 16 rfl rfl)
theorem dJ3_init_19 : decode cJ3_init 19 = .ok (.iload_n 1, 1) := dk_27 (dk_at dksJ3_init_0 19 rfl rfl)
theorem dJ3_init_20 : decode cJ3_init 20 = .ok (.ifCond .ne 13, 3) := dk_154 0 13 (dk_at dksJ3_init_0 20 rfl rfl)
theorem dJ3_init_23 : decode cJ3_init 23 = .ok (.aload_n 0, 1) := dk_42 (dk_at dksJ3_init_0 23 rfl rfl)
theorem dJ3_init_24 : decode cJ3_init 24 = .ok (.getstatic 15, 3) := dk_178 0 15 (dk_at dksJ3_init_1 0 rfl rfl)
theorem dJ3_init_27 : decode cJ3_init 27 = .ok (.putfield 9, 3) := dk_181 0 9 (dk_at dksJ3_init_1 3 rfl rfl)
theorem dJ3_init_30 : decode cJ3_init 30 = .ok (.goto 30, 3) := dk_167 0 30 (dk_at dksJ3_init_1 6 rfl rfl)
theorem dJ3_init_33 : decode cJ3_init 33 = .ok (.new 18, 3) := dk_187 0 18 (dk_at dksJ3_init_1 9 rfl rfl)
theorem dJ3_init_36 : decode cJ3_init 36 = .ok (.dup, 1) := dk_89 (dk_at dksJ3_init_1 12 rfl rfl)
theorem dJ3_init_37 : decode cJ3_init 37 = .ok (.new 20, 3) := dk_187 0 20 (dk_at dksJ3_init_1 13 rfl rfl)
theorem dJ3_init_40 : decode cJ3_init 40 = .ok (.dup, 1) := dk_89 (dk_at dksJ3_init_1 16 rfl rfl)
theorem dJ3_init_41 : decode cJ3_init 41 = .ok (.invokespecial 22, 3) := dk_183 0 22 (dk_at dksJ3_init_1 17 rfl rfl)
theorem dJ3_init_44 : decode cJ3_init 44 = .ok (.ldc 23, 2) := dk_18 23 (dk_at dksJ3_init_1 20 rfl rfl)
theorem dJ3_init_46 : decode cJ3_init 46 = .ok (.invokevirtual 25, 3) := dk_182 0 25 (dk_at dksJ3_init_2 0 rfl rfl)
theorem dJ3_init_49 : decode cJ3_init 49 = .ok (.iload_n 1, 1) := dk_27 (dk_at dksJ3_init_2 3 rfl rfl)
theorem dJ3_init_50 : decode cJ3_init 50 = .ok (.invokevirtual 29, 3) := dk_182 0 29 (dk_at dksJ3_init_2 4 rfl rfl)
theorem dJ3_init_53 : decode cJ3_init 53 = .ok (.invokevirtual 32, 3) := dk_182 0 32 (dk_at dksJ3_init_2 7 rfl rfl)
theorem dJ3_init_56 : decode cJ3_init 56 = .ok (.invokespecial 36, 3) := dk_183 0 36 (dk_at dksJ3_init_2 10 rfl rfl)
theorem dJ3_init_59 : decode cJ3_init 59 = .ok (.athrow, 1) := dk_191 (dk_at dksJ3_init_2 13 rfl rfl)
theorem dJ3_init_60 : decode cJ3_init 60 = .ok (.return_, 1) := dk_177 (dk_at dksJ3_init_2 14 rfl rfl)
theorem md_J3_init : xMd yJ3_init cJ3_init 2 (Option.none : Option Jvm.ClassFile.FieldType) 1 := ⟨q270, q130, by decide, by decide +kernel, by decide +kernel, by decide +kernel⟩
def f_J3_init (p0 : PH) (a0 : Nat) (a1 : Int32) : Option (xO × PH) :=
  (xcV (f_J2_init p0 a0 ) fun p1 =>
  (if a1 ≤ 0 then
  (if a1 = 0 then
  (xcon p1 2 fun x2 =>
  (xpF p1 a0 14 1 (va_rf x2) fun p3 =>
  (rV p3))) else
  none) else
  (xnaR p1 4 a1 fun b4 p5 =>
  (xpF p5 a0 14 1 (.ref b4) fun p6 =>
  (rV p6)))))
theorem f_J3_init_ok {G : xG} (hO : xOK G) (p0 : PH) (a0 : Nat) (a1 : Int32) : CT G 3 yJ3_init cJ3_init 2 (Option.none : Option Jvm.ClassFile.FieldType) [.ref a0, .int a1] p0 (f_J3_init p0 a0 a1) := by
  refine CT_of hO (by decide +kernel) (by decide +kernel) (Nat.le_of_ble_eq_true rfl) ?_
  show X G "java/util/ArrayList" "<init>" cJ3_init 2 (Option.none : Option Jvm.ClassFile.FieldType) 3 0 [(0, .ref a0), (1, .int a1)] [] p0 (f_J3_init p0 a0 a1)
  refine x_aload_nr 0 dJ3_init_0 rfl rfl (n := 1) rfl ?_
  refine x_callI_V [] [] (f_J2_init_ok hO p0 a0 ) md_J2_init rfl q271 q272 dJ3_init_1 rfl rfl (by decide) (Nat.le_of_ble_eq_true rfl) (n := 4) rfl (fun p1 => ?_)
  refine x_iload_n 1 dJ3_init_4 rfl rfl (n := 5) rfl ?_
  refine x_if_le dJ3_init_5 (t := 19) (by decide) (n := 8) rfl (fun _ => ?_) (fun _ => ?_)
  · refine x_iload_n 1 dJ3_init_19 rfl rfl (n := 20) rfl ?_
    refine x_if_ne dJ3_init_20 (t := 33) (by decide) (n := 23) rfl (fun _ => ?_) (fun _ => ?_)
    · exact x_no
    · refine x_aload_nr 0 dJ3_init_23 rfl rfl (n := 24) rfl ?_
      refine x_getsR (j := 4) (k := 2) rfl rfl (Or.inl q276) dJ3_init_24 (n := 27) rfl (fun x2 => ?_)
      refine x_pF (pl_J3_9 _ _ (xfit_a (x2))) dJ3_init_27 (n := 30) rfl (fun p3 => ?_)
      refine x_goto dJ3_init_30 (n := 60) (by decide) ?_
      exact x_return dJ3_init_60
  · refine x_aload_nr 0 dJ3_init_8 rfl rfl (n := 9) rfl ?_
    refine x_iload_n 1 dJ3_init_9 rfl rfl (n := 10) rfl ?_
    refine x_anew (t := 4) rfl (by decide) q275 q199 dJ3_init_10 (n := 13) rfl (fun b4 p5 => ?_)
    refine x_pF (pl_J3_9 _ _ (xfit_a (some b4))) dJ3_init_13 (n := 16) rfl (fun p6 => ?_)
    refine x_goto dJ3_init_16 (n := 60) (by decide) ?_
    exact x_return dJ3_init_60
abbrev cX4_init : ByteArray := prog_7_method_1_code
def yX4_init : MethodName := ⟨RX4, "<init>", "()V"⟩
def dkwX4_init_1 : List UInt8 := [183, 0, 11, 181, 0, 20, 42, 16, 10, 181, 0, 23, 42, 16, 20, 181, 0, 27, 177]
abbrev dktX4_init_1 : List UInt8 := dkwX4_init_1 ++ []
def dkwX4_init_0 : List UInt8 := [42, 183, 0, 3, 42, 187, 0, 9, 89, 6, 183, 0, 11, 181, 0, 14, 42, 187, 0, 9, 89, 7]
abbrev dktX4_init_0 : List UInt8 := dkwX4_init_0 ++ dktX4_init_1
theorem dksX4_init_0 : cX4_init.data.toList.drop 0 = dktX4_init_0 := by decide +kernel
theorem dksX4_init_1 : cX4_init.data.toList.drop 22 = dktX4_init_1 := dk_seg dksX4_init_0 22 rfl rfl
theorem dX4_init_0 : decode cX4_init 0 = .ok (.aload_n 0, 1) := dk_42 (dk_at dksX4_init_0 0 rfl rfl)
theorem dX4_init_1 : decode cX4_init 1 = .ok (.invokespecial 3, 3) := dk_183 0 3 (dk_at dksX4_init_0 1 rfl rfl)
theorem dX4_init_4 : decode cX4_init 4 = .ok (.aload_n 0, 1) := dk_42 (dk_at dksX4_init_0 4 rfl rfl)
theorem dX4_init_5 : decode cX4_init 5 = .ok (.new 9, 3) := dk_187 0 9 (dk_at dksX4_init_0 5 rfl rfl)
theorem dX4_init_8 : decode cX4_init 8 = .ok (.dup, 1) := dk_89 (dk_at dksX4_init_0 8 rfl rfl)
theorem dX4_init_9 : decode cX4_init 9 = .ok (.iconst 3, 1) := dk_6 (dk_at dksX4_init_0 9 rfl rfl)
theorem dX4_init_10 : decode cX4_init 10 = .ok (.invokespecial 11, 3) := dk_183 0 11 (dk_at dksX4_init_0 10 rfl rfl)
theorem dX4_init_13 : decode cX4_init 13 = .ok (.putfield 14, 3) := dk_181 0 14 (dk_at dksX4_init_0 13 rfl rfl)
theorem dX4_init_16 : decode cX4_init 16 = .ok (.aload_n 0, 1) := dk_42 (dk_at dksX4_init_0 16 rfl rfl)
theorem dX4_init_17 : decode cX4_init 17 = .ok (.new 9, 3) := dk_187 0 9 (dk_at dksX4_init_0 17 rfl rfl)
theorem dX4_init_20 : decode cX4_init 20 = .ok (.dup, 1) := dk_89 (dk_at dksX4_init_0 20 rfl rfl)
theorem dX4_init_21 : decode cX4_init 21 = .ok (.iconst 4, 1) := dk_7 (dk_at dksX4_init_0 21 rfl rfl)
theorem dX4_init_22 : decode cX4_init 22 = .ok (.invokespecial 11, 3) := dk_183 0 11 (dk_at dksX4_init_1 0 rfl rfl)
theorem dX4_init_25 : decode cX4_init 25 = .ok (.putfield 20, 3) := dk_181 0 20 (dk_at dksX4_init_1 3 rfl rfl)
theorem dX4_init_28 : decode cX4_init 28 = .ok (.aload_n 0, 1) := dk_42 (dk_at dksX4_init_1 6 rfl rfl)
theorem dX4_init_29 : decode cX4_init 29 = .ok (.bipush 10, 2) := dk_16 10 (dk_at dksX4_init_1 7 rfl rfl)
theorem dX4_init_31 : decode cX4_init 31 = .ok (.putfield 23, 3) := dk_181 0 23 (dk_at dksX4_init_1 9 rfl rfl)
theorem dX4_init_34 : decode cX4_init 34 = .ok (.aload_n 0, 1) := dk_42 (dk_at dksX4_init_1 12 rfl rfl)
theorem dX4_init_35 : decode cX4_init 35 = .ok (.bipush 20, 2) := dk_16 20 (dk_at dksX4_init_1 13 rfl rfl)
theorem dX4_init_37 : decode cX4_init 37 = .ok (.putfield 27, 3) := dk_181 0 27 (dk_at dksX4_init_1 15 rfl rfl)
theorem dX4_init_40 : decode cX4_init 40 = .ok (.return_, 1) := dk_177 (dk_at dksX4_init_1 18 rfl rfl)
theorem md_X4_init : xMd yX4_init cX4_init 1 (Option.none : Option Jvm.ClassFile.FieldType) 0 := ⟨q264, q128, by decide, by decide +kernel, by decide +kernel, by decide +kernel⟩
def f_X4_init (p0 : PH) (a0 : Nat) : Option (xO × PH) :=
  (xnew p0 14 [.int 0, .null, .int 0] fun b1 p2 =>
  (xcV (f_J3_init p2 b1 3) fun p3 =>
  (xpF p3 a0 3 0 (.ref b1) fun p4 =>
  (xnew p4 14 [.int 0, .null, .int 0] fun b5 p6 =>
  (xcV (f_J3_init p6 b5 4) fun p7 =>
  (xpF p7 a0 3 1 (.ref b5) fun p8 =>
  (xpF p8 a0 3 2 (.int 10) fun p9 =>
  (xpF p9 a0 3 3 (.int 20) fun p10 =>
  (rV p10)))))))))
theorem f_X4_init_ok {G : xG} (hO : xOK G) (p0 : PH) (a0 : Nat) : CT G 4 yX4_init cX4_init 1 (Option.none : Option Jvm.ClassFile.FieldType) [.ref a0] p0 (f_X4_init p0 a0) := by
  refine CT_of hO (by decide +kernel) (by decide +kernel) (Nat.le_of_ble_eq_true rfl) ?_
  show X G "ForestLegs$Meet" "<init>" cX4_init 1 (Option.none : Option Jvm.ClassFile.FieldType) 4 0 [(0, .ref a0)] [] p0 (f_X4_init p0 a0)
  refine x_aload_nr 0 dX4_init_0 rfl rfl (n := 1) rfl ?_
  refine x_objInit q265 q186 q187 dX4_init_1 (by decide) (Nat.le_of_ble_eq_true rfl) (n := 4) rfl ?_
  refine x_aload_nr 0 dX4_init_4 rfl rfl (n := 5) rfl ?_
  refine x_new cl_14 (by decide) q266 q267 q130 rfl dX4_init_5 (n := 8) rfl (fun b1 p2 => ?_)
  refine x_dup dX4_init_8 rfl (n := 9) rfl ?_
  refine x_iconst 3 dX4_init_9 rfl (n := 10) rfl ?_
  refine x_callI_V [.int 3] [.ref b1, .ref a0] (f_J3_init_ok hO p2 b1 3) md_J3_init rfl q268 q269 dX4_init_10 rfl rfl (by decide) (Nat.le_of_ble_eq_true rfl) (n := 13) rfl (fun p3 => ?_)
  refine x_pF (pl_X4_14 _ (xfit_o (some b1))) dX4_init_13 (n := 16) rfl (fun p4 => ?_)
  refine x_aload_nr 0 dX4_init_16 rfl rfl (n := 17) rfl ?_
  refine x_new cl_14 (by decide) q266 q267 q130 rfl dX4_init_17 (n := 20) rfl (fun b5 p6 => ?_)
  refine x_dup dX4_init_20 rfl (n := 21) rfl ?_
  refine x_iconst 4 dX4_init_21 rfl (n := 22) rfl ?_
  refine x_callI_V [.int 4] [.ref b5, .ref a0] (f_J3_init_ok hO p6 b5 4) md_J3_init rfl q268 q269 dX4_init_22 rfl rfl (by decide) (Nat.le_of_ble_eq_true rfl) (n := 25) rfl (fun p7 => ?_)
  refine x_pF (pl_X4_20 _ (xfit_o (some b5))) dX4_init_25 (n := 28) rfl (fun p8 => ?_)
  refine x_aload_nr 0 dX4_init_28 rfl rfl (n := 29) rfl ?_
  refine x_bipush 10 dX4_init_29 rfl (n := 31) rfl ?_
  refine x_pF (pl_X4_23 _ _ ⟨rfl, rfl⟩) dX4_init_31 (n := 34) rfl (fun p9 => ?_)
  refine x_aload_nr 0 dX4_init_34 rfl rfl (n := 35) rfl ?_
  refine x_bipush 20 dX4_init_35 rfl (n := 37) rfl ?_
  refine x_pF (pl_X4_27 _ _ ⟨rfl, rfl⟩) dX4_init_37 (n := 40) rfl (fun p10 => ?_)
  exact x_return dX4_init_40
abbrev cJ4_init : ByteArray := prog_42_method_1_code
def yJ4_init : MethodName := ⟨RJ4, "<init>", "()V"⟩
theorem dJ4_init_0 : decode cJ4_init 0 = .ok (.aload_n 0, 1) := by decide +kernel
theorem dJ4_init_1 : decode cJ4_init 1 = .ok (.invokespecial 1, 3) := by decide +kernel
theorem dJ4_init_4 : decode cJ4_init 4 = .ok (.return_, 1) := by decide +kernel
theorem md_J4_init : xMd yJ4_init cJ4_init 1 (Option.none : Option Jvm.ClassFile.FieldType) 0 := ⟨q325, q131, by decide, by decide +kernel, by decide +kernel, by decide +kernel⟩
def f_J4_init (p0 : PH) (a0 : Nat) : Option (xO × PH) :=
  (rV p0)
theorem f_J4_init_ok {G : xG} (hO : xOK G) (p0 : PH) (a0 : Nat) : CT G 1 yJ4_init cJ4_init 1 (Option.none : Option Jvm.ClassFile.FieldType) [.ref a0] p0 (f_J4_init p0 a0) := by
  refine CT_of hO (by decide +kernel) (by decide +kernel) (Nat.le_of_ble_eq_true rfl) ?_
  show X G "java/util/AbstractMap" "<init>" cJ4_init 1 (Option.none : Option Jvm.ClassFile.FieldType) 1 0 [(0, .ref a0)] [] p0 (f_J4_init p0 a0)
  refine x_aload_nr 0 dJ4_init_0 rfl rfl (n := 1) rfl ?_
  refine x_objInit q326 q186 q187 dJ4_init_1 (by decide) (Nat.le_of_ble_eq_true rfl) (n := 4) rfl ?_
  exact x_return dJ4_init_4
abbrev cJ5_init : ByteArray := prog_77_method_1_code
def yJ5_init : MethodName := ⟨RJ5, "<init>", "()V"⟩
def dkwJ5_init_0 : List UInt8 := [42, 183, 0, 1, 42, 3, 181, 0, 7, 42, 3, 181, 0, 13, 42, 1, 181, 0, 16, 177]
abbrev dktJ5_init_0 : List UInt8 := dkwJ5_init_0 ++ []
theorem dksJ5_init_0 : cJ5_init.data.toList.drop 0 = dktJ5_init_0 := by decide +kernel
theorem dJ5_init_0 : decode cJ5_init 0 = .ok (.aload_n 0, 1) := dk_42 (dk_at dksJ5_init_0 0 rfl rfl)
theorem dJ5_init_1 : decode cJ5_init 1 = .ok (.invokespecial 1, 3) := dk_183 0 1 (dk_at dksJ5_init_0 1 rfl rfl)
theorem dJ5_init_4 : decode cJ5_init 4 = .ok (.aload_n 0, 1) := dk_42 (dk_at dksJ5_init_0 4 rfl rfl)
theorem dJ5_init_5 : decode cJ5_init 5 = .ok (.iconst 0, 1) := dk_3 (dk_at dksJ5_init_0 5 rfl rfl)
theorem dJ5_init_6 : decode cJ5_init 6 = .ok (.putfield 7, 3) := dk_181 0 7 (dk_at dksJ5_init_0 6 rfl rfl)
theorem dJ5_init_9 : decode cJ5_init 9 = .ok (.aload_n 0, 1) := dk_42 (dk_at dksJ5_init_0 9 rfl rfl)
theorem dJ5_init_10 : decode cJ5_init 10 = .ok (.iconst 0, 1) := dk_3 (dk_at dksJ5_init_0 10 rfl rfl)
theorem dJ5_init_11 : decode cJ5_init 11 = .ok (.putfield 13, 3) := dk_181 0 13 (dk_at dksJ5_init_0 11 rfl rfl)
theorem dJ5_init_14 : decode cJ5_init 14 = .ok (.aload_n 0, 1) := dk_42 (dk_at dksJ5_init_0 14 rfl rfl)
theorem dJ5_init_15 : decode cJ5_init 15 = .ok (.aconst_null, 1) := dk_1 (dk_at dksJ5_init_0 15 rfl rfl)
theorem dJ5_init_16 : decode cJ5_init 16 = .ok (.putfield 16, 3) := dk_181 0 16 (dk_at dksJ5_init_0 16 rfl rfl)
theorem dJ5_init_19 : decode cJ5_init 19 = .ok (.return_, 1) := dk_177 (dk_at dksJ5_init_0 19 rfl rfl)
theorem md_J5_init : xMd yJ5_init cJ5_init 1 (Option.none : Option Jvm.ClassFile.FieldType) 0 := ⟨q322, q132, by decide, by decide +kernel, by decide +kernel, by decide +kernel⟩
def f_J5_init (p0 : PH) (a0 : Nat) : Option (xO × PH) :=
  (xcV (f_J4_init p0 a0 ) fun p1 =>
  (xpF p1 a0 15 4 (.int 0) fun p2 =>
  (xpF p2 a0 15 5 (.int 0) fun p3 =>
  (xpF p3 a0 15 2 (va_rf none) fun p4 =>
  (rV p4)))))
theorem f_J5_init_ok {G : xG} (hO : xOK G) (p0 : PH) (a0 : Nat) : CT G 2 yJ5_init cJ5_init 1 (Option.none : Option Jvm.ClassFile.FieldType) [.ref a0] p0 (f_J5_init p0 a0) := by
  refine CT_of hO (by decide +kernel) (by decide +kernel) (Nat.le_of_ble_eq_true rfl) ?_
  show X G "java/util/TreeMap" "<init>" cJ5_init 1 (Option.none : Option Jvm.ClassFile.FieldType) 2 0 [(0, .ref a0)] [] p0 (f_J5_init p0 a0)
  refine x_aload_nr 0 dJ5_init_0 rfl rfl (n := 1) rfl ?_
  refine x_callI_V [] [] (f_J4_init_ok hO p0 a0 ) md_J4_init rfl q323 q324 dJ5_init_1 rfl rfl (by decide) (Nat.le_of_ble_eq_true rfl) (n := 4) rfl (fun p1 => ?_)
  refine x_aload_nr 0 dJ5_init_4 rfl rfl (n := 5) rfl ?_
  refine x_iconst 0 dJ5_init_5 rfl (n := 6) rfl ?_
  refine x_pF (pl_J5_7 _ _ ⟨rfl, rfl⟩) dJ5_init_6 (n := 9) rfl (fun p2 => ?_)
  refine x_aload_nr 0 dJ5_init_9 rfl rfl (n := 10) rfl ?_
  refine x_iconst 0 dJ5_init_10 rfl (n := 11) rfl ?_
  refine x_pF (pl_J5_13 _ _ ⟨rfl, rfl⟩) dJ5_init_11 (n := 14) rfl (fun p3 => ?_)
  refine x_aload_nr 0 dJ5_init_14 rfl rfl (n := 15) rfl ?_
  refine x_null dJ5_init_15 (n := 16) rfl ?_
  refine x_pF (pl_J5_16 _ (xfit_o (none))) dJ5_init_16 (n := 19) rfl (fun p4 => ?_)
  exact x_return dJ5_init_19
abbrev cX3_init : ByteArray := prog_10_method_1_code
def yX3_init : MethodName := ⟨RX3, "<init>", "(LForestLegs;I)V"⟩
def dkwX3_init_1 : List UInt8 := [89, 183, 0, 24, 181, 0, 25, 42, 28, 181, 0, 29, 177]
abbrev dktX3_init_1 : List UInt8 := dkwX3_init_1 ++ []
def dkwX3_init_0 : List UInt8 := [42, 43, 181, 0, 3, 42, 183, 0, 9, 42, 187, 0, 15, 89, 183, 0, 17, 181, 0, 18, 42, 187, 0, 22]
abbrev dktX3_init_0 : List UInt8 := dkwX3_init_0 ++ dktX3_init_1
theorem dksX3_init_0 : cX3_init.data.toList.drop 0 = dktX3_init_0 := by decide +kernel
theorem dksX3_init_1 : cX3_init.data.toList.drop 24 = dktX3_init_1 := dk_seg dksX3_init_0 24 rfl rfl
theorem dX3_init_0 : decode cX3_init 0 = .ok (.aload_n 0, 1) := dk_42 (dk_at dksX3_init_0 0 rfl rfl)
theorem dX3_init_1 : decode cX3_init 1 = .ok (.aload_n 1, 1) := dk_43 (dk_at dksX3_init_0 1 rfl rfl)
theorem dX3_init_2 : decode cX3_init 2 = .ok (.putfield 3, 3) := dk_181 0 3 (dk_at dksX3_init_0 2 rfl rfl)
theorem dX3_init_5 : decode cX3_init 5 = .ok (.aload_n 0, 1) := dk_42 (dk_at dksX3_init_0 5 rfl rfl)
theorem dX3_init_6 : decode cX3_init 6 = .ok (.invokespecial 9, 3) := dk_183 0 9 (dk_at dksX3_init_0 6 rfl rfl)
theorem dX3_init_9 : decode cX3_init 9 = .ok (.aload_n 0, 1) := dk_42 (dk_at dksX3_init_0 9 rfl rfl)
theorem dX3_init_10 : decode cX3_init 10 = .ok (.new 15, 3) := dk_187 0 15 (dk_at dksX3_init_0 10 rfl rfl)
theorem dX3_init_13 : decode cX3_init 13 = .ok (.dup, 1) := dk_89 (dk_at dksX3_init_0 13 rfl rfl)
theorem dX3_init_14 : decode cX3_init 14 = .ok (.invokespecial 17, 3) := dk_183 0 17 (dk_at dksX3_init_0 14 rfl rfl)
theorem dX3_init_17 : decode cX3_init 17 = .ok (.putfield 18, 3) := dk_181 0 18 (dk_at dksX3_init_0 17 rfl rfl)
theorem dX3_init_20 : decode cX3_init 20 = .ok (.aload_n 0, 1) := dk_42 (dk_at dksX3_init_0 20 rfl rfl)
theorem dX3_init_21 : decode cX3_init 21 = .ok (.new 22, 3) := dk_187 0 22 (dk_at dksX3_init_0 21 rfl rfl)
theorem dX3_init_24 : decode cX3_init 24 = .ok (.dup, 1) := dk_89 (dk_at dksX3_init_1 0 rfl rfl)
theorem dX3_init_25 : decode cX3_init 25 = .ok (.invokespecial 24, 3) := dk_183 0 24 (dk_at dksX3_init_1 1 rfl rfl)
theorem dX3_init_28 : decode cX3_init 28 = .ok (.putfield 25, 3) := dk_181 0 25 (dk_at dksX3_init_1 4 rfl rfl)
theorem dX3_init_31 : decode cX3_init 31 = .ok (.aload_n 0, 1) := dk_42 (dk_at dksX3_init_1 7 rfl rfl)
theorem dX3_init_32 : decode cX3_init 32 = .ok (.iload_n 2, 1) := dk_28 (dk_at dksX3_init_1 8 rfl rfl)
theorem dX3_init_33 : decode cX3_init 33 = .ok (.putfield 29, 3) := dk_181 0 29 (dk_at dksX3_init_1 9 rfl rfl)
theorem dX3_init_36 : decode cX3_init 36 = .ok (.return_, 1) := dk_177 (dk_at dksX3_init_1 12 rfl rfl)
theorem md_X3_init : xMd yX3_init cX3_init 3 (Option.none : Option Jvm.ClassFile.FieldType) 2 := ⟨q258, q127, by decide, by decide +kernel, by decide +kernel, by decide +kernel⟩
def f_X3_init (p0 : PH) (a0 : Nat) (a1 : Option Nat) (a2 : Int32) : Option (xO × PH) :=
  (xpF p0 a0 2 9 (va_rf a1) fun p1 =>
  (xnew p1 3 [.null, .null, .int 0, .int 0, .null] fun b2 p3 =>
  (xcV (f_X4_init p3 b2 ) fun p4 =>
  (xpF p4 a0 2 1 (.ref b2) fun p5 =>
  (xnew p5 15 [.null, .null, .null, .null, .int 0, .int 0, .null, .null, .null] fun b6 p7 =>
  (xcV (f_J5_init p7 b6 ) fun p8 =>
  (xpF p8 a0 2 2 (.ref b6) fun p9 =>
  (xpF p9 a0 2 0 (.int a2) fun p10 =>
  (rV p10)))))))))
theorem f_X3_init_ok {G : xG} (hO : xOK G) (p0 : PH) (a0 : Nat) (a1 : Option Nat) (a2 : Int32) : CT G 5 yX3_init cX3_init 3 (Option.none : Option Jvm.ClassFile.FieldType) [.ref a0, va_rf a1, .int a2] p0 (f_X3_init p0 a0 a1 a2) := by
  refine CT_of hO (by decide +kernel) (by decide +kernel) (lg_slen _ (by simp only [List.map, xcat]; exact Nat.le_of_ble_eq_true rfl)) ?_
  rw [show lv_args 0 [.ref a0, va_rf a1, .int a2] = [(0, .ref a0), (1, va_rf a1), (2, .int a2)] from by simp only [lv_args, xcat] <;> rfl]
  show X G "ForestLegs$Reader" "<init>" cX3_init 3 (Option.none : Option Jvm.ClassFile.FieldType) 5 0 [(0, .ref a0), (1, va_rf a1), (2, .int a2)] [] p0 (f_X3_init p0 a0 a1 a2)
  refine x_aload_nr 0 dX3_init_0 rfl rfl (n := 1) rfl ?_
  refine x_aload_n 1 dX3_init_1 rfl rfl (n := 2) rfl ?_
  refine x_pF (pl_X3_3 _ (xfit_o (a1))) dX3_init_2 (n := 5) rfl (fun p1 => ?_)
  refine x_aload_nr 0 dX3_init_5 rfl rfl (n := 6) rfl ?_
  refine x_objInit q259 q186 q187 dX3_init_6 (by decide) (Nat.le_of_ble_eq_true rfl) (n := 9) rfl ?_
  refine x_aload_nr 0 dX3_init_9 rfl rfl (n := 10) rfl ?_
  refine x_new cl_3 (by decide) q260 q261 q128 rfl dX3_init_10 (n := 13) rfl (fun b2 p3 => ?_)
  refine x_dup dX3_init_13 rfl (n := 14) rfl ?_
  refine x_callIN_V [] [.ref b2, .ref a0] (f_X4_init_ok hO p3 b2 ) md_X4_init rfl q262 q263 dX3_init_14 rfl rfl (by decide) (Nat.le_of_ble_eq_true rfl) (n := 17) rfl (fun p4 => ?_)
  refine x_pF (pl_X3_18 _ (xfit_o (some b2))) dX3_init_17 (n := 20) rfl (fun p5 => ?_)
  refine x_aload_nr 0 dX3_init_20 rfl rfl (n := 21) rfl ?_
  refine x_new cl_15 (by decide) q318 q319 q132 rfl dX3_init_21 (n := 24) rfl (fun b6 p7 => ?_)
  refine x_dup dX3_init_24 rfl (n := 25) rfl ?_
  refine x_callI_V [] [.ref b6, .ref a0] (f_J5_init_ok hO p7 b6 ) md_J5_init rfl q320 q321 dX3_init_25 rfl rfl (by decide) (Nat.le_of_ble_eq_true rfl) (n := 28) rfl (fun p8 => ?_)
  refine x_pF (pl_X3_25 _ (xfit_o (some b6))) dX3_init_28 (n := 31) rfl (fun p9 => ?_)
  refine x_aload_nr 0 dX3_init_31 rfl rfl (n := 32) rfl ?_
  refine x_iload_n 2 dX3_init_32 rfl rfl (n := 33) rfl ?_
  refine x_pF (pl_X3_29 _ ⟨rfl, rfl⟩) dX3_init_33 (n := 36) rfl (fun p10 => ?_)
  exact x_return dX3_init_36
abbrev cX3_byteAt : ByteArray := prog_10_method_2_code
def yX3_byteAt : MethodName := ⟨RX3, "byteAt", "(I)I"⟩
def dkwX3_byteAt_1 : List UInt8 := [3, 172]
abbrev dktX3_byteAt_1 : List UInt8 := dkwX3_byteAt_1 ++ []
def dkwX3_byteAt_0 : List UInt8 := [27, 42, 180, 0, 29, 162, 0, 19, 42, 180, 0, 3, 180, 0, 33, 27, 51, 17, 0, 255, 126, 167, 0, 4]
abbrev dktX3_byteAt_0 : List UInt8 := dkwX3_byteAt_0 ++ dktX3_byteAt_1
theorem dksX3_byteAt_0 : cX3_byteAt.data.toList.drop 0 = dktX3_byteAt_0 := by decide +kernel
theorem dksX3_byteAt_1 : cX3_byteAt.data.toList.drop 24 = dktX3_byteAt_1 := dk_seg dksX3_byteAt_0 24 rfl rfl
theorem dX3_byteAt_0 : decode cX3_byteAt 0 = .ok (.iload_n 1, 1) := dk_27 (dk_at dksX3_byteAt_0 0 rfl rfl)
theorem dX3_byteAt_1 : decode cX3_byteAt 1 = .ok (.aload_n 0, 1) := dk_42 (dk_at dksX3_byteAt_0 1 rfl rfl)
theorem dX3_byteAt_2 : decode cX3_byteAt 2 = .ok (.getfield 29, 3) := dk_180 0 29 (dk_at dksX3_byteAt_0 2 rfl rfl)
theorem dX3_byteAt_5 : decode cX3_byteAt 5 = .ok (.if_icmp .ge 19, 3) := dk_162 0 19 (dk_at dksX3_byteAt_0 5 rfl rfl)
theorem dX3_byteAt_8 : decode cX3_byteAt 8 = .ok (.aload_n 0, 1) := dk_42 (dk_at dksX3_byteAt_0 8 rfl rfl)
theorem dX3_byteAt_9 : decode cX3_byteAt 9 = .ok (.getfield 3, 3) := dk_180 0 3 (dk_at dksX3_byteAt_0 9 rfl rfl)
theorem dX3_byteAt_12 : decode cX3_byteAt 12 = .ok (.getfield 33, 3) := dk_180 0 33 (dk_at dksX3_byteAt_0 12 rfl rfl)
theorem dX3_byteAt_15 : decode cX3_byteAt 15 = .ok (.iload_n 1, 1) := dk_27 (dk_at dksX3_byteAt_0 15 rfl rfl)
theorem dX3_byteAt_16 : decode cX3_byteAt 16 = .ok (.baload, 1) := dk_51 (dk_at dksX3_byteAt_0 16 rfl rfl)
theorem dX3_byteAt_17 : decode cX3_byteAt 17 = .ok (.sipush 255, 3) := dk_17 0 255 (dk_at dksX3_byteAt_0 17 rfl rfl)
theorem dX3_byteAt_20 : decode cX3_byteAt 20 = .ok (.iand, 1) := dk_126 (dk_at dksX3_byteAt_0 20 rfl rfl)
theorem dX3_byteAt_21 : decode cX3_byteAt 21 = .ok (.goto 4, 3) := dk_167 0 4 (dk_at dksX3_byteAt_0 21 rfl rfl)
theorem dX3_byteAt_24 : decode cX3_byteAt 24 = .ok (.iconst 0, 1) := dk_3 (dk_at dksX3_byteAt_1 0 rfl rfl)
theorem dX3_byteAt_25 : decode cX3_byteAt 25 = .ok (.ireturn, 1) := dk_172 (dk_at dksX3_byteAt_1 1 rfl rfl)
theorem md_X3_byteAt : xMd yX3_byteAt cX3_byteAt 2 (Option.some Jvm.ClassFile.FieldType.int) 1 := ⟨q394, q127, by decide, by decide +kernel, by decide +kernel, by decide +kernel⟩
def f_X3_byteAt (p0 : PH) (a0 : Nat) (a1 : Int32) : Option (xO × PH) :=
  (xcl1 p0 a0 2 (xgI p0 a0 2 0 fun x1 =>
  (if x1 ≤ a1 then
  (rI 0 p0) else
  (xgR p0 a0 2 9 fun x2 =>
  (xnul x2 none fun b3 =>
  (xgR p0 b3 0 2 fun x4 =>
  (xnul x4 none fun b5 =>
  (xaI p0 b5 2 a1 fun x6 =>
  (rI (x6 &&& 255) p0)))))))))
theorem rc_X3_byteAt {p0 : PH} {a0 : Nat} {a1 : Int32} : ∀ z, f_X3_byteAt p0 a0 a1 = some z → xco p0 a0 = some 2 := fun z h => xcl1_some h
theorem f_X3_byteAt_ok {G : xG} (hO : xOK G) (p0 : PH) (a0 : Nat) (a1 : Int32) : CT G 0 yX3_byteAt cX3_byteAt 2 (Option.some Jvm.ClassFile.FieldType.int) [.ref a0, .int a1] p0 (f_X3_byteAt p0 a0 a1) := by
  refine CT_of hO (by decide +kernel) (by decide +kernel) (Nat.le_of_ble_eq_true rfl) ?_
  show X G "ForestLegs$Reader" "byteAt" cX3_byteAt 2 (Option.some Jvm.ClassFile.FieldType.int) 0 0 [(0, .ref a0), (1, .int a1)] [] p0 (f_X3_byteAt p0 a0 a1)
  refine x_cl1 (fun e0 => ?_)
  refine x_iload_n 1 dX3_byteAt_0 rfl rfl (n := 1) rfl ?_
  refine x_aload_nr 0 dX3_byteAt_1 rfl rfl (n := 2) rfl ?_
  refine x_getI fl_X3_29 dX3_byteAt_2 (n := 5) rfl (fun x1 => ?_)
  refine x_icmp_ge dX3_byteAt_5 (t := 24) (by decide) (n := 8) rfl (fun _ => ?_) (fun _ => ?_)
  · refine x_iconst 0 dX3_byteAt_24 rfl (n := 25) rfl ?_
    exact x_ireturn dX3_byteAt_25
  · refine x_aload_nr 0 dX3_byteAt_8 rfl rfl (n := 9) rfl ?_
    refine x_getR fl_X3_3 dX3_byteAt_9 (n := 12) rfl (fun x2 => ?_)
    refine x_sm (fun b3 e => ?_)
    subst e
    refine x_getR fl_X3_33 dX3_byteAt_12 (n := 15) rfl (fun x4 => ?_)
    refine x_iload_n 1 dX3_byteAt_15 rfl rfl (n := 16) rfl ?_
    refine x_sm (fun b5 e => ?_)
    subst e
    refine x_bald (t := 2) rfl dX3_byteAt_16 (n := 17) rfl (fun x6 => ?_)
    refine x_sipush 255 dX3_byteAt_17 rfl (n := 20) rfl ?_
    refine x_iand dX3_byteAt_20 (n := 21) rfl ?_
    refine x_goto dX3_byteAt_21 (n := 25) (by decide) ?_
    exact x_ireturn dX3_byteAt_25
abbrev cX3_isLetter : ByteArray := prog_10_method_3_code
def yX3_isLetter : MethodName := ⟨RX3, "isLetter", "(I)Z"⟩
def dkwX3_isLetter_0 : List UInt8 := [42, 27, 182, 0, 37, 16, 97, 16, 122, 184, 0, 41, 172]
abbrev dktX3_isLetter_0 : List UInt8 := dkwX3_isLetter_0 ++ []
theorem dksX3_isLetter_0 : cX3_isLetter.data.toList.drop 0 = dktX3_isLetter_0 := by decide +kernel
theorem dX3_isLetter_0 : decode cX3_isLetter 0 = .ok (.aload_n 0, 1) := dk_42 (dk_at dksX3_isLetter_0 0 rfl rfl)
theorem dX3_isLetter_1 : decode cX3_isLetter 1 = .ok (.iload_n 1, 1) := dk_27 (dk_at dksX3_isLetter_0 1 rfl rfl)
theorem dX3_isLetter_2 : decode cX3_isLetter 2 = .ok (.invokevirtual 37, 3) := dk_182 0 37 (dk_at dksX3_isLetter_0 2 rfl rfl)
theorem dX3_isLetter_5 : decode cX3_isLetter 5 = .ok (.bipush 97, 2) := dk_16 97 (dk_at dksX3_isLetter_0 5 rfl rfl)
theorem dX3_isLetter_7 : decode cX3_isLetter 7 = .ok (.bipush 122, 2) := dk_16 122 (dk_at dksX3_isLetter_0 7 rfl rfl)
theorem dX3_isLetter_9 : decode cX3_isLetter 9 = .ok (.invokestatic 41, 3) := dk_184 0 41 (dk_at dksX3_isLetter_0 9 rfl rfl)
theorem dX3_isLetter_12 : decode cX3_isLetter 12 = .ok (.ireturn, 1) := dk_172 (dk_at dksX3_isLetter_0 12 rfl rfl)
theorem md_X3_isLetter : xMd yX3_isLetter cX3_isLetter 2 (Option.some Jvm.ClassFile.FieldType.boolean) 1 := ⟨q398, q127, by decide, by decide +kernel, by decide +kernel, by decide +kernel⟩
def f_X3_isLetter (p0 : PH) (a0 : Nat) (a1 : Int32) : Option (xO × PH) :=
  (xcl1 p0 a0 2 (xcI (f_X3_byteAt p0 a0 a1) fun x2 p1 =>
  (xcI (f_X1_isIn p1 x2 97 122) fun x4 p3 =>
  (if vp_nar .boolean x4 = x4 then rI x4 p3 else none))))
theorem rc_X3_isLetter {p0 : PH} {a0 : Nat} {a1 : Int32} : ∀ z, f_X3_isLetter p0 a0 a1 = some z → xco p0 a0 = some 2 := fun z h => xcl1_some h
theorem f_X3_isLetter_ok {G : xG} (hO : xOK G) (p0 : PH) (a0 : Nat) (a1 : Int32) : CT G 1 yX3_isLetter cX3_isLetter 2 (Option.some Jvm.ClassFile.FieldType.boolean) [.ref a0, .int a1] p0 (f_X3_isLetter p0 a0 a1) := by
  refine CT_of hO (by decide +kernel) (by decide +kernel) (Nat.le_of_ble_eq_true rfl) ?_
  show X G "ForestLegs$Reader" "isLetter" cX3_isLetter 2 (Option.some Jvm.ClassFile.FieldType.boolean) 1 0 [(0, .ref a0), (1, .int a1)] [] p0 (f_X3_isLetter p0 a0 a1)
  refine x_cl1 (fun e0 => ?_)
  refine x_aload_nr 0 dX3_isLetter_0 rfl rfl (n := 1) rfl ?_
  refine x_iload_n 1 dX3_isLetter_1 rfl rfl (n := 2) rfl ?_
  refine x_callV_I [.int a1] [] (f_X3_byteAt_ok hO p0 a0 a1) rc_X3_byteAt md_X3_byteAt rfl q391 q393 qs2 dX3_isLetter_2 rfl rfl (by decide) (Nat.le_of_ble_eq_true rfl) (n := 5) rfl (fun x2 p1 => ?_)
  refine x_bipush 97 dX3_isLetter_5 rfl (n := 7) rfl ?_
  refine x_bipush 122 dX3_isLetter_7 rfl (n := 9) rfl ?_
  refine x_callSN_I [.int x2, .int 97, .int 122] [] (f_X1_isIn_ok hO p1 x2 97 122) md_X1_isIn q399 q248 dX3_isLetter_9 rfl rfl (by decide) (Nat.le_of_ble_eq_true rfl) (n := 12) rfl (fun x4 p3 => ?_)
  exact x_nreturn rfl dX3_isLetter_12
abbrev cX3_isDigit : ByteArray := prog_10_method_4_code
def yX3_isDigit : MethodName := ⟨RX3, "isDigit", "(I)Z"⟩
def dkwX3_isDigit_0 : List UInt8 := [42, 27, 182, 0, 37, 16, 48, 16, 57, 184, 0, 41, 172]
abbrev dktX3_isDigit_0 : List UInt8 := dkwX3_isDigit_0 ++ []
theorem dksX3_isDigit_0 : cX3_isDigit.data.toList.drop 0 = dktX3_isDigit_0 := by decide +kernel
theorem dX3_isDigit_0 : decode cX3_isDigit 0 = .ok (.aload_n 0, 1) := dk_42 (dk_at dksX3_isDigit_0 0 rfl rfl)
theorem dX3_isDigit_1 : decode cX3_isDigit 1 = .ok (.iload_n 1, 1) := dk_27 (dk_at dksX3_isDigit_0 1 rfl rfl)
theorem dX3_isDigit_2 : decode cX3_isDigit 2 = .ok (.invokevirtual 37, 3) := dk_182 0 37 (dk_at dksX3_isDigit_0 2 rfl rfl)
theorem dX3_isDigit_5 : decode cX3_isDigit 5 = .ok (.bipush 48, 2) := dk_16 48 (dk_at dksX3_isDigit_0 5 rfl rfl)
theorem dX3_isDigit_7 : decode cX3_isDigit 7 = .ok (.bipush 57, 2) := dk_16 57 (dk_at dksX3_isDigit_0 7 rfl rfl)
theorem dX3_isDigit_9 : decode cX3_isDigit 9 = .ok (.invokestatic 41, 3) := dk_184 0 41 (dk_at dksX3_isDigit_0 9 rfl rfl)
theorem dX3_isDigit_12 : decode cX3_isDigit 12 = .ok (.ireturn, 1) := dk_172 (dk_at dksX3_isDigit_0 12 rfl rfl)
theorem md_X3_isDigit : xMd yX3_isDigit cX3_isDigit 2 (Option.some Jvm.ClassFile.FieldType.boolean) 1 := ⟨q403, q127, by decide, by decide +kernel, by decide +kernel, by decide +kernel⟩
def f_X3_isDigit (p0 : PH) (a0 : Nat) (a1 : Int32) : Option (xO × PH) :=
  (xcl1 p0 a0 2 (xcI (f_X3_byteAt p0 a0 a1) fun x2 p1 =>
  (xcI (f_X1_isIn p1 x2 48 57) fun x4 p3 =>
  (if vp_nar .boolean x4 = x4 then rI x4 p3 else none))))
theorem rc_X3_isDigit {p0 : PH} {a0 : Nat} {a1 : Int32} : ∀ z, f_X3_isDigit p0 a0 a1 = some z → xco p0 a0 = some 2 := fun z h => xcl1_some h
theorem f_X3_isDigit_ok {G : xG} (hO : xOK G) (p0 : PH) (a0 : Nat) (a1 : Int32) : CT G 1 yX3_isDigit cX3_isDigit 2 (Option.some Jvm.ClassFile.FieldType.boolean) [.ref a0, .int a1] p0 (f_X3_isDigit p0 a0 a1) := by
  refine CT_of hO (by decide +kernel) (by decide +kernel) (Nat.le_of_ble_eq_true rfl) ?_
  show X G "ForestLegs$Reader" "isDigit" cX3_isDigit 2 (Option.some Jvm.ClassFile.FieldType.boolean) 1 0 [(0, .ref a0), (1, .int a1)] [] p0 (f_X3_isDigit p0 a0 a1)
  refine x_cl1 (fun e0 => ?_)
  refine x_aload_nr 0 dX3_isDigit_0 rfl rfl (n := 1) rfl ?_
  refine x_iload_n 1 dX3_isDigit_1 rfl rfl (n := 2) rfl ?_
  refine x_callV_I [.int a1] [] (f_X3_byteAt_ok hO p0 a0 a1) rc_X3_byteAt md_X3_byteAt rfl q391 q393 qs2 dX3_isDigit_2 rfl rfl (by decide) (Nat.le_of_ble_eq_true rfl) (n := 5) rfl (fun x2 p1 => ?_)
  refine x_bipush 48 dX3_isDigit_5 rfl (n := 7) rfl ?_
  refine x_bipush 57 dX3_isDigit_7 rfl (n := 9) rfl ?_
  refine x_callSN_I [.int x2, .int 48, .int 57] [] (f_X1_isIn_ok hO p1 x2 48 57) md_X1_isIn q399 q248 dX3_isDigit_9 rfl rfl (by decide) (Nat.le_of_ble_eq_true rfl) (n := 12) rfl (fun x4 p3 => ?_)
  exact x_nreturn rfl dX3_isDigit_12
abbrev cJ6_isLatin1 : ByteArray := prog_31_method_154_code
def yJ6_isLatin1 : MethodName := ⟨RJ6, "isLatin1", "()Z"⟩
def dkwJ6_isLatin1_0 : List UInt8 := [178, 0, 38, 153, 0, 14, 42, 180, 0, 15, 154, 0, 7, 4, 167, 0, 4, 3, 172]
abbrev dktJ6_isLatin1_0 : List UInt8 := dkwJ6_isLatin1_0 ++ []
theorem dksJ6_isLatin1_0 : cJ6_isLatin1.data.toList.drop 0 = dktJ6_isLatin1_0 := by decide +kernel
theorem dJ6_isLatin1_0 : decode cJ6_isLatin1 0 = .ok (.getstatic 38, 3) := dk_178 0 38 (dk_at dksJ6_isLatin1_0 0 rfl rfl)
theorem dJ6_isLatin1_3 : decode cJ6_isLatin1 3 = .ok (.ifCond .eq 14, 3) := dk_153 0 14 (dk_at dksJ6_isLatin1_0 3 rfl rfl)
theorem dJ6_isLatin1_6 : decode cJ6_isLatin1 6 = .ok (.aload_n 0, 1) := dk_42 (dk_at dksJ6_isLatin1_0 6 rfl rfl)
theorem dJ6_isLatin1_7 : decode cJ6_isLatin1 7 = .ok (.getfield 15, 3) := dk_180 0 15 (dk_at dksJ6_isLatin1_0 7 rfl rfl)
theorem dJ6_isLatin1_10 : decode cJ6_isLatin1 10 = .ok (.ifCond .ne 7, 3) := dk_154 0 7 (dk_at dksJ6_isLatin1_0 10 rfl rfl)
theorem dJ6_isLatin1_13 : decode cJ6_isLatin1 13 = .ok (.iconst 1, 1) := dk_4 (dk_at dksJ6_isLatin1_0 13 rfl rfl)
theorem dJ6_isLatin1_14 : decode cJ6_isLatin1 14 = .ok (.goto 4, 3) := dk_167 0 4 (dk_at dksJ6_isLatin1_0 14 rfl rfl)
theorem dJ6_isLatin1_17 : decode cJ6_isLatin1 17 = .ok (.iconst 0, 1) := dk_3 (dk_at dksJ6_isLatin1_0 17 rfl rfl)
theorem dJ6_isLatin1_18 : decode cJ6_isLatin1 18 = .ok (.ireturn, 1) := dk_172 (dk_at dksJ6_isLatin1_0 18 rfl rfl)
theorem md_J6_isLatin1 : xMd yJ6_isLatin1 cJ6_isLatin1 1 (Option.some Jvm.ClassFile.FieldType.boolean) 0 := ⟨q416, q133, by decide, by decide +kernel, by decide +kernel, by decide +kernel⟩
def f_J6_isLatin1 (p0 : PH) (a0 : Nat) : Option (xO × PH) :=
  (xcl1 p0 a0 16 (if (1 : Int32) = 0 then
  (if vp_nar .boolean 0 = 0 then rI 0 p0 else none) else
  (xgI p0 a0 16 1 fun x1 =>
  (if x1 = 0 then
  (if vp_nar .boolean 1 = 1 then rI 1 p0 else none) else
  (if vp_nar .boolean 0 = 0 then rI 0 p0 else none)))))
theorem rc_J6_isLatin1 {p0 : PH} {a0 : Nat} : ∀ z, f_J6_isLatin1 p0 a0 = some z → xco p0 a0 = some 16 := fun z h => xcl1_some h
theorem f_J6_isLatin1_ok {G : xG} (hO : xOK G) (p0 : PH) (a0 : Nat) : CT G 0 yJ6_isLatin1 cJ6_isLatin1 1 (Option.some Jvm.ClassFile.FieldType.boolean) [.ref a0] p0 (f_J6_isLatin1 p0 a0) := by
  refine CT_of hO (by decide +kernel) (by decide +kernel) (Nat.le_of_ble_eq_true rfl) ?_
  show X G "java/lang/String" "isLatin1" cJ6_isLatin1 1 (Option.some Jvm.ClassFile.FieldType.boolean) 0 0 [(0, .ref a0)] [] p0 (f_J6_isLatin1 p0 a0)
  refine x_cl1 (fun e0 => ?_)
  refine x_getsI (j := 3) rfl (Or.inl q417) dJ6_isLatin1_0 (n := 3) rfl ?_
  refine x_if_eq dJ6_isLatin1_3 (t := 17) (by decide) (n := 6) rfl (fun _ => ?_) (fun _ => ?_)
  · refine x_iconst 0 dJ6_isLatin1_17 rfl (n := 18) rfl ?_
    exact x_nreturn rfl dJ6_isLatin1_18
  · refine x_aload_nr 0 dJ6_isLatin1_6 rfl rfl (n := 7) rfl ?_
    refine x_getI fl_J6_15 dJ6_isLatin1_7 (n := 10) rfl (fun x1 => ?_)
    refine x_if_ne dJ6_isLatin1_10 (t := 17) (by decide) (n := 13) rfl (fun _ => ?_) (fun _ => ?_)
    · refine x_iconst 0 dJ6_isLatin1_17 rfl (n := 18) rfl ?_
      exact x_nreturn rfl dJ6_isLatin1_18
    · refine x_iconst 1 dJ6_isLatin1_13 rfl (n := 14) rfl ?_
      refine x_goto dJ6_isLatin1_14 (n := 18) (by decide) ?_
      exact x_nreturn rfl dJ6_isLatin1_18
abbrev cJ6_coder : ByteArray := prog_31_method_152_code
def yJ6_coder : MethodName := ⟨RJ6, "coder", "()B"⟩
def dkwJ6_coder_0 : List UInt8 := [178, 0, 38, 153, 0, 10, 42, 180, 0, 15, 167, 0, 4, 4, 172]
abbrev dktJ6_coder_0 : List UInt8 := dkwJ6_coder_0 ++ []
theorem dksJ6_coder_0 : cJ6_coder.data.toList.drop 0 = dktJ6_coder_0 := by decide +kernel
theorem dJ6_coder_0 : decode cJ6_coder 0 = .ok (.getstatic 38, 3) := dk_178 0 38 (dk_at dksJ6_coder_0 0 rfl rfl)
theorem dJ6_coder_3 : decode cJ6_coder 3 = .ok (.ifCond .eq 10, 3) := dk_153 0 10 (dk_at dksJ6_coder_0 3 rfl rfl)
theorem dJ6_coder_6 : decode cJ6_coder 6 = .ok (.aload_n 0, 1) := dk_42 (dk_at dksJ6_coder_0 6 rfl rfl)
theorem dJ6_coder_7 : decode cJ6_coder 7 = .ok (.getfield 15, 3) := dk_180 0 15 (dk_at dksJ6_coder_0 7 rfl rfl)
theorem dJ6_coder_10 : decode cJ6_coder 10 = .ok (.goto 4, 3) := dk_167 0 4 (dk_at dksJ6_coder_0 10 rfl rfl)
theorem dJ6_coder_13 : decode cJ6_coder 13 = .ok (.iconst 1, 1) := dk_4 (dk_at dksJ6_coder_0 13 rfl rfl)
theorem dJ6_coder_14 : decode cJ6_coder 14 = .ok (.ireturn, 1) := dk_172 (dk_at dksJ6_coder_0 14 rfl rfl)
theorem md_J6_coder : xMd yJ6_coder cJ6_coder 1 (Option.some Jvm.ClassFile.FieldType.byte) 0 := ⟨q426, q133, by decide, by decide +kernel, by decide +kernel, by decide +kernel⟩
def f_J6_coder (p0 : PH) (a0 : Nat) : Option (xO × PH) :=
  (xcl1 p0 a0 16 (if (1 : Int32) = 0 then
  (if vp_nar .byte 1 = 1 then rI 1 p0 else none) else
  (xgI p0 a0 16 1 fun x1 =>
  (if vp_nar .byte x1 = x1 then rI x1 p0 else none))))
theorem rc_J6_coder {p0 : PH} {a0 : Nat} : ∀ z, f_J6_coder p0 a0 = some z → xco p0 a0 = some 16 := fun z h => xcl1_some h
theorem f_J6_coder_ok {G : xG} (hO : xOK G) (p0 : PH) (a0 : Nat) : CT G 0 yJ6_coder cJ6_coder 1 (Option.some Jvm.ClassFile.FieldType.byte) [.ref a0] p0 (f_J6_coder p0 a0) := by
  refine CT_of hO (by decide +kernel) (by decide +kernel) (Nat.le_of_ble_eq_true rfl) ?_
  show X G "java/lang/String" "coder" cJ6_coder 1 (Option.some Jvm.ClassFile.FieldType.byte) 0 0 [(0, .ref a0)] [] p0 (f_J6_coder p0 a0)
  refine x_cl1 (fun e0 => ?_)
  refine x_getsI (j := 3) rfl (Or.inl q417) dJ6_coder_0 (n := 3) rfl ?_
  refine x_if_eq dJ6_coder_3 (t := 13) (by decide) (n := 6) rfl (fun _ => ?_) (fun _ => ?_)
  · refine x_iconst 1 dJ6_coder_13 rfl (n := 14) rfl ?_
    exact x_nreturn rfl dJ6_coder_14
  · refine x_aload_nr 0 dJ6_coder_6 rfl rfl (n := 7) rfl ?_
    refine x_getI fl_J6_15 dJ6_coder_7 (n := 10) rfl (fun x1 => ?_)
    refine x_goto dJ6_coder_10 (n := 14) (by decide) ?_
    exact x_nreturn rfl dJ6_coder_14
abbrev cJ6_length : ByteArray := prog_31_method_54_code
def yJ6_length : MethodName := ⟨RJ6, "length", "()I"⟩
def dkwJ6_length_0 : List UInt8 := [42, 180, 0, 9, 190, 42, 182, 1, 79, 122, 172]
abbrev dktJ6_length_0 : List UInt8 := dkwJ6_length_0 ++ []
theorem dksJ6_length_0 : cJ6_length.data.toList.drop 0 = dktJ6_length_0 := by decide +kernel
theorem dJ6_length_0 : decode cJ6_length 0 = .ok (.aload_n 0, 1) := dk_42 (dk_at dksJ6_length_0 0 rfl rfl)
theorem dJ6_length_1 : decode cJ6_length 1 = .ok (.getfield 9, 3) := dk_180 0 9 (dk_at dksJ6_length_0 1 rfl rfl)
theorem dJ6_length_4 : decode cJ6_length 4 = .ok (.arraylength, 1) := dk_190 (dk_at dksJ6_length_0 4 rfl rfl)
theorem dJ6_length_5 : decode cJ6_length 5 = .ok (.aload_n 0, 1) := dk_42 (dk_at dksJ6_length_0 5 rfl rfl)
theorem dJ6_length_6 : decode cJ6_length 6 = .ok (.invokevirtual 335, 3) := dk_182 1 79 (dk_at dksJ6_length_0 6 rfl rfl)
theorem dJ6_length_9 : decode cJ6_length 9 = .ok (.ishr, 1) := dk_122 (dk_at dksJ6_length_0 9 rfl rfl)
theorem dJ6_length_10 : decode cJ6_length 10 = .ok (.ireturn, 1) := dk_172 (dk_at dksJ6_length_0 10 rfl rfl)
theorem md_J6_length : xMd yJ6_length cJ6_length 1 (Option.some Jvm.ClassFile.FieldType.int) 0 := ⟨q422, q133, by decide, by decide +kernel, by decide +kernel, by decide +kernel⟩
def f_J6_length (p0 : PH) (a0 : Nat) : Option (xO × PH) :=
  (xcl1 p0 a0 16 (xgR p0 a0 16 0 fun x1 =>
  (xnul x1 none fun b2 =>
  (xlen p0 b2 fun x3 =>
  (xcI (f_J6_coder p0 a0 ) fun x5 p4 =>
  (rI (x3 >>> (x5 &&& 31)) p4))))))
theorem rc_J6_length {p0 : PH} {a0 : Nat} : ∀ z, f_J6_length p0 a0 = some z → xco p0 a0 = some 16 := fun z h => xcl1_some h
theorem f_J6_length_ok {G : xG} (hO : xOK G) (p0 : PH) (a0 : Nat) : CT G 1 yJ6_length cJ6_length 1 (Option.some Jvm.ClassFile.FieldType.int) [.ref a0] p0 (f_J6_length p0 a0) := by
  refine CT_of hO (by decide +kernel) (by decide +kernel) (Nat.le_of_ble_eq_true rfl) ?_
  show X G "java/lang/String" "length" cJ6_length 1 (Option.some Jvm.ClassFile.FieldType.int) 1 0 [(0, .ref a0)] [] p0 (f_J6_length p0 a0)
  refine x_cl1 (fun e0 => ?_)
  refine x_aload_nr 0 dJ6_length_0 rfl rfl (n := 1) rfl ?_
  refine x_getR fl_J6_9 dJ6_length_1 (n := 4) rfl (fun x1 => ?_)
  refine x_sm (fun b2 e => ?_)
  subst e
  refine x_alen dJ6_length_4 (n := 5) rfl (fun x3 => ?_)
  refine x_aload_nr 0 dJ6_length_5 rfl rfl (n := 6) rfl ?_
  refine x_callV_I [] [.int x3] (f_J6_coder_ok hO p0 a0 ) rc_J6_coder md_J6_coder rfl q423 q424 q425 dJ6_length_6 rfl rfl (by decide) (Nat.le_of_ble_eq_true rfl) (n := 9) rfl (fun x5 p4 => ?_)
  refine x_ishr dJ6_length_9 (n := 10) rfl ?_
  exact x_ireturn dJ6_length_10
abbrev cJ7_canEncode : ByteArray := prog_33_method_4_code
def yJ7_canEncode : MethodName := ⟨RJ7, "canEncode", "(I)Z"⟩
def dkwJ7_canEncode_0 : List UInt8 := [26, 155, 0, 14, 26, 17, 0, 255, 163, 0, 7, 4, 167, 0, 4, 3, 172]
abbrev dktJ7_canEncode_0 : List UInt8 := dkwJ7_canEncode_0 ++ []
theorem dksJ7_canEncode_0 : cJ7_canEncode.data.toList.drop 0 = dktJ7_canEncode_0 := by decide +kernel
theorem dJ7_canEncode_0 : decode cJ7_canEncode 0 = .ok (.iload_n 0, 1) := dk_26 (dk_at dksJ7_canEncode_0 0 rfl rfl)
theorem dJ7_canEncode_1 : decode cJ7_canEncode 1 = .ok (.ifCond .lt 14, 3) := dk_155 0 14 (dk_at dksJ7_canEncode_0 1 rfl rfl)
theorem dJ7_canEncode_4 : decode cJ7_canEncode 4 = .ok (.iload_n 0, 1) := dk_26 (dk_at dksJ7_canEncode_0 4 rfl rfl)
theorem dJ7_canEncode_5 : decode cJ7_canEncode 5 = .ok (.sipush 255, 3) := dk_17 0 255 (dk_at dksJ7_canEncode_0 5 rfl rfl)
theorem dJ7_canEncode_8 : decode cJ7_canEncode 8 = .ok (.if_icmp .gt 7, 3) := dk_163 0 7 (dk_at dksJ7_canEncode_0 8 rfl rfl)
theorem dJ7_canEncode_11 : decode cJ7_canEncode 11 = .ok (.iconst 1, 1) := dk_4 (dk_at dksJ7_canEncode_0 11 rfl rfl)
theorem dJ7_canEncode_12 : decode cJ7_canEncode 12 = .ok (.goto 4, 3) := dk_167 0 4 (dk_at dksJ7_canEncode_0 12 rfl rfl)
theorem dJ7_canEncode_15 : decode cJ7_canEncode 15 = .ok (.iconst 0, 1) := dk_3 (dk_at dksJ7_canEncode_0 15 rfl rfl)
theorem dJ7_canEncode_16 : decode cJ7_canEncode 16 = .ok (.ireturn, 1) := dk_172 (dk_at dksJ7_canEncode_0 16 rfl rfl)
theorem md_J7_canEncode : xMd yJ7_canEncode cJ7_canEncode 1 (Option.some Jvm.ClassFile.FieldType.boolean) 1 := ⟨q432, q134, by decide, by decide +kernel, by decide +kernel, by decide +kernel⟩
def f_J7_canEncode (p0 : PH) (a0 : Int32) : Option (xO × PH) :=
  (if a0 < 0 then
  (if vp_nar .boolean 0 = 0 then rI 0 p0 else none) else
  (if 255 < a0 then
  (if vp_nar .boolean 0 = 0 then rI 0 p0 else none) else
  (if vp_nar .boolean 1 = 1 then rI 1 p0 else none)))
theorem f_J7_canEncode_ok {G : xG} (hO : xOK G) (p0 : PH) (a0 : Int32) : CT G 0 yJ7_canEncode cJ7_canEncode 1 (Option.some Jvm.ClassFile.FieldType.boolean) [.int a0] p0 (f_J7_canEncode p0 a0) := by
  refine CT_of hO (by decide +kernel) (by decide +kernel) (Nat.le_of_ble_eq_true rfl) ?_
  show X G "java/lang/StringLatin1" "canEncode" cJ7_canEncode 1 (Option.some Jvm.ClassFile.FieldType.boolean) 0 0 [(0, .int a0)] [] p0 (f_J7_canEncode p0 a0)
  refine x_iload_n 0 dJ7_canEncode_0 rfl rfl (n := 1) rfl ?_
  refine x_if_lt dJ7_canEncode_1 (t := 15) (by decide) (n := 4) rfl (fun _ => ?_) (fun _ => ?_)
  · refine x_iconst 0 dJ7_canEncode_15 rfl (n := 16) rfl ?_
    exact x_nreturn rfl dJ7_canEncode_16
  · refine x_iload_n 0 dJ7_canEncode_4 rfl rfl (n := 5) rfl ?_
    refine x_sipush 255 dJ7_canEncode_5 rfl (n := 8) rfl ?_
    refine x_icmp_gt dJ7_canEncode_8 (t := 15) (by decide) (n := 11) rfl (fun _ => ?_) (fun _ => ?_)
    · refine x_iconst 0 dJ7_canEncode_15 rfl (n := 16) rfl ?_
      exact x_nreturn rfl dJ7_canEncode_16
    · refine x_iconst 1 dJ7_canEncode_11 rfl (n := 12) rfl ?_
      refine x_goto dJ7_canEncode_12 (n := 16) (by decide) ?_
      exact x_nreturn rfl dJ7_canEncode_16
abbrev cJ8_max : ByteArray := prog_28_method_65_code
def yJ8_max : MethodName := ⟨RJ8, "max", "(II)I"⟩
def dkwJ8_max_0 : List UInt8 := [26, 27, 161, 0, 7, 26, 167, 0, 4, 27, 172]
abbrev dktJ8_max_0 : List UInt8 := dkwJ8_max_0 ++ []
theorem dksJ8_max_0 : cJ8_max.data.toList.drop 0 = dktJ8_max_0 := by decide +kernel
theorem dJ8_max_0 : decode cJ8_max 0 = .ok (.iload_n 0, 1) := dk_26 (dk_at dksJ8_max_0 0 rfl rfl)
theorem dJ8_max_1 : decode cJ8_max 1 = .ok (.iload_n 1, 1) := dk_27 (dk_at dksJ8_max_0 1 rfl rfl)
theorem dJ8_max_2 : decode cJ8_max 2 = .ok (.if_icmp .lt 7, 3) := dk_161 0 7 (dk_at dksJ8_max_0 2 rfl rfl)
theorem dJ8_max_5 : decode cJ8_max 5 = .ok (.iload_n 0, 1) := dk_26 (dk_at dksJ8_max_0 5 rfl rfl)
theorem dJ8_max_6 : decode cJ8_max 6 = .ok (.goto 4, 3) := dk_167 0 4 (dk_at dksJ8_max_0 6 rfl rfl)
theorem dJ8_max_9 : decode cJ8_max 9 = .ok (.iload_n 1, 1) := dk_27 (dk_at dksJ8_max_0 9 rfl rfl)
theorem dJ8_max_10 : decode cJ8_max 10 = .ok (.ireturn, 1) := dk_172 (dk_at dksJ8_max_0 10 rfl rfl)
theorem md_J8_max : xMd yJ8_max cJ8_max 2 (Option.some Jvm.ClassFile.FieldType.int) 2 := ⟨q435, q135, by decide, by decide +kernel, by decide +kernel, by decide +kernel⟩
def f_J8_max (p0 : PH) (a0 : Int32) (a1 : Int32) : Option (xO × PH) :=
  (if a0 < a1 then
  (rI a1 p0) else
  (rI a0 p0))
theorem f_J8_max_ok {G : xG} (hO : xOK G) (p0 : PH) (a0 : Int32) (a1 : Int32) : CT G 0 yJ8_max cJ8_max 2 (Option.some Jvm.ClassFile.FieldType.int) [.int a0, .int a1] p0 (f_J8_max p0 a0 a1) := by
  refine CT_of hO (by decide +kernel) (by decide +kernel) (Nat.le_of_ble_eq_true rfl) ?_
  show X G "java/lang/Math" "max" cJ8_max 2 (Option.some Jvm.ClassFile.FieldType.int) 0 0 [(0, .int a0), (1, .int a1)] [] p0 (f_J8_max p0 a0 a1)
  refine x_iload_n 0 dJ8_max_0 rfl rfl (n := 1) rfl ?_
  refine x_iload_n 1 dJ8_max_1 rfl rfl (n := 2) rfl ?_
  refine x_icmp_lt dJ8_max_2 (t := 9) (by decide) (n := 5) rfl (fun _ => ?_) (fun _ => ?_)
  · refine x_iload_n 1 dJ8_max_9 rfl rfl (n := 10) rfl ?_
    exact x_ireturn dJ8_max_10
  · refine x_iload_n 0 dJ8_max_5 rfl rfl (n := 6) rfl ?_
    refine x_goto dJ8_max_6 (n := 10) (by decide) ?_
    exact x_ireturn dJ8_max_10
abbrev cJ8_min : ByteArray := prog_28_method_69_code
def yJ8_min : MethodName := ⟨RJ8, "min", "(II)I"⟩
def dkwJ8_min_0 : List UInt8 := [26, 27, 163, 0, 7, 26, 167, 0, 4, 27, 172]
abbrev dktJ8_min_0 : List UInt8 := dkwJ8_min_0 ++ []
theorem dksJ8_min_0 : cJ8_min.data.toList.drop 0 = dktJ8_min_0 := by decide +kernel
theorem dJ8_min_0 : decode cJ8_min 0 = .ok (.iload_n 0, 1) := dk_26 (dk_at dksJ8_min_0 0 rfl rfl)
theorem dJ8_min_1 : decode cJ8_min 1 = .ok (.iload_n 1, 1) := dk_27 (dk_at dksJ8_min_0 1 rfl rfl)
theorem dJ8_min_2 : decode cJ8_min 2 = .ok (.if_icmp .gt 7, 3) := dk_163 0 7 (dk_at dksJ8_min_0 2 rfl rfl)
theorem dJ8_min_5 : decode cJ8_min 5 = .ok (.iload_n 0, 1) := dk_26 (dk_at dksJ8_min_0 5 rfl rfl)
theorem dJ8_min_6 : decode cJ8_min 6 = .ok (.goto 4, 3) := dk_167 0 4 (dk_at dksJ8_min_0 6 rfl rfl)
theorem dJ8_min_9 : decode cJ8_min 9 = .ok (.iload_n 1, 1) := dk_27 (dk_at dksJ8_min_0 9 rfl rfl)
theorem dJ8_min_10 : decode cJ8_min 10 = .ok (.ireturn, 1) := dk_172 (dk_at dksJ8_min_0 10 rfl rfl)
theorem md_J8_min : xMd yJ8_min cJ8_min 2 (Option.some Jvm.ClassFile.FieldType.int) 2 := ⟨q438, q135, by decide, by decide +kernel, by decide +kernel, by decide +kernel⟩
def f_J8_min (p0 : PH) (a0 : Int32) (a1 : Int32) : Option (xO × PH) :=
  (if a1 < a0 then
  (rI a1 p0) else
  (rI a0 p0))
theorem f_J8_min_ok {G : xG} (hO : xOK G) (p0 : PH) (a0 : Int32) (a1 : Int32) : CT G 0 yJ8_min cJ8_min 2 (Option.some Jvm.ClassFile.FieldType.int) [.int a0, .int a1] p0 (f_J8_min p0 a0 a1) := by
  refine CT_of hO (by decide +kernel) (by decide +kernel) (Nat.le_of_ble_eq_true rfl) ?_
  show X G "java/lang/Math" "min" cJ8_min 2 (Option.some Jvm.ClassFile.FieldType.int) 0 0 [(0, .int a0), (1, .int a1)] [] p0 (f_J8_min p0 a0 a1)
  refine x_iload_n 0 dJ8_min_0 rfl rfl (n := 1) rfl ?_
  refine x_iload_n 1 dJ8_min_1 rfl rfl (n := 2) rfl ?_
  refine x_icmp_gt dJ8_min_2 (t := 9) (by decide) (n := 5) rfl (fun _ => ?_) (fun _ => ?_)
  · refine x_iload_n 1 dJ8_min_9 rfl rfl (n := 10) rfl ?_
    exact x_ireturn dJ8_min_10
  · refine x_iload_n 0 dJ8_min_5 rfl rfl (n := 6) rfl ?_
    refine x_goto dJ8_min_6 (n := 10) (by decide) ?_
    exact x_ireturn dJ8_min_10
abbrev cJ7_indexOfChar : ByteArray := prog_33_method_23_code
def yJ7_indexOfChar : MethodName := ⟨RJ7, "indexOfChar", "([BIII)I"⟩
def dkwJ7_indexOfChar_1 : List UInt8 := [172, 132, 5, 1, 167, 255, 235, 2, 172]
abbrev dktJ7_indexOfChar_1 : List UInt8 := dkwJ7_indexOfChar_1 ++ []
def dkwJ7_indexOfChar_0 : List UInt8 := [27, 145, 54, 4, 28, 54, 5, 21, 5, 29, 162, 0, 21, 42, 21, 5, 51, 21, 4, 160, 0, 6, 21, 5]
abbrev dktJ7_indexOfChar_0 : List UInt8 := dkwJ7_indexOfChar_0 ++ dktJ7_indexOfChar_1
theorem dksJ7_indexOfChar_0 : cJ7_indexOfChar.data.toList.drop 0 = dktJ7_indexOfChar_0 := by decide +kernel
theorem dksJ7_indexOfChar_1 : cJ7_indexOfChar.data.toList.drop 24 = dktJ7_indexOfChar_1 := dk_seg dksJ7_indexOfChar_0 24 rfl rfl
theorem dJ7_indexOfChar_0 : decode cJ7_indexOfChar 0 = .ok (.iload_n 1, 1) := dk_27 (dk_at dksJ7_indexOfChar_0 0 rfl rfl)
theorem dJ7_indexOfChar_1 : decode cJ7_indexOfChar 1 = .ok (.i2b, 1) := dk_145 (dk_at dksJ7_indexOfChar_0 1 rfl rfl)
theorem dJ7_indexOfChar_2 : decode cJ7_indexOfChar 2 = .ok (.istore 4, 2) := dk_54 4 (dk_at dksJ7_indexOfChar_0 2 rfl rfl)
theorem dJ7_indexOfChar_4 : decode cJ7_indexOfChar 4 = .ok (.iload_n 2, 1) := dk_28 (dk_at dksJ7_indexOfChar_0 4 rfl rfl)
theorem dJ7_indexOfChar_5 : decode cJ7_indexOfChar 5 = .ok (.istore 5, 2) := dk_54 5 (dk_at dksJ7_indexOfChar_0 5 rfl rfl)
theorem dJ7_indexOfChar_7 : decode cJ7_indexOfChar 7 = .ok (.iload 5, 2) := dk_21 5 (dk_at dksJ7_indexOfChar_0 7 rfl rfl)
theorem dJ7_indexOfChar_9 : decode cJ7_indexOfChar 9 = .ok (.iload_n 3, 1) := dk_29 (dk_at dksJ7_indexOfChar_0 9 rfl rfl)
theorem dJ7_indexOfChar_10 : decode cJ7_indexOfChar 10 = .ok (.if_icmp .ge 21, 3) := dk_162 0 21 (dk_at dksJ7_indexOfChar_0 10 rfl rfl)
theorem dJ7_indexOfChar_13 : decode cJ7_indexOfChar 13 = .ok (.aload_n 0, 1) := dk_42 (dk_at dksJ7_indexOfChar_0 13 rfl rfl)
theorem dJ7_indexOfChar_14 : decode cJ7_indexOfChar 14 = .ok (.iload 5, 2) := dk_21 5 (dk_at dksJ7_indexOfChar_0 14 rfl rfl)
theorem dJ7_indexOfChar_16 : decode cJ7_indexOfChar 16 = .ok (.baload, 1) := dk_51 (dk_at dksJ7_indexOfChar_0 16 rfl rfl)
theorem dJ7_indexOfChar_17 : decode cJ7_indexOfChar 17 = .ok (.iload 4, 2) := dk_21 4 (dk_at dksJ7_indexOfChar_0 17 rfl rfl)
theorem dJ7_indexOfChar_19 : decode cJ7_indexOfChar 19 = .ok (.if_icmp .ne 6, 3) := dk_160 0 6 (dk_at dksJ7_indexOfChar_0 19 rfl rfl)
theorem dJ7_indexOfChar_22 : decode cJ7_indexOfChar 22 = .ok (.iload 5, 2) := dk_21 5 (dk_at dksJ7_indexOfChar_0 22 rfl rfl)
theorem dJ7_indexOfChar_24 : decode cJ7_indexOfChar 24 = .ok (.ireturn, 1) := dk_172 (dk_at dksJ7_indexOfChar_1 0 rfl rfl)
theorem dJ7_indexOfChar_25 : decode cJ7_indexOfChar 25 = .ok (.iinc 5 1, 3) := dk_132 5 1 (dk_at dksJ7_indexOfChar_1 1 rfl rfl)
theorem dJ7_indexOfChar_28 : decode cJ7_indexOfChar 28 = .ok (.goto (-21), 3) := dk_167 255 235 (dk_at dksJ7_indexOfChar_1 4 rfl rfl)
theorem dJ7_indexOfChar_31 : decode cJ7_indexOfChar 31 = .ok (.iconst (-1), 1) := dk_2 (dk_at dksJ7_indexOfChar_1 7 rfl rfl)
theorem dJ7_indexOfChar_32 : decode cJ7_indexOfChar 32 = .ok (.ireturn, 1) := dk_172 (dk_at dksJ7_indexOfChar_1 8 rfl rfl)
theorem md_J7_indexOfChar : xMd yJ7_indexOfChar cJ7_indexOfChar 6 (Option.some Jvm.ClassFile.FieldType.int) 4 := ⟨q441, q134, by decide, by decide +kernel, by decide +kernel, by decide +kernel⟩
def f_J7_indexOfChar_7F   (k7 : Option Nat × Int32 × Int32 × Int32 × PH → Option (xO × PH)) (p : Option Nat × Int32 × Int32 × Int32 × PH) : Option (xO × PH) := match p with
  | (v0, v3, v4, v5, p0) => (if v3 ≤ v5 then
  (rI (-1) p0) else
  (xnul v0 none fun b1 =>
  (xaI p0 b1 2 v5 fun x2 =>
  (if x2 = v4 then
  (rI v5 p0) else
  (bnd (v5 + 1) fun x3 =>
  (k7 (((some b1)), v3, v4, x3, p0)))))))
def f_J7_indexOfChar (p0 : PH) (a0 : Option Nat) (a1 : Int32) (a2 : Int32) (a3 : Int32) : Option (xO × PH) :=
  (lp (f_J7_indexOfChar_7F) FU (a0, a3, a1.toInt8.toInt32, a2, p0))
theorem f_J7_indexOfChar_7F_ok {G : xG} (hO : xOK G)   {k7 : Option Nat × Int32 × Int32 × Int32 × PH → Option (xO × PH)} (hk7 : ∀ (v0 : Option Nat) (v3 : Int32) (v4 : Int32) (v5 : Int32) (p0 : PH), X G "java/lang/StringLatin1" "indexOfChar" cJ7_indexOfChar 6 (Option.some Jvm.ClassFile.FieldType.int) 0 7 [(0, va_rf v0), (3, .int v3), (4, .int v4), (5, .int v5)] [] p0 (k7 (v0, v3, v4, v5, p0))) (v0 : Option Nat) (v3 : Int32) (v4 : Int32) (v5 : Int32) (p0 : PH) : X G "java/lang/StringLatin1" "indexOfChar" cJ7_indexOfChar 6 (Option.some Jvm.ClassFile.FieldType.int) 0 7 [(0, va_rf v0), (3, .int v3), (4, .int v4), (5, .int v5)] [] p0 (f_J7_indexOfChar_7F k7 (v0, v3, v4, v5, p0)) := by
  unfold f_J7_indexOfChar_7F
  refine x_iload 3 dJ7_indexOfChar_7 rfl (n := 9) rfl ?_
  refine x_iload_n 1 dJ7_indexOfChar_9 rfl rfl (n := 10) rfl ?_
  refine x_icmp_ge dJ7_indexOfChar_10 (t := 31) (by decide) (n := 13) rfl (fun _ => ?_) (fun _ => ?_)
  · refine x_iconst (-1) dJ7_indexOfChar_31 rfl (n := 32) rfl ?_
    exact x_ireturn dJ7_indexOfChar_32
  · refine x_aload_n 0 dJ7_indexOfChar_13 rfl rfl (n := 14) rfl ?_
    refine x_iload 3 dJ7_indexOfChar_14 rfl (n := 16) rfl ?_
    refine x_sm (fun b1 e => ?_)
    subst e
    refine x_bald (t := 2) rfl dJ7_indexOfChar_16 (n := 17) rfl (fun x2 => ?_)
    refine x_iload 2 dJ7_indexOfChar_17 rfl (n := 19) rfl ?_
    refine x_icmp_ne dJ7_indexOfChar_19 (t := 25) (by decide) (n := 22) rfl (fun _ => ?_) (fun _ => ?_)
    · refine x_iincB 3 (fun x3 => [(5, .int x3), (0, .ref b1), (3, .int v3), (4, .int v4)]) dJ7_indexOfChar_25 rfl rfl (by decide) (fun _ => rfl) (n := 28) rfl (fun x3 => ?_)
      refine x_goto dJ7_indexOfChar_28 (n := 7) (by decide) ?_
      refine x_sub [1, 2, 3, 0] [(0, .ref b1), (3, .int v3), (4, .int v4), (5, .int x3)] rfl ?_
      exact hk7 ((some b1)) v3 v4 x3 p0
    · refine x_iload 3 dJ7_indexOfChar_22 rfl (n := 24) rfl ?_
      exact x_ireturn dJ7_indexOfChar_24
theorem f_J7_indexOfChar_7_lp {G : xG} (hO : xOK G)   (n : Nat) (v0 : Option Nat) (v3 : Int32) (v4 : Int32) (v5 : Int32) (p0 : PH) : X G "java/lang/StringLatin1" "indexOfChar" cJ7_indexOfChar 6 (Option.some Jvm.ClassFile.FieldType.int) 0 7 [(0, va_rf v0), (3, .int v3), (4, .int v4), (5, .int v5)] [] p0 (lp (f_J7_indexOfChar_7F) n (v0, v3, v4, v5, p0)) :=
  lp_ok (W := fun p K => X G "java/lang/StringLatin1" "indexOfChar" cJ7_indexOfChar 6 (Option.some Jvm.ClassFile.FieldType.int) 0 7 [(0, va_rf p.1), (3, .int p.2.1), (4, .int p.2.2.1), (5, .int p.2.2.2.1)] [] p.2.2.2.2 K) (fun _ => x_no) (fun k hk => fun (v0, v3, v4, v5, p0) => f_J7_indexOfChar_7F_ok hO (fun v0 v3 v4 v5 p0 => hk (v0, v3, v4, v5, p0)) v0 v3 v4 v5 p0) n (v0, v3, v4, v5, p0)
theorem f_J7_indexOfChar_ok {G : xG} (hO : xOK G) (p0 : PH) (a0 : Option Nat) (a1 : Int32) (a2 : Int32) (a3 : Int32) : CT G 0 yJ7_indexOfChar cJ7_indexOfChar 6 (Option.some Jvm.ClassFile.FieldType.int) [va_rf a0, .int a1, .int a2, .int a3] p0 (f_J7_indexOfChar p0 a0 a1 a2 a3) := by
  refine CT_of hO (by decide +kernel) (by decide +kernel) (lg_slen _ (by simp only [List.map, xcat]; exact Nat.le_of_ble_eq_true rfl)) ?_
  rw [show lv_args 0 [va_rf a0, .int a1, .int a2, .int a3] = [(0, va_rf a0), (1, .int a1), (2, .int a2), (3, .int a3)] from by simp only [lv_args, xcat] <;> rfl]
  show X G "java/lang/StringLatin1" "indexOfChar" cJ7_indexOfChar 6 (Option.some Jvm.ClassFile.FieldType.int) 0 0 [(0, va_rf a0), (1, .int a1), (2, .int a2), (3, .int a3)] [] p0 (f_J7_indexOfChar p0 a0 a1 a2 a3)
  refine x_iload_n 1 dJ7_indexOfChar_0 rfl rfl (n := 1) rfl ?_
  refine x_i2b dJ7_indexOfChar_1 (n := 2) rfl ?_
  refine x_istore [(4, .int a1.toInt8.toInt32), (0, va_rf a0), (1, .int a1), (2, .int a2), (3, .int a3)] dJ7_indexOfChar_2 (by decide) rfl (n := 4) rfl ?_
  refine x_iload_n 3 dJ7_indexOfChar_4 rfl rfl (n := 5) rfl ?_
  refine x_istore [(5, .int a2), (4, .int a1.toInt8.toInt32), (0, va_rf a0), (1, .int a1), (2, .int a2), (3, .int a3)] dJ7_indexOfChar_5 (by decide) rfl (n := 7) rfl ?_
  refine x_sub [2, 5, 1, 0] [(0, va_rf a0), (3, .int a3), (4, .int a1.toInt8.toInt32), (5, .int a2)] rfl ?_
  exact f_J7_indexOfChar_7_lp hO FU a0 a3 a1.toInt8.toInt32 a2 p0
abbrev cJ7_indexOf : ByteArray := prog_33_method_22_code
def yJ7_indexOf : MethodName := ⟨RJ7, "indexOf", "([BIII)I"⟩
def dkwJ7_indexOf_1 : List UInt8 := [161, 0, 5, 2, 172, 42, 27, 28, 29, 184, 0, 95, 172]
abbrev dktJ7_indexOf_1 : List UInt8 := dkwJ7_indexOf_1 ++ []
def dkwJ7_indexOf_0 : List UInt8 := [27, 184, 0, 88, 154, 0, 5, 2, 172, 28, 3, 184, 0, 92, 61, 29, 42, 190, 184, 0, 38, 62, 28, 29]
abbrev dktJ7_indexOf_0 : List UInt8 := dkwJ7_indexOf_0 ++ dktJ7_indexOf_1
theorem dksJ7_indexOf_0 : cJ7_indexOf.data.toList.drop 0 = dktJ7_indexOf_0 := by decide +kernel
theorem dksJ7_indexOf_1 : cJ7_indexOf.data.toList.drop 24 = dktJ7_indexOf_1 := dk_seg dksJ7_indexOf_0 24 rfl rfl
theorem dJ7_indexOf_0 : decode cJ7_indexOf 0 = .ok (.iload_n 1, 1) := dk_27 (dk_at dksJ7_indexOf_0 0 rfl rfl)
theorem dJ7_indexOf_1 : decode cJ7_indexOf 1 = .ok (.invokestatic 88, 3) := dk_184 0 88 (dk_at dksJ7_indexOf_0 1 rfl rfl)
theorem dJ7_indexOf_4 : decode cJ7_indexOf 4 = .ok (.ifCond .ne 5, 3) := dk_154 0 5 (dk_at dksJ7_indexOf_0 4 rfl rfl)
theorem dJ7_indexOf_7 : decode cJ7_indexOf 7 = .ok (.iconst (-1), 1) := dk_2 (dk_at dksJ7_indexOf_0 7 rfl rfl)
theorem dJ7_indexOf_8 : decode cJ7_indexOf 8 = .ok (.ireturn, 1) := dk_172 (dk_at dksJ7_indexOf_0 8 rfl rfl)
theorem dJ7_indexOf_9 : decode cJ7_indexOf 9 = .ok (.iload_n 2, 1) := dk_28 (dk_at dksJ7_indexOf_0 9 rfl rfl)
theorem dJ7_indexOf_10 : decode cJ7_indexOf 10 = .ok (.iconst 0, 1) := dk_3 (dk_at dksJ7_indexOf_0 10 rfl rfl)
theorem dJ7_indexOf_11 : decode cJ7_indexOf 11 = .ok (.invokestatic 92, 3) := dk_184 0 92 (dk_at dksJ7_indexOf_0 11 rfl rfl)
theorem dJ7_indexOf_14 : decode cJ7_indexOf 14 = .ok (.istore_n 2, 1) := dk_61 (dk_at dksJ7_indexOf_0 14 rfl rfl)
theorem dJ7_indexOf_15 : decode cJ7_indexOf 15 = .ok (.iload_n 3, 1) := dk_29 (dk_at dksJ7_indexOf_0 15 rfl rfl)
theorem dJ7_indexOf_16 : decode cJ7_indexOf 16 = .ok (.aload_n 0, 1) := dk_42 (dk_at dksJ7_indexOf_0 16 rfl rfl)
theorem dJ7_indexOf_17 : decode cJ7_indexOf 17 = .ok (.arraylength, 1) := dk_190 (dk_at dksJ7_indexOf_0 17 rfl rfl)
theorem dJ7_indexOf_18 : decode cJ7_indexOf 18 = .ok (.invokestatic 38, 3) := dk_184 0 38 (dk_at dksJ7_indexOf_0 18 rfl rfl)
theorem dJ7_indexOf_21 : decode cJ7_indexOf 21 = .ok (.istore_n 3, 1) := dk_62 (dk_at dksJ7_indexOf_0 21 rfl rfl)
theorem dJ7_indexOf_22 : decode cJ7_indexOf 22 = .ok (.iload_n 2, 1) := dk_28 (dk_at dksJ7_indexOf_0 22 rfl rfl)
theorem dJ7_indexOf_23 : decode cJ7_indexOf 23 = .ok (.iload_n 3, 1) := dk_29 (dk_at dksJ7_indexOf_0 23 rfl rfl)
theorem dJ7_indexOf_24 : decode cJ7_indexOf 24 = .ok (.if_icmp .lt 5, 3) := dk_161 0 5 (dk_at dksJ7_indexOf_1 0 rfl rfl)
theorem dJ7_indexOf_27 : decode cJ7_indexOf 27 = .ok (.iconst (-1), 1) := dk_2 (dk_at dksJ7_indexOf_1 3 rfl rfl)
theorem dJ7_indexOf_28 : decode cJ7_indexOf 28 = .ok (.ireturn, 1) := dk_172 (dk_at dksJ7_indexOf_1 4 rfl rfl)
theorem dJ7_indexOf_29 : decode cJ7_indexOf 29 = .ok (.aload_n 0, 1) := dk_42 (dk_at dksJ7_indexOf_1 5 rfl rfl)
theorem dJ7_indexOf_30 : decode cJ7_indexOf 30 = .ok (.iload_n 1, 1) := dk_27 (dk_at dksJ7_indexOf_1 6 rfl rfl)
theorem dJ7_indexOf_31 : decode cJ7_indexOf 31 = .ok (.iload_n 2, 1) := dk_28 (dk_at dksJ7_indexOf_1 7 rfl rfl)
theorem dJ7_indexOf_32 : decode cJ7_indexOf 32 = .ok (.iload_n 3, 1) := dk_29 (dk_at dksJ7_indexOf_1 8 rfl rfl)
theorem dJ7_indexOf_33 : decode cJ7_indexOf 33 = .ok (.invokestatic 95, 3) := dk_184 0 95 (dk_at dksJ7_indexOf_1 9 rfl rfl)
theorem dJ7_indexOf_36 : decode cJ7_indexOf 36 = .ok (.ireturn, 1) := dk_172 (dk_at dksJ7_indexOf_1 12 rfl rfl)
theorem md_J7_indexOf : xMd yJ7_indexOf cJ7_indexOf 4 (Option.some Jvm.ClassFile.FieldType.int) 4 := ⟨q429, q134, by decide, by decide +kernel, by decide +kernel, by decide +kernel⟩
def f_J7_indexOf (p0 : PH) (a0 : Option Nat) (a1 : Int32) (a2 : Int32) (a3 : Int32) : Option (xO × PH) :=
  (xcI (f_J7_canEncode p0 a1) fun x2 p1 =>
  (if x2 = 0 then
  (rI (-1) p1) else
  (xcI (f_J8_max p1 a2 0) fun x4 p3 =>
  (xnul a0 none fun b5 =>
  (xlen p3 b5 fun x6 =>
  (xcI (f_J8_min p3 a3 x6) fun x8 p7 =>
  (if x4 < x8 then
  (xcI (f_J7_indexOfChar p7 (some b5) a1 x4 x8) fun x10 p9 =>
  (rI x10 p9)) else
  (rI (-1) p7))))))))
theorem f_J7_indexOf_ok {G : xG} (hO : xOK G) (p0 : PH) (a0 : Option Nat) (a1 : Int32) (a2 : Int32) (a3 : Int32) : CT G 1 yJ7_indexOf cJ7_indexOf 4 (Option.some Jvm.ClassFile.FieldType.int) [va_rf a0, .int a1, .int a2, .int a3] p0 (f_J7_indexOf p0 a0 a1 a2 a3) := by
  refine CT_of hO (by decide +kernel) (by decide +kernel) (lg_slen _ (by simp only [List.map, xcat]; exact Nat.le_of_ble_eq_true rfl)) ?_
  rw [show lv_args 0 [va_rf a0, .int a1, .int a2, .int a3] = [(0, va_rf a0), (1, .int a1), (2, .int a2), (3, .int a3)] from by simp only [lv_args, xcat] <;> rfl]
  show X G "java/lang/StringLatin1" "indexOf" cJ7_indexOf 4 (Option.some Jvm.ClassFile.FieldType.int) 1 0 [(0, va_rf a0), (1, .int a1), (2, .int a2), (3, .int a3)] [] p0 (f_J7_indexOf p0 a0 a1 a2 a3)
  refine x_iload_n 1 dJ7_indexOf_0 rfl rfl (n := 1) rfl ?_
  refine x_callS_I [.int a1] [] (f_J7_canEncode_ok hO p0 a1) md_J7_canEncode q430 q431 dJ7_indexOf_1 rfl rfl (by decide) (Nat.le_of_ble_eq_true rfl) (n := 4) rfl (fun x2 p1 => ?_)
  refine x_if_ne dJ7_indexOf_4 (t := 9) (by decide) (n := 7) rfl (fun _ => ?_) (fun _ => ?_)
  · refine x_iload_n 2 dJ7_indexOf_9 rfl rfl (n := 10) rfl ?_
    refine x_iconst 0 dJ7_indexOf_10 rfl (n := 11) rfl ?_
    refine x_callS_I [.int a2, .int 0] [] (f_J8_max_ok hO p1 a2 0) md_J8_max q433 q434 dJ7_indexOf_11 rfl rfl (by decide) (Nat.le_of_ble_eq_true rfl) (n := 14) rfl (fun x4 p3 => ?_)
    refine x_istore_n [(2, .int x4), (0, va_rf a0), (1, .int a1), (3, .int a3)] dJ7_indexOf_14 rfl (by decide) rfl (n := 15) rfl ?_
    refine x_iload_n 3 dJ7_indexOf_15 rfl rfl (n := 16) rfl ?_
    refine x_aload_n 1 dJ7_indexOf_16 rfl rfl (n := 17) rfl ?_
    refine x_sm (fun b5 e => ?_)
    subst e
    refine x_alen dJ7_indexOf_17 (n := 18) rfl (fun x6 => ?_)
    refine x_callS_I [.int a3, .int x6] [] (f_J8_min_ok hO p3 a3 x6) md_J8_min q436 q437 dJ7_indexOf_18 rfl rfl (by decide) (Nat.le_of_ble_eq_true rfl) (n := 21) rfl (fun x8 p7 => ?_)
    refine x_istore_n [(3, .int x8), (2, .int x4), (0, .ref b5), (1, .int a1)] dJ7_indexOf_21 rfl (by decide) rfl (n := 22) rfl ?_
    refine x_iload_n 1 dJ7_indexOf_22 rfl rfl (n := 23) rfl ?_
    refine x_iload_n 0 dJ7_indexOf_23 rfl rfl (n := 24) rfl ?_
    refine x_icmp_lt dJ7_indexOf_24 (t := 29) (by decide) (n := 27) rfl (fun _ => ?_) (fun _ => ?_)
    · refine x_aload_nr 2 dJ7_indexOf_29 rfl rfl (n := 30) rfl ?_
      refine x_iload_n 3 dJ7_indexOf_30 rfl rfl (n := 31) rfl ?_
      refine x_iload_n 1 dJ7_indexOf_31 rfl rfl (n := 32) rfl ?_
      refine x_iload_n 0 dJ7_indexOf_32 rfl rfl (n := 33) rfl ?_
      refine x_callS_I [.ref b5, .int a1, .int x4, .int x8] [] (f_J7_indexOfChar_ok hO p7 (some b5) a1 x4 x8) md_J7_indexOfChar q439 q440 dJ7_indexOf_33 rfl rfl (by decide) (Nat.le_of_ble_eq_true rfl) (n := 36) rfl (fun x10 p9 => ?_)
      exact x_ireturn dJ7_indexOf_36
    · refine x_iconst (-1) dJ7_indexOf_27 rfl (n := 28) rfl ?_
      exact x_ireturn dJ7_indexOf_28
  · refine x_iconst (-1) dJ7_indexOf_7 rfl (n := 8) rfl ?_
    exact x_ireturn dJ7_indexOf_8
abbrev cJ6_indexOf_2 : ByteArray := prog_31_method_80_code
def yJ6_indexOf_2 : MethodName := ⟨RJ6, "indexOf", "(II)I"⟩
def dkwJ6_indexOf_2_1 : List UInt8 := [180, 0, 9, 27, 28, 42, 182, 1, 249, 184, 2, 128, 172]
abbrev dktJ6_indexOf_2_1 : List UInt8 := dkwJ6_indexOf_2_1 ++ []
def dkwJ6_indexOf_2_0 : List UInt8 := [42, 182, 1, 236, 153, 0, 19, 42, 180, 0, 9, 27, 28, 42, 182, 1, 249, 184, 2, 125, 167, 0, 16, 42]
abbrev dktJ6_indexOf_2_0 : List UInt8 := dkwJ6_indexOf_2_0 ++ dktJ6_indexOf_2_1
theorem dksJ6_indexOf_2_0 : cJ6_indexOf_2.data.toList.drop 0 = dktJ6_indexOf_2_0 := by decide +kernel
theorem dksJ6_indexOf_2_1 : cJ6_indexOf_2.data.toList.drop 24 = dktJ6_indexOf_2_1 := dk_seg dksJ6_indexOf_2_0 24 rfl rfl
theorem dJ6_indexOf_2_0 : decode cJ6_indexOf_2 0 = .ok (.aload_n 0, 1) := dk_42 (dk_at dksJ6_indexOf_2_0 0 rfl rfl)
theorem dJ6_indexOf_2_1 : decode cJ6_indexOf_2 1 = .ok (.invokevirtual 492, 3) := dk_182 1 236 (dk_at dksJ6_indexOf_2_0 1 rfl rfl)
theorem dJ6_indexOf_2_4 : decode cJ6_indexOf_2 4 = .ok (.ifCond .eq 19, 3) := dk_153 0 19 (dk_at dksJ6_indexOf_2_0 4 rfl rfl)
theorem dJ6_indexOf_2_7 : decode cJ6_indexOf_2 7 = .ok (.aload_n 0, 1) := dk_42 (dk_at dksJ6_indexOf_2_0 7 rfl rfl)
theorem dJ6_indexOf_2_8 : decode cJ6_indexOf_2 8 = .ok (.getfield 9, 3) := dk_180 0 9 (dk_at dksJ6_indexOf_2_0 8 rfl rfl)
theorem dJ6_indexOf_2_11 : decode cJ6_indexOf_2 11 = .ok (.iload_n 1, 1) := dk_27 (dk_at dksJ6_indexOf_2_0 11 rfl rfl)
theorem dJ6_indexOf_2_12 : decode cJ6_indexOf_2 12 = .ok (.iload_n 2, 1) := dk_28 (dk_at dksJ6_indexOf_2_0 12 rfl rfl)
theorem dJ6_indexOf_2_13 : decode cJ6_indexOf_2 13 = .ok (.aload_n 0, 1) := dk_42 (dk_at dksJ6_indexOf_2_0 13 rfl rfl)
theorem dJ6_indexOf_2_14 : decode cJ6_indexOf_2 14 = .ok (.invokevirtual 505, 3) := dk_182 1 249 (dk_at dksJ6_indexOf_2_0 14 rfl rfl)
theorem dJ6_indexOf_2_17 : decode cJ6_indexOf_2 17 = .ok (.invokestatic 637, 3) := dk_184 2 125 (dk_at dksJ6_indexOf_2_0 17 rfl rfl)
theorem dJ6_indexOf_2_20 : decode cJ6_indexOf_2 20 = .ok (.goto 16, 3) := dk_167 0 16 (dk_at dksJ6_indexOf_2_0 20 rfl rfl)
theorem dJ6_indexOf_2_23 : decode cJ6_indexOf_2 23 = .ok (.aload_n 0, 1) := dk_42 (dk_at dksJ6_indexOf_2_0 23 rfl rfl)
theorem dJ6_indexOf_2_24 : decode cJ6_indexOf_2 24 = .ok (.getfield 9, 3) := dk_180 0 9 (dk_at dksJ6_indexOf_2_1 0 rfl rfl)
theorem dJ6_indexOf_2_27 : decode cJ6_indexOf_2 27 = .ok (.iload_n 1, 1) := dk_27 (dk_at dksJ6_indexOf_2_1 3 rfl rfl)
theorem dJ6_indexOf_2_28 : decode cJ6_indexOf_2 28 = .ok (.iload_n 2, 1) := dk_28 (dk_at dksJ6_indexOf_2_1 4 rfl rfl)
theorem dJ6_indexOf_2_29 : decode cJ6_indexOf_2 29 = .ok (.aload_n 0, 1) := dk_42 (dk_at dksJ6_indexOf_2_1 5 rfl rfl)
theorem dJ6_indexOf_2_30 : decode cJ6_indexOf_2 30 = .ok (.invokevirtual 505, 3) := dk_182 1 249 (dk_at dksJ6_indexOf_2_1 6 rfl rfl)
theorem dJ6_indexOf_2_33 : decode cJ6_indexOf_2 33 = .ok (.invokestatic 640, 3) := dk_184 2 128 (dk_at dksJ6_indexOf_2_1 9 rfl rfl)
theorem dJ6_indexOf_2_36 : decode cJ6_indexOf_2 36 = .ok (.ireturn, 1) := dk_172 (dk_at dksJ6_indexOf_2_1 12 rfl rfl)
theorem md_J6_indexOf_2 : xMd yJ6_indexOf_2 cJ6_indexOf_2 3 (Option.some Jvm.ClassFile.FieldType.int) 2 := ⟨q412, q133, by decide, by decide +kernel, by decide +kernel, by decide +kernel⟩
def f_J6_indexOf_2 (p0 : PH) (a0 : Nat) (a1 : Int32) (a2 : Int32) : Option (xO × PH) :=
  (xcl1 p0 a0 16 (xcI (f_J6_isLatin1 p0 a0 ) fun x2 p1 =>
  (if x2 = 0 then
  (xgR p1 a0 16 0 fun x3 =>
  (xcI (f_J6_length p1 a0 ) fun x5 p4 =>
  none)) else
  (xgR p1 a0 16 0 fun x6 =>
  (xcI (f_J6_length p1 a0 ) fun x8 p7 =>
  (xcI (f_J7_indexOf p7 x6 a1 a2 x8) fun x10 p9 =>
  (rI x10 p9)))))))
theorem rc_J6_indexOf_2 {p0 : PH} {a0 : Nat} {a1 : Int32} {a2 : Int32} : ∀ z, f_J6_indexOf_2 p0 a0 a1 a2 = some z → xco p0 a0 = some 16 := fun z h => xcl1_some h
theorem f_J6_indexOf_2_ok {G : xG} (hO : xOK G) (p0 : PH) (a0 : Nat) (a1 : Int32) (a2 : Int32) : CT G 2 yJ6_indexOf_2 cJ6_indexOf_2 3 (Option.some Jvm.ClassFile.FieldType.int) [.ref a0, .int a1, .int a2] p0 (f_J6_indexOf_2 p0 a0 a1 a2) := by
  refine CT_of hO (by decide +kernel) (by decide +kernel) (Nat.le_of_ble_eq_true rfl) ?_
  show X G "java/lang/String" "indexOf" cJ6_indexOf_2 3 (Option.some Jvm.ClassFile.FieldType.int) 2 0 [(0, .ref a0), (1, .int a1), (2, .int a2)] [] p0 (f_J6_indexOf_2 p0 a0 a1 a2)
  refine x_cl1 (fun e0 => ?_)
  refine x_aload_nr 0 dJ6_indexOf_2_0 rfl rfl (n := 1) rfl ?_
  refine x_callV_I [] [] (f_J6_isLatin1_ok hO p0 a0 ) rc_J6_isLatin1 md_J6_isLatin1 rfl q413 q414 q415 dJ6_indexOf_2_1 rfl rfl (by decide) (Nat.le_of_ble_eq_true rfl) (n := 4) rfl (fun x2 p1 => ?_)
  refine x_if_eq dJ6_indexOf_2_4 (t := 23) (by decide) (n := 7) rfl (fun _ => ?_) (fun _ => ?_)
  · refine x_aload_nr 0 dJ6_indexOf_2_23 rfl rfl (n := 24) rfl ?_
    refine x_getR fl_J6_9 dJ6_indexOf_2_24 (n := 27) rfl (fun x3 => ?_)
    refine x_iload_n 1 dJ6_indexOf_2_27 rfl rfl (n := 28) rfl ?_
    refine x_iload_n 2 dJ6_indexOf_2_28 rfl rfl (n := 29) rfl ?_
    refine x_aload_nr 0 dJ6_indexOf_2_29 rfl rfl (n := 30) rfl ?_
    refine x_callV_I [] [.int a2, .int a1, va_rf x3] (f_J6_length_ok hO p1 a0 ) rc_J6_length md_J6_length rfl q419 q420 q421 dJ6_indexOf_2_30 rfl rfl (by decide) (by simp only [List.map, xcat]; exact Nat.le_of_ble_eq_true rfl) (n := 33) rfl (fun x5 p4 => ?_)
    exact x_no
  · refine x_aload_nr 0 dJ6_indexOf_2_7 rfl rfl (n := 8) rfl ?_
    refine x_getR fl_J6_9 dJ6_indexOf_2_8 (n := 11) rfl (fun x6 => ?_)
    refine x_iload_n 1 dJ6_indexOf_2_11 rfl rfl (n := 12) rfl ?_
    refine x_iload_n 2 dJ6_indexOf_2_12 rfl rfl (n := 13) rfl ?_
    refine x_aload_nr 0 dJ6_indexOf_2_13 rfl rfl (n := 14) rfl ?_
    refine x_callV_I [] [.int a2, .int a1, va_rf x6] (f_J6_length_ok hO p1 a0 ) rc_J6_length md_J6_length rfl q419 q420 q421 dJ6_indexOf_2_14 rfl rfl (by decide) (by simp only [List.map, xcat]; exact Nat.le_of_ble_eq_true rfl) (n := 17) rfl (fun x8 p7 => ?_)
    refine x_callS_I [va_rf x6, .int a1, .int a2, .int x8] [] (f_J7_indexOf_ok hO p7 x6 a1 a2 x8) md_J7_indexOf q427 q428 dJ6_indexOf_2_17 rfl rfl (by decide) (Nat.le_of_ble_eq_true rfl) (n := 20) rfl (fun x10 p9 => ?_)
    refine x_goto dJ6_indexOf_2_20 (n := 36) (by decide) ?_
    exact x_ireturn dJ6_indexOf_2_36
abbrev cJ6_indexOf : ByteArray := prog_31_method_79_code
def yJ6_indexOf : MethodName := ⟨RJ6, "indexOf", "(I)I"⟩
def dkwJ6_indexOf_0 : List UInt8 := [42, 27, 3, 182, 2, 121, 172]
abbrev dktJ6_indexOf_0 : List UInt8 := dkwJ6_indexOf_0 ++ []
theorem dksJ6_indexOf_0 : cJ6_indexOf.data.toList.drop 0 = dktJ6_indexOf_0 := by decide +kernel
theorem dJ6_indexOf_0 : decode cJ6_indexOf 0 = .ok (.aload_n 0, 1) := dk_42 (dk_at dksJ6_indexOf_0 0 rfl rfl)
theorem dJ6_indexOf_1 : decode cJ6_indexOf 1 = .ok (.iload_n 1, 1) := dk_27 (dk_at dksJ6_indexOf_0 1 rfl rfl)
theorem dJ6_indexOf_2 : decode cJ6_indexOf 2 = .ok (.iconst 0, 1) := dk_3 (dk_at dksJ6_indexOf_0 2 rfl rfl)
theorem dJ6_indexOf_3 : decode cJ6_indexOf 3 = .ok (.invokevirtual 633, 3) := dk_182 2 121 (dk_at dksJ6_indexOf_0 3 rfl rfl)
theorem dJ6_indexOf_6 : decode cJ6_indexOf 6 = .ok (.ireturn, 1) := dk_172 (dk_at dksJ6_indexOf_0 6 rfl rfl)
theorem md_J6_indexOf : xMd yJ6_indexOf cJ6_indexOf 2 (Option.some Jvm.ClassFile.FieldType.int) 1 := ⟨q408, q133, by decide, by decide +kernel, by decide +kernel, by decide +kernel⟩
def f_J6_indexOf (p0 : PH) (a0 : Nat) (a1 : Int32) : Option (xO × PH) :=
  (xcl1 p0 a0 16 (xcI (f_J6_indexOf_2 p0 a0 a1 0) fun x2 p1 =>
  (rI x2 p1)))
theorem rc_J6_indexOf {p0 : PH} {a0 : Nat} {a1 : Int32} : ∀ z, f_J6_indexOf p0 a0 a1 = some z → xco p0 a0 = some 16 := fun z h => xcl1_some h
theorem f_J6_indexOf_ok {G : xG} (hO : xOK G) (p0 : PH) (a0 : Nat) (a1 : Int32) : CT G 3 yJ6_indexOf cJ6_indexOf 2 (Option.some Jvm.ClassFile.FieldType.int) [.ref a0, .int a1] p0 (f_J6_indexOf p0 a0 a1) := by
  refine CT_of hO (by decide +kernel) (by decide +kernel) (Nat.le_of_ble_eq_true rfl) ?_
  show X G "java/lang/String" "indexOf" cJ6_indexOf 2 (Option.some Jvm.ClassFile.FieldType.int) 3 0 [(0, .ref a0), (1, .int a1)] [] p0 (f_J6_indexOf p0 a0 a1)
  refine x_cl1 (fun e0 => ?_)
  refine x_aload_nr 0 dJ6_indexOf_0 rfl rfl (n := 1) rfl ?_
  refine x_iload_n 1 dJ6_indexOf_1 rfl rfl (n := 2) rfl ?_
  refine x_iconst 0 dJ6_indexOf_2 rfl (n := 3) rfl ?_
  refine x_callV_I [.int a1, .int 0] [] (f_J6_indexOf_2_ok hO p0 a0 a1 0) rc_J6_indexOf_2 md_J6_indexOf_2 rfl q409 q410 q411 dJ6_indexOf_3 rfl rfl (by decide) (Nat.le_of_ble_eq_true rfl) (n := 6) rfl (fun x2 p1 => ?_)
  exact x_ireturn dJ6_indexOf_6
abbrev cX3_go : ByteArray := prog_10_method_5_code
def yX3_go : MethodName := ⟨RX3, "go", "()V"⟩
def dkwX3_go_11 : List UInt8 := [180, 0, 45, 4, 96, 181, 0, 45, 177]
abbrev dktX3_go_11 : List UInt8 := dkwX3_go_11 ++ []
def dkwX3_go_10 : List UInt8 := [180, 0, 45, 182, 0, 37, 182, 0, 66, 156, 0, 7, 3, 167, 0, 4, 7, 181, 0, 51, 42, 89]
abbrev dktX3_go_10 : List UInt8 := dkwX3_go_10 ++ dktX3_go_11
def dkwX3_go_9 : List UInt8 := [180, 0, 48, 100, 7, 164, 0, 7, 3, 167, 0, 4, 6, 181, 0, 51, 167, 0, 38, 42, 18, 64, 42, 42]
abbrev dktX3_go_9 : List UInt8 := dkwX3_go_9 ++ dktX3_go_10
def dkwX3_go_8 : List UInt8 := [181, 0, 61, 42, 89, 180, 0, 45, 4, 96, 181, 0, 45, 167, 255, 199, 42, 42, 180, 0, 45, 42]
abbrev dktX3_go_8 : List UInt8 := dkwX3_go_8 ++ dktX3_go_9
def dkwX3_go_7 : List UInt8 := [162, 0, 26, 42, 16, 10, 42, 180, 0, 61, 104, 42, 42, 180, 0, 45, 182, 0, 37, 96, 16, 48, 100]
abbrev dktX3_go_7 : List UInt8 := dkwX3_go_7 ++ dktX3_go_8
def dkwX3_go_6 : List UInt8 := [181, 0, 61, 42, 42, 180, 0, 45, 182, 0, 58, 153, 0, 52, 42, 180, 0, 45, 42, 180, 0, 48, 100, 7]
abbrev dktX3_go_6 : List UInt8 := dkwX3_go_6 ++ dktX3_go_7
def dkwX3_go_5 : List UInt8 := [167, 0, 4, 5, 181, 0, 51, 167, 0, 139, 42, 42, 180, 0, 45, 182, 0, 58, 153, 0, 93, 42, 3]
abbrev dktX3_go_5 : List UInt8 := dkwX3_go_5 ++ dktX3_go_6
def dkwX3_go_4 : List UInt8 := [181, 0, 45, 167, 255, 235, 42, 42, 180, 0, 45, 42, 180, 0, 48, 100, 16, 6, 164, 0, 7, 3]
abbrev dktX3_go_4 : List UInt8 := dkwX3_go_4 ++ dktX3_go_5
def dkwX3_go_3 : List UInt8 := [182, 0, 54, 153, 0, 53, 42, 42, 180, 0, 45, 182, 0, 54, 153, 0, 16, 42, 89, 180, 0, 45, 4, 96]
abbrev dktX3_go_3 : List UInt8 := dkwX3_go_3 ++ dktX3_go_4
def dkwX3_go_2 : List UInt8 := [180, 0, 45, 42, 180, 0, 29, 161, 0, 11, 42, 4, 181, 0, 51, 167, 0, 200, 42, 42, 180, 0, 45]
abbrev dktX3_go_2 : List UInt8 := dkwX3_go_2 ++ dktX3_go_3
def dkwX3_go_1 : List UInt8 := [42, 89, 180, 0, 45, 4, 96, 181, 0, 45, 167, 255, 222, 42, 42, 180, 0, 45, 181, 0, 48, 42]
abbrev dktX3_go_1 : List UInt8 := dkwX3_go_1 ++ dktX3_go_2
def dkwX3_go_0 : List UInt8 := [42, 180, 0, 45, 42, 180, 0, 29, 162, 0, 29, 42, 42, 180, 0, 45, 182, 0, 37, 16, 32, 160, 0, 16]
abbrev dktX3_go_0 : List UInt8 := dkwX3_go_0 ++ dktX3_go_1
theorem dksX3_go_0 : cX3_go.data.toList.drop 0 = dktX3_go_0 := by decide +kernel
theorem dksX3_go_1 : cX3_go.data.toList.drop 24 = dktX3_go_1 := dk_seg dksX3_go_0 24 rfl rfl
theorem dksX3_go_2 : cX3_go.data.toList.drop 46 = dktX3_go_2 := dk_seg dksX3_go_1 22 rfl rfl
theorem dksX3_go_3 : cX3_go.data.toList.drop 69 = dktX3_go_3 := dk_seg dksX3_go_2 23 rfl rfl
theorem dksX3_go_4 : cX3_go.data.toList.drop 93 = dktX3_go_4 := dk_seg dksX3_go_3 24 rfl rfl
theorem dksX3_go_5 : cX3_go.data.toList.drop 115 = dktX3_go_5 := dk_seg dksX3_go_4 22 rfl rfl
theorem dksX3_go_6 : cX3_go.data.toList.drop 138 = dktX3_go_6 := dk_seg dksX3_go_5 23 rfl rfl
theorem dksX3_go_7 : cX3_go.data.toList.drop 162 = dktX3_go_7 := dk_seg dksX3_go_6 24 rfl rfl
theorem dksX3_go_8 : cX3_go.data.toList.drop 185 = dktX3_go_8 := dk_seg dksX3_go_7 23 rfl rfl
theorem dksX3_go_9 : cX3_go.data.toList.drop 207 = dktX3_go_9 := dk_seg dksX3_go_8 22 rfl rfl
theorem dksX3_go_10 : cX3_go.data.toList.drop 231 = dktX3_go_10 := dk_seg dksX3_go_9 24 rfl rfl
theorem dksX3_go_11 : cX3_go.data.toList.drop 253 = dktX3_go_11 := dk_seg dksX3_go_10 22 rfl rfl
theorem dX3_go_0 : decode cX3_go 0 = .ok (.aload_n 0, 1) := dk_42 (dk_at dksX3_go_0 0 rfl rfl)
theorem dX3_go_1 : decode cX3_go 1 = .ok (.getfield 45, 3) := dk_180 0 45 (dk_at dksX3_go_0 1 rfl rfl)
theorem dX3_go_4 : decode cX3_go 4 = .ok (.aload_n 0, 1) := dk_42 (dk_at dksX3_go_0 4 rfl rfl)
theorem dX3_go_5 : decode cX3_go 5 = .ok (.getfield 29, 3) := dk_180 0 29 (dk_at dksX3_go_0 5 rfl rfl)
theorem dX3_go_8 : decode cX3_go 8 = .ok (.if_icmp .ge 29, 3) := dk_162 0 29 (dk_at dksX3_go_0 8 rfl rfl)
theorem dX3_go_11 : decode cX3_go 11 = .ok (.aload_n 0, 1) := dk_42 (dk_at dksX3_go_0 11 rfl rfl)
theorem dX3_go_12 : decode cX3_go 12 = .ok (.aload_n 0, 1) := dk_42 (dk_at dksX3_go_0 12 rfl rfl)
theorem dX3_go_13 : decode cX3_go 13 = .ok (.getfield 45, 3) := dk_180 0 45 (dk_at dksX3_go_0 13 rfl rfl)
theorem dX3_go_16 : decode cX3_go 16 = .ok (.invokevirtual 37, 3) := dk_182 0 37 (dk_at dksX3_go_0 16 rfl rfl)
theorem dX3_go_19 : decode cX3_go 19 = .ok (.bipush 32, 2) := dk_16 32 (dk_at dksX3_go_0 19 rfl rfl)
theorem dX3_go_21 : decode cX3_go 21 = .ok (.if_icmp .ne 16, 3) := dk_160 0 16 (dk_at dksX3_go_0 21 rfl rfl)
theorem dX3_go_24 : decode cX3_go 24 = .ok (.aload_n 0, 1) := dk_42 (dk_at dksX3_go_1 0 rfl rfl)
theorem dX3_go_25 : decode cX3_go 25 = .ok (.dup, 1) := dk_89 (dk_at dksX3_go_1 1 rfl rfl)
theorem dX3_go_26 : decode cX3_go 26 = .ok (.getfield 45, 3) := dk_180 0 45 (dk_at dksX3_go_1 2 rfl rfl)
theorem dX3_go_29 : decode cX3_go 29 = .ok (.iconst 1, 1) := dk_4 (dk_at dksX3_go_1 5 rfl rfl)
theorem dX3_go_30 : decode cX3_go 30 = .ok (.iadd, 1) := dk_96 (dk_at dksX3_go_1 6 rfl rfl)
theorem dX3_go_31 : decode cX3_go 31 = .ok (.putfield 45, 3) := dk_181 0 45 (dk_at dksX3_go_1 7 rfl rfl)
theorem dX3_go_34 : decode cX3_go 34 = .ok (.goto (-34), 3) := dk_167 255 222 (dk_at dksX3_go_1 10 rfl rfl)
theorem dX3_go_37 : decode cX3_go 37 = .ok (.aload_n 0, 1) := dk_42 (dk_at dksX3_go_1 13 rfl rfl)
theorem dX3_go_38 : decode cX3_go 38 = .ok (.aload_n 0, 1) := dk_42 (dk_at dksX3_go_1 14 rfl rfl)
theorem dX3_go_39 : decode cX3_go 39 = .ok (.getfield 45, 3) := dk_180 0 45 (dk_at dksX3_go_1 15 rfl rfl)
theorem dX3_go_42 : decode cX3_go 42 = .ok (.putfield 48, 3) := dk_181 0 48 (dk_at dksX3_go_1 18 rfl rfl)
theorem dX3_go_45 : decode cX3_go 45 = .ok (.aload_n 0, 1) := dk_42 (dk_at dksX3_go_1 21 rfl rfl)
theorem dX3_go_46 : decode cX3_go 46 = .ok (.getfield 45, 3) := dk_180 0 45 (dk_at dksX3_go_2 0 rfl rfl)
theorem dX3_go_49 : decode cX3_go 49 = .ok (.aload_n 0, 1) := dk_42 (dk_at dksX3_go_2 3 rfl rfl)
theorem dX3_go_50 : decode cX3_go 50 = .ok (.getfield 29, 3) := dk_180 0 29 (dk_at dksX3_go_2 4 rfl rfl)
theorem dX3_go_53 : decode cX3_go 53 = .ok (.if_icmp .lt 11, 3) := dk_161 0 11 (dk_at dksX3_go_2 7 rfl rfl)
theorem dX3_go_56 : decode cX3_go 56 = .ok (.aload_n 0, 1) := dk_42 (dk_at dksX3_go_2 10 rfl rfl)
theorem dX3_go_57 : decode cX3_go 57 = .ok (.iconst 1, 1) := dk_4 (dk_at dksX3_go_2 11 rfl rfl)
theorem dX3_go_58 : decode cX3_go 58 = .ok (.putfield 51, 3) := dk_181 0 51 (dk_at dksX3_go_2 12 rfl rfl)
theorem dX3_go_61 : decode cX3_go 61 = .ok (.goto 200, 3) := dk_167 0 200 (dk_at dksX3_go_2 15 rfl rfl)
theorem dX3_go_64 : decode cX3_go 64 = .ok (.aload_n 0, 1) := dk_42 (dk_at dksX3_go_2 18 rfl rfl)
theorem dX3_go_65 : decode cX3_go 65 = .ok (.aload_n 0, 1) := dk_42 (dk_at dksX3_go_2 19 rfl rfl)
theorem dX3_go_66 : decode cX3_go 66 = .ok (.getfield 45, 3) := dk_180 0 45 (dk_at dksX3_go_2 20 rfl rfl)
theorem dX3_go_69 : decode cX3_go 69 = .ok (.invokevirtual 54, 3) := dk_182 0 54 (dk_at dksX3_go_3 0 rfl rfl)
theorem dX3_go_72 : decode cX3_go 72 = .ok (.ifCond .eq 53, 3) := dk_153 0 53 (dk_at dksX3_go_3 3 rfl rfl)
theorem dX3_go_75 : decode cX3_go 75 = .ok (.aload_n 0, 1) := dk_42 (dk_at dksX3_go_3 6 rfl rfl)
theorem dX3_go_76 : decode cX3_go 76 = .ok (.aload_n 0, 1) := dk_42 (dk_at dksX3_go_3 7 rfl rfl)
theorem dX3_go_77 : decode cX3_go 77 = .ok (.getfield 45, 3) := dk_180 0 45 (dk_at dksX3_go_3 8 rfl rfl)
theorem dX3_go_80 : decode cX3_go 80 = .ok (.invokevirtual 54, 3) := dk_182 0 54 (dk_at dksX3_go_3 11 rfl rfl)
theorem dX3_go_83 : decode cX3_go 83 = .ok (.ifCond .eq 16, 3) := dk_153 0 16 (dk_at dksX3_go_3 14 rfl rfl)
theorem dX3_go_86 : decode cX3_go 86 = .ok (.aload_n 0, 1) := dk_42 (dk_at dksX3_go_3 17 rfl rfl)
theorem dX3_go_87 : decode cX3_go 87 = .ok (.dup, 1) := dk_89 (dk_at dksX3_go_3 18 rfl rfl)
theorem dX3_go_88 : decode cX3_go 88 = .ok (.getfield 45, 3) := dk_180 0 45 (dk_at dksX3_go_3 19 rfl rfl)
theorem dX3_go_91 : decode cX3_go 91 = .ok (.iconst 1, 1) := dk_4 (dk_at dksX3_go_3 22 rfl rfl)
theorem dX3_go_92 : decode cX3_go 92 = .ok (.iadd, 1) := dk_96 (dk_at dksX3_go_3 23 rfl rfl)
theorem dX3_go_93 : decode cX3_go 93 = .ok (.putfield 45, 3) := dk_181 0 45 (dk_at dksX3_go_4 0 rfl rfl)
theorem dX3_go_96 : decode cX3_go 96 = .ok (.goto (-21), 3) := dk_167 255 235 (dk_at dksX3_go_4 3 rfl rfl)
theorem dX3_go_99 : decode cX3_go 99 = .ok (.aload_n 0, 1) := dk_42 (dk_at dksX3_go_4 6 rfl rfl)
theorem dX3_go_100 : decode cX3_go 100 = .ok (.aload_n 0, 1) := dk_42 (dk_at dksX3_go_4 7 rfl rfl)
theorem dX3_go_101 : decode cX3_go 101 = .ok (.getfield 45, 3) := dk_180 0 45 (dk_at dksX3_go_4 8 rfl rfl)
theorem dX3_go_104 : decode cX3_go 104 = .ok (.aload_n 0, 1) := dk_42 (dk_at dksX3_go_4 11 rfl rfl)
theorem dX3_go_105 : decode cX3_go 105 = .ok (.getfield 48, 3) := dk_180 0 48 (dk_at dksX3_go_4 12 rfl rfl)
theorem dX3_go_108 : decode cX3_go 108 = .ok (.isub, 1) := dk_100 (dk_at dksX3_go_4 15 rfl rfl)
theorem dX3_go_109 : decode cX3_go 109 = .ok (.bipush 6, 2) := dk_16 6 (dk_at dksX3_go_4 16 rfl rfl)
theorem dX3_go_111 : decode cX3_go 111 = .ok (.if_icmp .le 7, 3) := dk_164 0 7 (dk_at dksX3_go_4 18 rfl rfl)
theorem dX3_go_114 : decode cX3_go 114 = .ok (.iconst 0, 1) := dk_3 (dk_at dksX3_go_4 21 rfl rfl)
theorem dX3_go_115 : decode cX3_go 115 = .ok (.goto 4, 3) := dk_167 0 4 (dk_at dksX3_go_5 0 rfl rfl)
theorem dX3_go_118 : decode cX3_go 118 = .ok (.iconst 2, 1) := dk_5 (dk_at dksX3_go_5 3 rfl rfl)
theorem dX3_go_119 : decode cX3_go 119 = .ok (.putfield 51, 3) := dk_181 0 51 (dk_at dksX3_go_5 4 rfl rfl)
theorem dX3_go_122 : decode cX3_go 122 = .ok (.goto 139, 3) := dk_167 0 139 (dk_at dksX3_go_5 7 rfl rfl)
theorem dX3_go_125 : decode cX3_go 125 = .ok (.aload_n 0, 1) := dk_42 (dk_at dksX3_go_5 10 rfl rfl)
theorem dX3_go_126 : decode cX3_go 126 = .ok (.aload_n 0, 1) := dk_42 (dk_at dksX3_go_5 11 rfl rfl)
theorem dX3_go_127 : decode cX3_go 127 = .ok (.getfield 45, 3) := dk_180 0 45 (dk_at dksX3_go_5 12 rfl rfl)
theorem dX3_go_130 : decode cX3_go 130 = .ok (.invokevirtual 58, 3) := dk_182 0 58 (dk_at dksX3_go_5 15 rfl rfl)
theorem dX3_go_133 : decode cX3_go 133 = .ok (.ifCond .eq 93, 3) := dk_153 0 93 (dk_at dksX3_go_5 18 rfl rfl)
theorem dX3_go_136 : decode cX3_go 136 = .ok (.aload_n 0, 1) := dk_42 (dk_at dksX3_go_5 21 rfl rfl)
theorem dX3_go_137 : decode cX3_go 137 = .ok (.iconst 0, 1) := dk_3 (dk_at dksX3_go_5 22 rfl rfl)
theorem dX3_go_138 : decode cX3_go 138 = .ok (.putfield 61, 3) := dk_181 0 61 (dk_at dksX3_go_6 0 rfl rfl)
theorem dX3_go_141 : decode cX3_go 141 = .ok (.aload_n 0, 1) := dk_42 (dk_at dksX3_go_6 3 rfl rfl)
theorem dX3_go_142 : decode cX3_go 142 = .ok (.aload_n 0, 1) := dk_42 (dk_at dksX3_go_6 4 rfl rfl)
theorem dX3_go_143 : decode cX3_go 143 = .ok (.getfield 45, 3) := dk_180 0 45 (dk_at dksX3_go_6 5 rfl rfl)
theorem dX3_go_146 : decode cX3_go 146 = .ok (.invokevirtual 58, 3) := dk_182 0 58 (dk_at dksX3_go_6 8 rfl rfl)
theorem dX3_go_149 : decode cX3_go 149 = .ok (.ifCond .eq 52, 3) := dk_153 0 52 (dk_at dksX3_go_6 11 rfl rfl)
theorem dX3_go_152 : decode cX3_go 152 = .ok (.aload_n 0, 1) := dk_42 (dk_at dksX3_go_6 14 rfl rfl)
theorem dX3_go_153 : decode cX3_go 153 = .ok (.getfield 45, 3) := dk_180 0 45 (dk_at dksX3_go_6 15 rfl rfl)
theorem dX3_go_156 : decode cX3_go 156 = .ok (.aload_n 0, 1) := dk_42 (dk_at dksX3_go_6 18 rfl rfl)
theorem dX3_go_157 : decode cX3_go 157 = .ok (.getfield 48, 3) := dk_180 0 48 (dk_at dksX3_go_6 19 rfl rfl)
theorem dX3_go_160 : decode cX3_go 160 = .ok (.isub, 1) := dk_100 (dk_at dksX3_go_6 22 rfl rfl)
theorem dX3_go_161 : decode cX3_go 161 = .ok (.iconst 4, 1) := dk_7 (dk_at dksX3_go_6 23 rfl rfl)
theorem dX3_go_162 : decode cX3_go 162 = .ok (.if_icmp .ge 26, 3) := dk_162 0 26 (dk_at dksX3_go_7 0 rfl rfl)
theorem dX3_go_165 : decode cX3_go 165 = .ok (.aload_n 0, 1) := dk_42 (dk_at dksX3_go_7 3 rfl rfl)
theorem dX3_go_166 : decode cX3_go 166 = .ok (.bipush 10, 2) := dk_16 10 (dk_at dksX3_go_7 4 rfl rfl)
theorem dX3_go_168 : decode cX3_go 168 = .ok (.aload_n 0, 1) := dk_42 (dk_at dksX3_go_7 6 rfl rfl)
theorem dX3_go_169 : decode cX3_go 169 = .ok (.getfield 61, 3) := dk_180 0 61 (dk_at dksX3_go_7 7 rfl rfl)
theorem dX3_go_172 : decode cX3_go 172 = .ok (.imul, 1) := dk_104 (dk_at dksX3_go_7 10 rfl rfl)
theorem dX3_go_173 : decode cX3_go 173 = .ok (.aload_n 0, 1) := dk_42 (dk_at dksX3_go_7 11 rfl rfl)
theorem dX3_go_174 : decode cX3_go 174 = .ok (.aload_n 0, 1) := dk_42 (dk_at dksX3_go_7 12 rfl rfl)
theorem dX3_go_175 : decode cX3_go 175 = .ok (.getfield 45, 3) := dk_180 0 45 (dk_at dksX3_go_7 13 rfl rfl)
theorem dX3_go_178 : decode cX3_go 178 = .ok (.invokevirtual 37, 3) := dk_182 0 37 (dk_at dksX3_go_7 16 rfl rfl)
theorem dX3_go_181 : decode cX3_go 181 = .ok (.iadd, 1) := dk_96 (dk_at dksX3_go_7 19 rfl rfl)
theorem dX3_go_182 : decode cX3_go 182 = .ok (.bipush 48, 2) := dk_16 48 (dk_at dksX3_go_7 20 rfl rfl)
theorem dX3_go_184 : decode cX3_go 184 = .ok (.isub, 1) := dk_100 (dk_at dksX3_go_7 22 rfl rfl)
theorem dX3_go_185 : decode cX3_go 185 = .ok (.putfield 61, 3) := dk_181 0 61 (dk_at dksX3_go_8 0 rfl rfl)
theorem dX3_go_188 : decode cX3_go 188 = .ok (.aload_n 0, 1) := dk_42 (dk_at dksX3_go_8 3 rfl rfl)
theorem dX3_go_189 : decode cX3_go 189 = .ok (.dup, 1) := dk_89 (dk_at dksX3_go_8 4 rfl rfl)
theorem dX3_go_190 : decode cX3_go 190 = .ok (.getfield 45, 3) := dk_180 0 45 (dk_at dksX3_go_8 5 rfl rfl)
theorem dX3_go_193 : decode cX3_go 193 = .ok (.iconst 1, 1) := dk_4 (dk_at dksX3_go_8 8 rfl rfl)
theorem dX3_go_194 : decode cX3_go 194 = .ok (.iadd, 1) := dk_96 (dk_at dksX3_go_8 9 rfl rfl)
theorem dX3_go_195 : decode cX3_go 195 = .ok (.putfield 45, 3) := dk_181 0 45 (dk_at dksX3_go_8 10 rfl rfl)
theorem dX3_go_198 : decode cX3_go 198 = .ok (.goto (-57), 3) := dk_167 255 199 (dk_at dksX3_go_8 13 rfl rfl)
theorem dX3_go_201 : decode cX3_go 201 = .ok (.aload_n 0, 1) := dk_42 (dk_at dksX3_go_8 16 rfl rfl)
theorem dX3_go_202 : decode cX3_go 202 = .ok (.aload_n 0, 1) := dk_42 (dk_at dksX3_go_8 17 rfl rfl)
theorem dX3_go_203 : decode cX3_go 203 = .ok (.getfield 45, 3) := dk_180 0 45 (dk_at dksX3_go_8 18 rfl rfl)
theorem dX3_go_206 : decode cX3_go 206 = .ok (.aload_n 0, 1) := dk_42 (dk_at dksX3_go_8 21 rfl rfl)
theorem dX3_go_207 : decode cX3_go 207 = .ok (.getfield 48, 3) := dk_180 0 48 (dk_at dksX3_go_9 0 rfl rfl)
theorem dX3_go_210 : decode cX3_go 210 = .ok (.isub, 1) := dk_100 (dk_at dksX3_go_9 3 rfl rfl)
theorem dX3_go_211 : decode cX3_go 211 = .ok (.iconst 4, 1) := dk_7 (dk_at dksX3_go_9 4 rfl rfl)
theorem dX3_go_212 : decode cX3_go 212 = .ok (.if_icmp .le 7, 3) := dk_164 0 7 (dk_at dksX3_go_9 5 rfl rfl)
theorem dX3_go_215 : decode cX3_go 215 = .ok (.iconst 0, 1) := dk_3 (dk_at dksX3_go_9 8 rfl rfl)
theorem dX3_go_216 : decode cX3_go 216 = .ok (.goto 4, 3) := dk_167 0 4 (dk_at dksX3_go_9 9 rfl rfl)
theorem dX3_go_219 : decode cX3_go 219 = .ok (.iconst 3, 1) := dk_6 (dk_at dksX3_go_9 12 rfl rfl)
theorem dX3_go_220 : decode cX3_go 220 = .ok (.putfield 51, 3) := dk_181 0 51 (dk_at dksX3_go_9 13 rfl rfl)
theorem dX3_go_223 : decode cX3_go 223 = .ok (.goto 38, 3) := dk_167 0 38 (dk_at dksX3_go_9 16 rfl rfl)
theorem dX3_go_226 : decode cX3_go 226 = .ok (.aload_n 0, 1) := dk_42 (dk_at dksX3_go_9 19 rfl rfl)
theorem dX3_go_227 : decode cX3_go 227 = .ok (.ldc 64, 2) := dk_18 64 (dk_at dksX3_go_9 20 rfl rfl)
theorem dX3_go_229 : decode cX3_go 229 = .ok (.aload_n 0, 1) := dk_42 (dk_at dksX3_go_9 22 rfl rfl)
theorem dX3_go_230 : decode cX3_go 230 = .ok (.aload_n 0, 1) := dk_42 (dk_at dksX3_go_9 23 rfl rfl)
theorem dX3_go_231 : decode cX3_go 231 = .ok (.getfield 45, 3) := dk_180 0 45 (dk_at dksX3_go_10 0 rfl rfl)
theorem dX3_go_234 : decode cX3_go 234 = .ok (.invokevirtual 37, 3) := dk_182 0 37 (dk_at dksX3_go_10 3 rfl rfl)
theorem dX3_go_237 : decode cX3_go 237 = .ok (.invokevirtual 66, 3) := dk_182 0 66 (dk_at dksX3_go_10 6 rfl rfl)
theorem dX3_go_240 : decode cX3_go 240 = .ok (.ifCond .ge 7, 3) := dk_156 0 7 (dk_at dksX3_go_10 9 rfl rfl)
theorem dX3_go_243 : decode cX3_go 243 = .ok (.iconst 0, 1) := dk_3 (dk_at dksX3_go_10 12 rfl rfl)
theorem dX3_go_244 : decode cX3_go 244 = .ok (.goto 4, 3) := dk_167 0 4 (dk_at dksX3_go_10 13 rfl rfl)
theorem dX3_go_247 : decode cX3_go 247 = .ok (.iconst 4, 1) := dk_7 (dk_at dksX3_go_10 16 rfl rfl)
theorem dX3_go_248 : decode cX3_go 248 = .ok (.putfield 51, 3) := dk_181 0 51 (dk_at dksX3_go_10 17 rfl rfl)
theorem dX3_go_251 : decode cX3_go 251 = .ok (.aload_n 0, 1) := dk_42 (dk_at dksX3_go_10 20 rfl rfl)
theorem dX3_go_252 : decode cX3_go 252 = .ok (.dup, 1) := dk_89 (dk_at dksX3_go_10 21 rfl rfl)
theorem dX3_go_253 : decode cX3_go 253 = .ok (.getfield 45, 3) := dk_180 0 45 (dk_at dksX3_go_11 0 rfl rfl)
theorem dX3_go_256 : decode cX3_go 256 = .ok (.iconst 1, 1) := dk_4 (dk_at dksX3_go_11 3 rfl rfl)
theorem dX3_go_257 : decode cX3_go 257 = .ok (.iadd, 1) := dk_96 (dk_at dksX3_go_11 4 rfl rfl)
theorem dX3_go_258 : decode cX3_go 258 = .ok (.putfield 45, 3) := dk_181 0 45 (dk_at dksX3_go_11 5 rfl rfl)
theorem dX3_go_261 : decode cX3_go 261 = .ok (.return_, 1) := dk_177 (dk_at dksX3_go_11 8 rfl rfl)
theorem md_X3_go : xMd yX3_go cX3_go 1 (Option.none : Option Jvm.ClassFile.FieldType) 0 := ⟨q390, q127, by decide, by decide +kernel, by decide +kernel, by decide +kernel⟩
def f_X3_go_248 (a0 : Nat)  (w1 : Int32) (p0 : PH) : Option (xO × PH) :=
  (xpF p0 a0 2 7 (.int w1) fun p20 =>
  (xgI p20 a0 2 5 fun x21 =>
  (xpF p20 a0 2 5 (.int (x21 + 1)) fun p22 =>
  (rV p22))))
def f_X3_go_220 (a0 : Nat)  (w1 : Int32) (p0 : PH) : Option (xO × PH) :=
  (xpF p0 a0 2 7 (.int w1) fun p29 =>
  (rV p29))
def f_X3_go_188 (a0 : Nat) (k141 : PH → Option (xO × PH))  (p0 : PH) : Option (xO × PH) :=
  (xgI p0 a0 2 5 fun x32 =>
  (xpF p0 a0 2 5 (.int (x32 + 1)) fun p33 =>
  (k141 p33)))
def f_X3_go_141F (a0 : Nat)  (k141 : PH → Option (xO × PH)) (p : PH) : Option (xO × PH) := match p with
  | p0 => (xgI p0 a0 2 5 fun x24 =>
  (xcI (f_X3_isDigit p0 a0 x24) fun x26 p25 =>
  (if x26 = 0 then
  (xgI p25 a0 2 5 fun x27 =>
  (xgI p25 a0 2 6 fun x28 =>
  (if (x27 - x28) ≤ 4 then
  (f_X3_go_220 a0 3 p25) else
  (f_X3_go_220 a0 0 p25)))) else
  (xgI p25 a0 2 5 fun x30 =>
  (xgI p25 a0 2 6 fun x31 =>
  (if 4 ≤ (x30 - x31) then
  (f_X3_go_188 a0 k141  p25) else
  (xgI p25 a0 2 8 fun x34 =>
  (xgI p25 a0 2 5 fun x35 =>
  (xcI (f_X3_byteAt p25 a0 x35) fun x37 p36 =>
  (xpF p36 a0 2 8 (.int (((10 * x34) + x37) - 48)) fun p38 =>
  (f_X3_go_188 a0 k141  p38)))))))))))
def f_X3_go_119 (a0 : Nat)  (w1 : Int32) (p0 : PH) : Option (xO × PH) :=
  (xpF p0 a0 2 7 (.int w1) fun p44 =>
  (rV p44))
def f_X3_go_75F (a0 : Nat)  (k75 : PH → Option (xO × PH)) (p : PH) : Option (xO × PH) := match p with
  | p0 => (xgI p0 a0 2 5 fun x39 =>
  (xcI (f_X3_isLetter p0 a0 x39) fun x41 p40 =>
  (if x41 = 0 then
  (xgI p40 a0 2 5 fun x42 =>
  (xgI p40 a0 2 6 fun x43 =>
  (if (x42 - x43) ≤ 6 then
  (f_X3_go_119 a0 2 p40) else
  (f_X3_go_119 a0 0 p40)))) else
  (xgI p40 a0 2 5 fun x45 =>
  (xpF p40 a0 2 5 (.int (x45 + 1)) fun p46 =>
  (k75 p46))))))
def f_X3_go_37 (a0 : Nat)   (p0 : PH) : Option (xO × PH) :=
  (xgI p0 a0 2 5 fun x3 =>
  (xpF p0 a0 2 6 (.int x3) fun p4 =>
  (xgI p4 a0 2 5 fun x5 =>
  (xgI p4 a0 2 0 fun x6 =>
  (if x5 < x6 then
  (xgI p4 a0 2 5 fun x7 =>
  (xcI (f_X3_isLetter p4 a0 x7) fun x9 p8 =>
  (if x9 = 0 then
  (xgI p8 a0 2 5 fun x10 =>
  (xcI (f_X3_isDigit p8 a0 x10) fun x12 p11 =>
  (if x12 = 0 then
  (xcon p11 14 fun x13 =>
  (xgI p11 a0 2 5 fun x14 =>
  (xcI (f_X3_byteAt p11 a0 x14) fun x16 p15 =>
  (xnul x13 none fun b17 =>
  (xcI (f_J6_indexOf p15 b17 x16) fun x19 p18 =>
  (if 0 ≤ x19 then
  (f_X3_go_248 a0 4 p18) else
  (f_X3_go_248 a0 0 p18))))))) else
  (xpF p11 a0 2 8 (.int 0) fun p23 =>
  (lp (f_X3_go_141F a0) FU p23))))) else
  (lp (f_X3_go_75F a0) FU p8)))) else
  (xpF p4 a0 2 7 (.int 1) fun p47 =>
  (rV p47)))))))
def f_X3_go_0F (a0 : Nat)  (k0 : PH → Option (xO × PH)) (p : PH) : Option (xO × PH) := match p with
  | p0 => (xgI p0 a0 2 5 fun x1 =>
  (xgI p0 a0 2 0 fun x2 =>
  (if x2 ≤ x1 then
  (f_X3_go_37 a0  p0) else
  (xgI p0 a0 2 5 fun x48 =>
  (xcI (f_X3_byteAt p0 a0 x48) fun x50 p49 =>
  (if x50 = 32 then
  (xgI p49 a0 2 5 fun x51 =>
  (xpF p49 a0 2 5 (.int (x51 + 1)) fun p52 =>
  (k0 p52))) else
  (f_X3_go_37 a0  p49)))))))
def f_X3_go (p0 : PH) (a0 : Nat) : Option (xO × PH) :=
  (xcl1 p0 a0 2 (lp (f_X3_go_0F a0) FU p0))
theorem rc_X3_go {p0 : PH} {a0 : Nat} : ∀ z, f_X3_go p0 a0 = some z → xco p0 a0 = some 2 := fun z h => xcl1_some h
theorem f_X3_go_248_ok {G : xG} (hO : xOK G) (a0 : Nat)  (w1 : Int32) (p0 : PH) : X G "ForestLegs$Reader" "go" cX3_go 1 (Option.none : Option Jvm.ClassFile.FieldType) 4 248 [(0, .ref a0)] [.int w1, .ref a0] p0 (f_X3_go_248 a0 w1 p0) := by
  unfold f_X3_go_248
  refine x_pF (pl_X3_51 _ _ ⟨rfl, rfl⟩) dX3_go_248 (n := 251) rfl (fun p20 => ?_)
  refine x_aload_nr 0 dX3_go_251 rfl rfl (n := 252) rfl ?_
  refine x_dup dX3_go_252 rfl (n := 253) rfl ?_
  refine x_getI fl_X3_45 dX3_go_253 (n := 256) rfl (fun x21 => ?_)
  refine x_iconst 1 dX3_go_256 rfl (n := 257) rfl ?_
  refine x_iadd dX3_go_257 (n := 258) rfl ?_
  refine x_pF (pl_X3_45 _ _ ⟨rfl, rfl⟩) dX3_go_258 (n := 261) rfl (fun p22 => ?_)
  exact x_return dX3_go_261
theorem f_X3_go_220_ok {G : xG} (hO : xOK G) (a0 : Nat)  (w1 : Int32) (p0 : PH) : X G "ForestLegs$Reader" "go" cX3_go 1 (Option.none : Option Jvm.ClassFile.FieldType) 4 220 [] [.int w1, .ref a0] p0 (f_X3_go_220 a0 w1 p0) := by
  unfold f_X3_go_220
  refine x_pF (pl_X3_51 _ _ ⟨rfl, rfl⟩) dX3_go_220 (n := 223) rfl (fun p29 => ?_)
  refine x_goto dX3_go_223 (n := 261) (by decide) ?_
  exact x_return dX3_go_261
theorem f_X3_go_188_ok {G : xG} (hO : xOK G) (a0 : Nat) {k141 : PH → Option (xO × PH)} (hk141 : ∀  (p0 : PH), X G "ForestLegs$Reader" "go" cX3_go 1 (Option.none : Option Jvm.ClassFile.FieldType) 4 141 [(0, .ref a0)] [] p0 (k141 (p0)))  (p0 : PH) : X G "ForestLegs$Reader" "go" cX3_go 1 (Option.none : Option Jvm.ClassFile.FieldType) 4 188 [(0, .ref a0)] [] p0 (f_X3_go_188 a0 k141  p0) := by
  unfold f_X3_go_188
  refine x_aload_nr 0 dX3_go_188 rfl rfl (n := 189) rfl ?_
  refine x_dup dX3_go_189 rfl (n := 190) rfl ?_
  refine x_getI fl_X3_45 dX3_go_190 (n := 193) rfl (fun x32 => ?_)
  refine x_iconst 1 dX3_go_193 rfl (n := 194) rfl ?_
  refine x_iadd dX3_go_194 (n := 195) rfl ?_
  refine x_pF (pl_X3_45 _ _ ⟨rfl, rfl⟩) dX3_go_195 (n := 198) rfl (fun p33 => ?_)
  refine x_goto dX3_go_198 (n := 141) (by decide) ?_
  exact hk141  p33
theorem f_X3_go_141F_ok {G : xG} (hO : xOK G) (a0 : Nat)  {k141 : PH → Option (xO × PH)} (hk141 : ∀  (p0 : PH), X G "ForestLegs$Reader" "go" cX3_go 1 (Option.none : Option Jvm.ClassFile.FieldType) 4 141 [(0, .ref a0)] [] p0 (k141 (p0)))  (p0 : PH) : X G "ForestLegs$Reader" "go" cX3_go 1 (Option.none : Option Jvm.ClassFile.FieldType) 4 141 [(0, .ref a0)] [] p0 (f_X3_go_141F a0 k141 p0) := by
  unfold f_X3_go_141F
  refine x_aload_nr 0 dX3_go_141 rfl rfl (n := 142) rfl ?_
  refine x_aload_nr 0 dX3_go_142 rfl rfl (n := 143) rfl ?_
  refine x_getI fl_X3_45 dX3_go_143 (n := 146) rfl (fun x24 => ?_)
  refine x_callV_I [.int x24] [] (f_X3_isDigit_ok hO p0 a0 x24) rc_X3_isDigit md_X3_isDigit rfl q400 q402 qs4 dX3_go_146 rfl rfl (by decide) (Nat.le_of_ble_eq_true rfl) (n := 149) rfl (fun x26 p25 => ?_)
  refine x_if_eq dX3_go_149 (t := 201) (by decide) (n := 152) rfl (fun _ => ?_) (fun _ => ?_)
  · refine x_aload_nr 0 dX3_go_201 rfl rfl (n := 202) rfl ?_
    refine x_aload_nr 0 dX3_go_202 rfl rfl (n := 203) rfl ?_
    refine x_getI fl_X3_45 dX3_go_203 (n := 206) rfl (fun x27 => ?_)
    refine x_aload_nr 0 dX3_go_206 rfl rfl (n := 207) rfl ?_
    refine x_getI fl_X3_48 dX3_go_207 (n := 210) rfl (fun x28 => ?_)
    refine x_isub dX3_go_210 (n := 211) rfl ?_
    refine x_iconst 4 dX3_go_211 rfl (n := 212) rfl ?_
    refine x_icmp_le dX3_go_212 (t := 219) (by decide) (n := 215) rfl (fun _ => ?_) (fun _ => ?_)
    · refine x_iconst 3 dX3_go_219 rfl (n := 220) rfl ?_
      refine x_sub [] [] rfl ?_
      exact f_X3_go_220_ok hO a0 3 p25
    · refine x_iconst 0 dX3_go_215 rfl (n := 216) rfl ?_
      refine x_goto dX3_go_216 (n := 220) (by decide) ?_
      refine x_sub [] [] rfl ?_
      exact f_X3_go_220_ok hO a0 0 p25
  · refine x_aload_nr 0 dX3_go_152 rfl rfl (n := 153) rfl ?_
    refine x_getI fl_X3_45 dX3_go_153 (n := 156) rfl (fun x30 => ?_)
    refine x_aload_nr 0 dX3_go_156 rfl rfl (n := 157) rfl ?_
    refine x_getI fl_X3_48 dX3_go_157 (n := 160) rfl (fun x31 => ?_)
    refine x_isub dX3_go_160 (n := 161) rfl ?_
    refine x_iconst 4 dX3_go_161 rfl (n := 162) rfl ?_
    refine x_icmp_ge dX3_go_162 (t := 188) (by decide) (n := 165) rfl (fun _ => ?_) (fun _ => ?_)
    · exact f_X3_go_188_ok hO a0 hk141  p25
    · refine x_aload_nr 0 dX3_go_165 rfl rfl (n := 166) rfl ?_
      refine x_bipush 10 dX3_go_166 rfl (n := 168) rfl ?_
      refine x_aload_nr 0 dX3_go_168 rfl rfl (n := 169) rfl ?_
      refine x_getI fl_X3_61 dX3_go_169 (n := 172) rfl (fun x34 => ?_)
      refine x_imul dX3_go_172 (n := 173) rfl ?_
      refine x_aload_nr 0 dX3_go_173 rfl rfl (n := 174) rfl ?_
      refine x_aload_nr 0 dX3_go_174 rfl rfl (n := 175) rfl ?_
      refine x_getI fl_X3_45 dX3_go_175 (n := 178) rfl (fun x35 => ?_)
      refine x_callV_I [.int x35] [.int (10 * x34), .ref a0] (f_X3_byteAt_ok hO p25 a0 x35) rc_X3_byteAt md_X3_byteAt rfl q391 q393 qs2 dX3_go_178 rfl rfl (by decide) (Nat.le_of_ble_eq_true rfl) (n := 181) rfl (fun x37 p36 => ?_)
      refine x_iadd dX3_go_181 (n := 182) rfl ?_
      refine x_bipush 48 dX3_go_182 rfl (n := 184) rfl ?_
      refine x_isub dX3_go_184 (n := 185) rfl ?_
      refine x_pF (pl_X3_61 _ _ ⟨rfl, rfl⟩) dX3_go_185 (n := 188) rfl (fun p38 => ?_)
      exact f_X3_go_188_ok hO a0 hk141  p38
theorem f_X3_go_141_lp {G : xG} (hO : xOK G) (a0 : Nat)  (n : Nat)  (p0 : PH) : X G "ForestLegs$Reader" "go" cX3_go 1 (Option.none : Option Jvm.ClassFile.FieldType) 4 141 [(0, .ref a0)] [] p0 (lp (f_X3_go_141F a0) n p0) :=
  lp_ok (W := fun p K => X G "ForestLegs$Reader" "go" cX3_go 1 (Option.none : Option Jvm.ClassFile.FieldType) 4 141 [(0, .ref a0)] [] p K) (fun _ => x_no) (fun k hk => fun p0 => f_X3_go_141F_ok hO a0 (fun  p0 => hk p0)  p0) n p0
theorem f_X3_go_119_ok {G : xG} (hO : xOK G) (a0 : Nat)  (w1 : Int32) (p0 : PH) : X G "ForestLegs$Reader" "go" cX3_go 1 (Option.none : Option Jvm.ClassFile.FieldType) 4 119 [] [.int w1, .ref a0] p0 (f_X3_go_119 a0 w1 p0) := by
  unfold f_X3_go_119
  refine x_pF (pl_X3_51 _ _ ⟨rfl, rfl⟩) dX3_go_119 (n := 122) rfl (fun p44 => ?_)
  refine x_goto dX3_go_122 (n := 261) (by decide) ?_
  exact x_return dX3_go_261
theorem f_X3_go_75F_ok {G : xG} (hO : xOK G) (a0 : Nat)  {k75 : PH → Option (xO × PH)} (hk75 : ∀  (p0 : PH), X G "ForestLegs$Reader" "go" cX3_go 1 (Option.none : Option Jvm.ClassFile.FieldType) 4 75 [(0, .ref a0)] [] p0 (k75 (p0)))  (p0 : PH) : X G "ForestLegs$Reader" "go" cX3_go 1 (Option.none : Option Jvm.ClassFile.FieldType) 4 75 [(0, .ref a0)] [] p0 (f_X3_go_75F a0 k75 p0) := by
  unfold f_X3_go_75F
  refine x_aload_nr 0 dX3_go_75 rfl rfl (n := 76) rfl ?_
  refine x_aload_nr 0 dX3_go_76 rfl rfl (n := 77) rfl ?_
  refine x_getI fl_X3_45 dX3_go_77 (n := 80) rfl (fun x39 => ?_)
  refine x_callV_I [.int x39] [] (f_X3_isLetter_ok hO p0 a0 x39) rc_X3_isLetter md_X3_isLetter rfl q395 q397 qs3 dX3_go_80 rfl rfl (by decide) (Nat.le_of_ble_eq_true rfl) (n := 83) rfl (fun x41 p40 => ?_)
  refine x_if_eq dX3_go_83 (t := 99) (by decide) (n := 86) rfl (fun _ => ?_) (fun _ => ?_)
  · refine x_aload_nr 0 dX3_go_99 rfl rfl (n := 100) rfl ?_
    refine x_aload_nr 0 dX3_go_100 rfl rfl (n := 101) rfl ?_
    refine x_getI fl_X3_45 dX3_go_101 (n := 104) rfl (fun x42 => ?_)
    refine x_aload_nr 0 dX3_go_104 rfl rfl (n := 105) rfl ?_
    refine x_getI fl_X3_48 dX3_go_105 (n := 108) rfl (fun x43 => ?_)
    refine x_isub dX3_go_108 (n := 109) rfl ?_
    refine x_bipush 6 dX3_go_109 rfl (n := 111) rfl ?_
    refine x_icmp_le dX3_go_111 (t := 118) (by decide) (n := 114) rfl (fun _ => ?_) (fun _ => ?_)
    · refine x_iconst 2 dX3_go_118 rfl (n := 119) rfl ?_
      refine x_sub [] [] rfl ?_
      exact f_X3_go_119_ok hO a0 2 p40
    · refine x_iconst 0 dX3_go_114 rfl (n := 115) rfl ?_
      refine x_goto dX3_go_115 (n := 119) (by decide) ?_
      refine x_sub [] [] rfl ?_
      exact f_X3_go_119_ok hO a0 0 p40
  · refine x_aload_nr 0 dX3_go_86 rfl rfl (n := 87) rfl ?_
    refine x_dup dX3_go_87 rfl (n := 88) rfl ?_
    refine x_getI fl_X3_45 dX3_go_88 (n := 91) rfl (fun x45 => ?_)
    refine x_iconst 1 dX3_go_91 rfl (n := 92) rfl ?_
    refine x_iadd dX3_go_92 (n := 93) rfl ?_
    refine x_pF (pl_X3_45 _ _ ⟨rfl, rfl⟩) dX3_go_93 (n := 96) rfl (fun p46 => ?_)
    refine x_goto dX3_go_96 (n := 75) (by decide) ?_
    exact hk75  p46
theorem f_X3_go_75_lp {G : xG} (hO : xOK G) (a0 : Nat)  (n : Nat)  (p0 : PH) : X G "ForestLegs$Reader" "go" cX3_go 1 (Option.none : Option Jvm.ClassFile.FieldType) 4 75 [(0, .ref a0)] [] p0 (lp (f_X3_go_75F a0) n p0) :=
  lp_ok (W := fun p K => X G "ForestLegs$Reader" "go" cX3_go 1 (Option.none : Option Jvm.ClassFile.FieldType) 4 75 [(0, .ref a0)] [] p K) (fun _ => x_no) (fun k hk => fun p0 => f_X3_go_75F_ok hO a0 (fun  p0 => hk p0)  p0) n p0
theorem f_X3_go_37_ok {G : xG} (hO : xOK G) (a0 : Nat)   (p0 : PH) : X G "ForestLegs$Reader" "go" cX3_go 1 (Option.none : Option Jvm.ClassFile.FieldType) 4 37 [(0, .ref a0)] [] p0 (f_X3_go_37 a0  p0) := by
  unfold f_X3_go_37
  refine x_aload_nr 0 dX3_go_37 rfl rfl (n := 38) rfl ?_
  refine x_aload_nr 0 dX3_go_38 rfl rfl (n := 39) rfl ?_
  refine x_getI fl_X3_45 dX3_go_39 (n := 42) rfl (fun x3 => ?_)
  refine x_pF (pl_X3_48 _ _ ⟨rfl, rfl⟩) dX3_go_42 (n := 45) rfl (fun p4 => ?_)
  refine x_aload_nr 0 dX3_go_45 rfl rfl (n := 46) rfl ?_
  refine x_getI fl_X3_45 dX3_go_46 (n := 49) rfl (fun x5 => ?_)
  refine x_aload_nr 0 dX3_go_49 rfl rfl (n := 50) rfl ?_
  refine x_getI fl_X3_29 dX3_go_50 (n := 53) rfl (fun x6 => ?_)
  refine x_icmp_lt dX3_go_53 (t := 64) (by decide) (n := 56) rfl (fun _ => ?_) (fun _ => ?_)
  · refine x_aload_nr 0 dX3_go_64 rfl rfl (n := 65) rfl ?_
    refine x_aload_nr 0 dX3_go_65 rfl rfl (n := 66) rfl ?_
    refine x_getI fl_X3_45 dX3_go_66 (n := 69) rfl (fun x7 => ?_)
    refine x_callV_I [.int x7] [] (f_X3_isLetter_ok hO p4 a0 x7) rc_X3_isLetter md_X3_isLetter rfl q395 q397 qs3 dX3_go_69 rfl rfl (by decide) (Nat.le_of_ble_eq_true rfl) (n := 72) rfl (fun x9 p8 => ?_)
    refine x_if_eq dX3_go_72 (t := 125) (by decide) (n := 75) rfl (fun _ => ?_) (fun _ => ?_)
    · refine x_aload_nr 0 dX3_go_125 rfl rfl (n := 126) rfl ?_
      refine x_aload_nr 0 dX3_go_126 rfl rfl (n := 127) rfl ?_
      refine x_getI fl_X3_45 dX3_go_127 (n := 130) rfl (fun x10 => ?_)
      refine x_callV_I [.int x10] [] (f_X3_isDigit_ok hO p8 a0 x10) rc_X3_isDigit md_X3_isDigit rfl q400 q402 qs4 dX3_go_130 rfl rfl (by decide) (Nat.le_of_ble_eq_true rfl) (n := 133) rfl (fun x12 p11 => ?_)
      refine x_if_eq dX3_go_133 (t := 226) (by decide) (n := 136) rfl (fun _ => ?_) (fun _ => ?_)
      · refine x_aload_nr 0 dX3_go_226 rfl rfl (n := 227) rfl ?_
        refine x_ldcS (j := 4) rfl dX3_go_227 (n := 229) rfl (fun x13 => ?_)
        refine x_aload_nr 0 dX3_go_229 rfl rfl (n := 230) rfl ?_
        refine x_aload_nr 0 dX3_go_230 rfl rfl (n := 231) rfl ?_
        refine x_getI fl_X3_45 dX3_go_231 (n := 234) rfl (fun x14 => ?_)
        refine x_callV_I [.int x14] [va_rf x13, .ref a0] (f_X3_byteAt_ok hO p11 a0 x14) rc_X3_byteAt md_X3_byteAt rfl q391 q393 qs2 dX3_go_234 rfl rfl (by decide) (by simp only [List.map, xcat]; exact Nat.le_of_ble_eq_true rfl) (n := 237) rfl (fun x16 p15 => ?_)
        refine x_sm (fun b17 e => ?_)
        subst e
        refine x_callV_I [.int x16] [.ref a0] (f_J6_indexOf_ok hO p15 b17 x16) rc_J6_indexOf md_J6_indexOf rfl q405 q406 q407 dX3_go_237 rfl rfl (by decide) (Nat.le_of_ble_eq_true rfl) (n := 240) rfl (fun x19 p18 => ?_)
        refine x_if_ge dX3_go_240 (t := 247) (by decide) (n := 243) rfl (fun _ => ?_) (fun _ => ?_)
        · refine x_iconst 4 dX3_go_247 rfl (n := 248) rfl ?_
          exact f_X3_go_248_ok hO a0 4 p18
        · refine x_iconst 0 dX3_go_243 rfl (n := 244) rfl ?_
          refine x_goto dX3_go_244 (n := 248) (by decide) ?_
          exact f_X3_go_248_ok hO a0 0 p18
      · refine x_aload_nr 0 dX3_go_136 rfl rfl (n := 137) rfl ?_
        refine x_iconst 0 dX3_go_137 rfl (n := 138) rfl ?_
        refine x_pF (pl_X3_61 _ _ ⟨rfl, rfl⟩) dX3_go_138 (n := 141) rfl (fun p23 => ?_)
        exact f_X3_go_141_lp hO a0 FU  p23
    · exact f_X3_go_75_lp hO a0 FU  p8
  · refine x_aload_nr 0 dX3_go_56 rfl rfl (n := 57) rfl ?_
    refine x_iconst 1 dX3_go_57 rfl (n := 58) rfl ?_
    refine x_pF (pl_X3_51 _ _ ⟨rfl, rfl⟩) dX3_go_58 (n := 61) rfl (fun p47 => ?_)
    refine x_goto dX3_go_61 (n := 261) (by decide) ?_
    exact x_return dX3_go_261
theorem f_X3_go_0F_ok {G : xG} (hO : xOK G) (a0 : Nat)  {k0 : PH → Option (xO × PH)} (hk0 : ∀  (p0 : PH), X G "ForestLegs$Reader" "go" cX3_go 1 (Option.none : Option Jvm.ClassFile.FieldType) 4 0 [(0, .ref a0)] [] p0 (k0 (p0)))  (p0 : PH) : X G "ForestLegs$Reader" "go" cX3_go 1 (Option.none : Option Jvm.ClassFile.FieldType) 4 0 [(0, .ref a0)] [] p0 (f_X3_go_0F a0 k0 p0) := by
  unfold f_X3_go_0F
  refine x_aload_nr 0 dX3_go_0 rfl rfl (n := 1) rfl ?_
  refine x_getI fl_X3_45 dX3_go_1 (n := 4) rfl (fun x1 => ?_)
  refine x_aload_nr 0 dX3_go_4 rfl rfl (n := 5) rfl ?_
  refine x_getI fl_X3_29 dX3_go_5 (n := 8) rfl (fun x2 => ?_)
  refine x_icmp_ge dX3_go_8 (t := 37) (by decide) (n := 11) rfl (fun _ => ?_) (fun _ => ?_)
  · exact f_X3_go_37_ok hO a0  p0
  · refine x_aload_nr 0 dX3_go_11 rfl rfl (n := 12) rfl ?_
    refine x_aload_nr 0 dX3_go_12 rfl rfl (n := 13) rfl ?_
    refine x_getI fl_X3_45 dX3_go_13 (n := 16) rfl (fun x48 => ?_)
    refine x_callV_I [.int x48] [] (f_X3_byteAt_ok hO p0 a0 x48) rc_X3_byteAt md_X3_byteAt rfl q391 q393 qs2 dX3_go_16 rfl rfl (by decide) (Nat.le_of_ble_eq_true rfl) (n := 19) rfl (fun x50 p49 => ?_)
    refine x_bipush 32 dX3_go_19 rfl (n := 21) rfl ?_
    refine x_icmp_ne dX3_go_21 (t := 37) (by decide) (n := 24) rfl (fun _ => ?_) (fun _ => ?_)
    · exact f_X3_go_37_ok hO a0  p49
    · refine x_aload_nr 0 dX3_go_24 rfl rfl (n := 25) rfl ?_
      refine x_dup dX3_go_25 rfl (n := 26) rfl ?_
      refine x_getI fl_X3_45 dX3_go_26 (n := 29) rfl (fun x51 => ?_)
      refine x_iconst 1 dX3_go_29 rfl (n := 30) rfl ?_
      refine x_iadd dX3_go_30 (n := 31) rfl ?_
      refine x_pF (pl_X3_45 _ _ ⟨rfl, rfl⟩) dX3_go_31 (n := 34) rfl (fun p52 => ?_)
      refine x_goto dX3_go_34 (n := 0) (by decide) ?_
      exact hk0  p52
theorem f_X3_go_0_lp {G : xG} (hO : xOK G) (a0 : Nat)  (n : Nat)  (p0 : PH) : X G "ForestLegs$Reader" "go" cX3_go 1 (Option.none : Option Jvm.ClassFile.FieldType) 4 0 [(0, .ref a0)] [] p0 (lp (f_X3_go_0F a0) n p0) :=
  lp_ok (W := fun p K => X G "ForestLegs$Reader" "go" cX3_go 1 (Option.none : Option Jvm.ClassFile.FieldType) 4 0 [(0, .ref a0)] [] p K) (fun _ => x_no) (fun k hk => fun p0 => f_X3_go_0F_ok hO a0 (fun  p0 => hk p0)  p0) n p0
theorem f_X3_go_ok {G : xG} (hO : xOK G) (p0 : PH) (a0 : Nat) : CT G 4 yX3_go cX3_go 1 (Option.none : Option Jvm.ClassFile.FieldType) [.ref a0] p0 (f_X3_go p0 a0) := by
  refine CT_of hO (by decide +kernel) (by decide +kernel) (Nat.le_of_ble_eq_true rfl) ?_
  show X G "ForestLegs$Reader" "go" cX3_go 1 (Option.none : Option Jvm.ClassFile.FieldType) 4 0 [(0, .ref a0)] [] p0 (f_X3_go p0 a0)
  refine x_cl1 (fun e0 => ?_)
  exact f_X3_go_0_lp hO a0 FU  p0
abbrev cJ12_init_2 : ByteArray := prog_37_method_5_code
def yJ12_init_2 : MethodName := ⟨RJ12, "<init>", "(Ljava/lang/String;Ljava/lang/Throwable;ZZ)V"⟩
def dkwJ12_init_2_2 : List UInt8 := [44, 181, 0, 7, 29, 154, 0, 8, 42, 1, 181, 0, 24, 177]
abbrev dktJ12_init_2_2 : List UInt8 := dkwJ12_init_2_2 ++ []
def dkwJ12_init_2_1 : List UInt8 := [21, 4, 153, 0, 11, 42, 182, 0, 27, 87, 167, 0, 8, 42, 1, 181, 0, 17, 42, 43, 181, 0, 31, 42]
abbrev dktJ12_init_2_1 : List UInt8 := dkwJ12_init_2_1 ++ dktJ12_init_2_2
def dkwJ12_init_2_0 : List UInt8 := [42, 183, 0, 1, 42, 42, 181, 0, 7, 42, 178, 0, 13, 181, 0, 17, 42, 178, 0, 20, 181, 0, 24]
abbrev dktJ12_init_2_0 : List UInt8 := dkwJ12_init_2_0 ++ dktJ12_init_2_1
theorem dksJ12_init_2_0 : cJ12_init_2.data.toList.drop 0 = dktJ12_init_2_0 := by decide +kernel
theorem dksJ12_init_2_1 : cJ12_init_2.data.toList.drop 23 = dktJ12_init_2_1 := dk_seg dksJ12_init_2_0 23 rfl rfl
theorem dksJ12_init_2_2 : cJ12_init_2.data.toList.drop 47 = dktJ12_init_2_2 := dk_seg dksJ12_init_2_1 24 rfl rfl
theorem dJ12_init_2_0 : decode cJ12_init_2 0 = .ok (.aload_n 0, 1) := dk_42 (dk_at dksJ12_init_2_0 0 rfl rfl)
theorem dJ12_init_2_1 : decode cJ12_init_2 1 = .ok (.invokespecial 1, 3) := dk_183 0 1 (dk_at dksJ12_init_2_0 1 rfl rfl)
theorem dJ12_init_2_4 : decode cJ12_init_2 4 = .ok (.aload_n 0, 1) := dk_42 (dk_at dksJ12_init_2_0 4 rfl rfl)
theorem dJ12_init_2_5 : decode cJ12_init_2 5 = .ok (.aload_n 0, 1) := dk_42 (dk_at dksJ12_init_2_0 5 rfl rfl)
theorem dJ12_init_2_6 : decode cJ12_init_2 6 = .ok (.putfield 7, 3) := dk_181 0 7 (dk_at dksJ12_init_2_0 6 rfl rfl)
theorem dJ12_init_2_9 : decode cJ12_init_2 9 = .ok (.aload_n 0, 1) := dk_42 (dk_at dksJ12_init_2_0 9 rfl rfl)
theorem dJ12_init_2_10 : decode cJ12_init_2 10 = .ok (.getstatic 13, 3) := dk_178 0 13 (dk_at dksJ12_init_2_0 10 rfl rfl)
theorem dJ12_init_2_13 : decode cJ12_init_2 13 = .ok (.putfield 17, 3) := dk_181 0 17 (dk_at dksJ12_init_2_0 13 rfl rfl)
theorem dJ12_init_2_16 : decode cJ12_init_2 16 = .ok (.aload_n 0, 1) := dk_42 (dk_at dksJ12_init_2_0 16 rfl rfl)
theorem dJ12_init_2_17 : decode cJ12_init_2 17 = .ok (.getstatic 20, 3) := dk_178 0 20 (dk_at dksJ12_init_2_0 17 rfl rfl)
theorem dJ12_init_2_20 : decode cJ12_init_2 20 = .ok (.putfield 24, 3) := dk_181 0 24 (dk_at dksJ12_init_2_0 20 rfl rfl)
theorem dJ12_init_2_23 : decode cJ12_init_2 23 = .ok (.iload 4, 2) := dk_21 4 (dk_at dksJ12_init_2_1 0 rfl rfl)
theorem dJ12_init_2_25 : decode cJ12_init_2 25 = .ok (.ifCond .eq 11, 3) := dk_153 0 11 (dk_at dksJ12_init_2_1 2 rfl rfl)
theorem dJ12_init_2_28 : decode cJ12_init_2 28 = .ok (.aload_n 0, 1) := dk_42 (dk_at dksJ12_init_2_1 5 rfl rfl)
theorem dJ12_init_2_29 : decode cJ12_init_2 29 = .ok (.invokevirtual 27, 3) := dk_182 0 27 (dk_at dksJ12_init_2_1 6 rfl rfl)
theorem dJ12_init_2_32 : decode cJ12_init_2 32 = .ok (.pop, 1) := dk_87 (dk_at dksJ12_init_2_1 9 rfl rfl)
theorem dJ12_init_2_33 : decode cJ12_init_2 33 = .ok (.goto 8, 3) := dk_167 0 8 (dk_at dksJ12_init_2_1 10 rfl rfl)
theorem dJ12_init_2_36 : decode cJ12_init_2 36 = .ok (.aload_n 0, 1) := dk_42 (dk_at dksJ12_init_2_1 13 rfl rfl)
theorem dJ12_init_2_37 : decode cJ12_init_2 37 = .ok (.aconst_null, 1) := dk_1 (dk_at dksJ12_init_2_1 14 rfl rfl)
theorem dJ12_init_2_38 : decode cJ12_init_2 38 = .ok (.putfield 17, 3) := dk_181 0 17 (dk_at dksJ12_init_2_1 15 rfl rfl)
theorem dJ12_init_2_41 : decode cJ12_init_2 41 = .ok (.aload_n 0, 1) := dk_42 (dk_at dksJ12_init_2_1 18 rfl rfl)
theorem dJ12_init_2_42 : decode cJ12_init_2 42 = .ok (.aload_n 1, 1) := dk_43 (dk_at dksJ12_init_2_1 19 rfl rfl)
theorem dJ12_init_2_43 : decode cJ12_init_2 43 = .ok (.putfield 31, 3) := dk_181 0 31 (dk_at dksJ12_init_2_1 20 rfl rfl)
theorem dJ12_init_2_46 : decode cJ12_init_2 46 = .ok (.aload_n 0, 1) := dk_42 (dk_at dksJ12_init_2_1 23 rfl rfl)
theorem dJ12_init_2_47 : decode cJ12_init_2 47 = .ok (.aload_n 2, 1) := dk_44 (dk_at dksJ12_init_2_2 0 rfl rfl)
theorem dJ12_init_2_48 : decode cJ12_init_2 48 = .ok (.putfield 7, 3) := dk_181 0 7 (dk_at dksJ12_init_2_2 1 rfl rfl)
theorem dJ12_init_2_51 : decode cJ12_init_2 51 = .ok (.iload_n 3, 1) := dk_29 (dk_at dksJ12_init_2_2 4 rfl rfl)
theorem dJ12_init_2_52 : decode cJ12_init_2 52 = .ok (.ifCond .ne 8, 3) := dk_154 0 8 (dk_at dksJ12_init_2_2 5 rfl rfl)
theorem dJ12_init_2_55 : decode cJ12_init_2 55 = .ok (.aload_n 0, 1) := dk_42 (dk_at dksJ12_init_2_2 8 rfl rfl)
theorem dJ12_init_2_56 : decode cJ12_init_2 56 = .ok (.aconst_null, 1) := dk_1 (dk_at dksJ12_init_2_2 9 rfl rfl)
theorem dJ12_init_2_57 : decode cJ12_init_2 57 = .ok (.putfield 24, 3) := dk_181 0 24 (dk_at dksJ12_init_2_2 10 rfl rfl)
theorem dJ12_init_2_60 : decode cJ12_init_2 60 = .ok (.return_, 1) := dk_177 (dk_at dksJ12_init_2_2 13 rfl rfl)
theorem md_J12_init_2 : xMd yJ12_init_2 cJ12_init_2 5 (Option.none : Option Jvm.ClassFile.FieldType) 4 := ⟨q551, q139, by decide, by decide +kernel, by decide +kernel, by decide +kernel⟩
def f_J12_init_2_41 (a0 : Nat)  (v1 : Option Nat) (v2 : Option Nat) (v3 : Int32) (p0 : PH) : Option (xO × PH) :=
  (xpF p0 a0 4 3 (va_rf v1) fun p7 =>
  (xpF p7 a0 4 0 (va_rf v2) fun p8 =>
  (if v3 = 0 then
  (xpF p8 a0 4 2 (va_rf none) fun p9 =>
  (rV p9)) else
  (rV p8))))
def f_J12_init_2 (p0 : PH) (a0 : Nat) (a1 : Option Nat) (a2 : Option Nat) (a3 : Int32) (a4 : Int32) : Option (xO × PH) :=
  (xpF p0 a0 4 0 (.ref a0) fun p1 =>
  (xcon p1 5 fun x2 =>
  (xpF p1 a0 4 1 (va_rf x2) fun p3 =>
  (xcon p3 6 fun x4 =>
  (xpF p3 a0 4 2 (va_rf x4) fun p5 =>
  (if a4 = 0 then
  (xpF p5 a0 4 1 (va_rf none) fun p6 =>
  (f_J12_init_2_41 a0 a1 a2 a3 p6)) else
  none))))))
theorem f_J12_init_2_41_ok {G : xG} (hO : xOK G) (a0 : Nat)  (v1 : Option Nat) (v2 : Option Nat) (v3 : Int32) (p0 : PH) : X G "java/lang/Throwable" "<init>" cJ12_init_2 5 (Option.none : Option Jvm.ClassFile.FieldType) 1 41 [(0, .ref a0), (1, va_rf v1), (2, va_rf v2), (3, .int v3)] [] p0 (f_J12_init_2_41 a0 v1 v2 v3 p0) := by
  unfold f_J12_init_2_41
  refine x_aload_nr 0 dJ12_init_2_41 rfl rfl (n := 42) rfl ?_
  refine x_aload_n 1 dJ12_init_2_42 rfl rfl (n := 43) rfl ?_
  refine x_pF (pl_J12_31 _ _ (xfit_o (v1))) dJ12_init_2_43 (n := 46) rfl (fun p7 => ?_)
  refine x_aload_nr 0 dJ12_init_2_46 rfl rfl (n := 47) rfl ?_
  refine x_aload_n 2 dJ12_init_2_47 rfl rfl (n := 48) rfl ?_
  refine x_pF (pl_J12_7 _ _ (xfit_o (v2))) dJ12_init_2_48 (n := 51) rfl (fun p8 => ?_)
  refine x_iload_n 3 dJ12_init_2_51 rfl rfl (n := 52) rfl ?_
  refine x_if_ne dJ12_init_2_52 (t := 60) (by decide) (n := 55) rfl (fun _ => ?_) (fun _ => ?_)
  · exact x_return dJ12_init_2_60
  · refine x_aload_nr 0 dJ12_init_2_55 rfl rfl (n := 56) rfl ?_
    refine x_null dJ12_init_2_56 (n := 57) rfl ?_
    refine x_pF (pl_J12_24 _ _ (xfit_o (none))) dJ12_init_2_57 (n := 60) rfl (fun p9 => ?_)
    exact x_return dJ12_init_2_60
theorem f_J12_init_2_ok {G : xG} (hO : xOK G) (p0 : PH) (a0 : Nat) (a1 : Option Nat) (a2 : Option Nat) (a3 : Int32) (a4 : Int32) : CT G 1 yJ12_init_2 cJ12_init_2 5 (Option.none : Option Jvm.ClassFile.FieldType) [.ref a0, va_rf a1, va_rf a2, .int a3, .int a4] p0 (f_J12_init_2 p0 a0 a1 a2 a3 a4) := by
  refine CT_of hO (by decide +kernel) (by decide +kernel) (lg_slen _ (by simp only [List.map, xcat]; exact Nat.le_of_ble_eq_true rfl)) ?_
  rw [show lv_args 0 [.ref a0, va_rf a1, va_rf a2, .int a3, .int a4] = [(0, .ref a0), (1, va_rf a1), (2, va_rf a2), (3, .int a3), (4, .int a4)] from by simp only [lv_args, xcat] <;> rfl]
  show X G "java/lang/Throwable" "<init>" cJ12_init_2 5 (Option.none : Option Jvm.ClassFile.FieldType) 1 0 [(0, .ref a0), (1, va_rf a1), (2, va_rf a2), (3, .int a3), (4, .int a4)] [] p0 (f_J12_init_2 p0 a0 a1 a2 a3 a4)
  refine x_aload_nr 0 dJ12_init_2_0 rfl rfl (n := 1) rfl ?_
  refine x_objInit q526 q186 q187 dJ12_init_2_1 (by decide) (Nat.le_of_ble_eq_true rfl) (n := 4) rfl ?_
  refine x_aload_nr 0 dJ12_init_2_4 rfl rfl (n := 5) rfl ?_
  refine x_aload_nr 0 dJ12_init_2_5 rfl rfl (n := 6) rfl ?_
  refine x_pF (pl_J12_7 _ _ (xfit_o (some a0))) dJ12_init_2_6 (n := 9) rfl (fun p1 => ?_)
  refine x_aload_nr 0 dJ12_init_2_9 rfl rfl (n := 10) rfl ?_
  refine x_getsR (j := 7) (k := 5) rfl rfl (Or.inl q527) dJ12_init_2_10 (n := 13) rfl (fun x2 => ?_)
  refine x_pF (pl_J12_17 _ _ (xfit_a (x2))) dJ12_init_2_13 (n := 16) rfl (fun p3 => ?_)
  refine x_aload_nr 0 dJ12_init_2_16 rfl rfl (n := 17) rfl ?_
  refine x_getsR (j := 8) (k := 6) rfl rfl (Or.inl q529) dJ12_init_2_17 (n := 20) rfl (fun x4 => ?_)
  refine x_pF (pl_J12_24 _ _ (xfit_o (x4))) dJ12_init_2_20 (n := 23) rfl (fun p5 => ?_)
  refine x_iload 4 dJ12_init_2_23 rfl (n := 25) rfl ?_
  refine x_if_eq dJ12_init_2_25 (t := 36) (by decide) (n := 28) rfl (fun _ => ?_) (fun _ => ?_)
  · refine x_aload_nr 0 dJ12_init_2_36 rfl rfl (n := 37) rfl ?_
    refine x_null dJ12_init_2_37 (n := 38) rfl ?_
    refine x_pF (pl_J12_17 _ _ (xfit_a (none))) dJ12_init_2_38 (n := 41) rfl (fun p6 => ?_)
    refine x_sub [0, 1, 2, 3] [(0, .ref a0), (1, va_rf a1), (2, va_rf a2), (3, .int a3)] rfl ?_
    exact f_J12_init_2_41_ok hO a0 a1 a2 a3 p6
  · refine x_aload_nr 0 dJ12_init_2_28 rfl rfl (n := 29) rfl ?_
    exact x_no
abbrev cJ13_init : ByteArray := prog_22_method_5_code
def yJ13_init : MethodName := ⟨RJ13, "<init>", "(Ljava/lang/String;Ljava/lang/Throwable;ZZ)V"⟩
def dkwJ13_init_0 : List UInt8 := [42, 43, 44, 29, 21, 4, 183, 0, 16, 177]
abbrev dktJ13_init_0 : List UInt8 := dkwJ13_init_0 ++ []
theorem dksJ13_init_0 : cJ13_init.data.toList.drop 0 = dktJ13_init_0 := by decide +kernel
theorem dJ13_init_0 : decode cJ13_init 0 = .ok (.aload_n 0, 1) := dk_42 (dk_at dksJ13_init_0 0 rfl rfl)
theorem dJ13_init_1 : decode cJ13_init 1 = .ok (.aload_n 1, 1) := dk_43 (dk_at dksJ13_init_0 1 rfl rfl)
theorem dJ13_init_2 : decode cJ13_init 2 = .ok (.aload_n 2, 1) := dk_44 (dk_at dksJ13_init_0 2 rfl rfl)
theorem dJ13_init_3 : decode cJ13_init 3 = .ok (.iload_n 3, 1) := dk_29 (dk_at dksJ13_init_0 3 rfl rfl)
theorem dJ13_init_4 : decode cJ13_init 4 = .ok (.iload 4, 2) := dk_21 4 (dk_at dksJ13_init_0 4 rfl rfl)
theorem dJ13_init_6 : decode cJ13_init 6 = .ok (.invokespecial 16, 3) := dk_183 0 16 (dk_at dksJ13_init_0 6 rfl rfl)
theorem dJ13_init_9 : decode cJ13_init 9 = .ok (.return_, 1) := dk_177 (dk_at dksJ13_init_0 9 rfl rfl)
theorem md_J13_init : xMd yJ13_init cJ13_init 5 (Option.none : Option Jvm.ClassFile.FieldType) 4 := ⟨q548, q140, by decide, by decide +kernel, by decide +kernel, by decide +kernel⟩
def f_J13_init (p0 : PH) (a0 : Nat) (a1 : Option Nat) (a2 : Option Nat) (a3 : Int32) (a4 : Int32) : Option (xO × PH) :=
  (xcV (f_J12_init_2 p0 a0 a1 a2 a3 a4) fun p1 =>
  (rV p1))
theorem f_J13_init_ok {G : xG} (hO : xOK G) (p0 : PH) (a0 : Nat) (a1 : Option Nat) (a2 : Option Nat) (a3 : Int32) (a4 : Int32) : CT G 2 yJ13_init cJ13_init 5 (Option.none : Option Jvm.ClassFile.FieldType) [.ref a0, va_rf a1, va_rf a2, .int a3, .int a4] p0 (f_J13_init p0 a0 a1 a2 a3 a4) := by
  refine CT_of hO (by decide +kernel) (by decide +kernel) (lg_slen _ (by simp only [List.map, xcat]; exact Nat.le_of_ble_eq_true rfl)) ?_
  rw [show lv_args 0 [.ref a0, va_rf a1, va_rf a2, .int a3, .int a4] = [(0, .ref a0), (1, va_rf a1), (2, va_rf a2), (3, .int a3), (4, .int a4)] from by simp only [lv_args, xcat] <;> rfl]
  show X G "java/lang/Exception" "<init>" cJ13_init 5 (Option.none : Option Jvm.ClassFile.FieldType) 2 0 [(0, .ref a0), (1, va_rf a1), (2, va_rf a2), (3, .int a3), (4, .int a4)] [] p0 (f_J13_init p0 a0 a1 a2 a3 a4)
  refine x_aload_nr 0 dJ13_init_0 rfl rfl (n := 1) rfl ?_
  refine x_aload_n 1 dJ13_init_1 rfl rfl (n := 2) rfl ?_
  refine x_aload_n 2 dJ13_init_2 rfl rfl (n := 3) rfl ?_
  refine x_iload_n 3 dJ13_init_3 rfl rfl (n := 4) rfl ?_
  refine x_iload 4 dJ13_init_4 rfl (n := 6) rfl ?_
  refine x_callI_V [va_rf a1, va_rf a2, .int a3, .int a4] [] (f_J12_init_2_ok hO p0 a0 a1 a2 a3 a4) md_J12_init_2 rfl q549 q550 dJ13_init_6 rfl rfl (by decide) (Nat.le_of_ble_eq_true rfl) (n := 9) rfl (fun p1 => ?_)
  exact x_return dJ13_init_9
abbrev cX5_init : ByteArray := prog_5_method_1_code
def yX5_init : MethodName := ⟨RX5, "<init>", "(II)V"⟩
def dkwX5_init_0 : List UInt8 := [42, 1, 1, 3, 3, 183, 0, 1, 42, 27, 181, 0, 7, 42, 28, 181, 0, 13, 177]
abbrev dktX5_init_0 : List UInt8 := dkwX5_init_0 ++ []
theorem dksX5_init_0 : cX5_init.data.toList.drop 0 = dktX5_init_0 := by decide +kernel
theorem dX5_init_0 : decode cX5_init 0 = .ok (.aload_n 0, 1) := dk_42 (dk_at dksX5_init_0 0 rfl rfl)
theorem dX5_init_1 : decode cX5_init 1 = .ok (.aconst_null, 1) := dk_1 (dk_at dksX5_init_0 1 rfl rfl)
theorem dX5_init_2 : decode cX5_init 2 = .ok (.aconst_null, 1) := dk_1 (dk_at dksX5_init_0 2 rfl rfl)
theorem dX5_init_3 : decode cX5_init 3 = .ok (.iconst 0, 1) := dk_3 (dk_at dksX5_init_0 3 rfl rfl)
theorem dX5_init_4 : decode cX5_init 4 = .ok (.iconst 0, 1) := dk_3 (dk_at dksX5_init_0 4 rfl rfl)
theorem dX5_init_5 : decode cX5_init 5 = .ok (.invokespecial 1, 3) := dk_183 0 1 (dk_at dksX5_init_0 5 rfl rfl)
theorem dX5_init_8 : decode cX5_init 8 = .ok (.aload_n 0, 1) := dk_42 (dk_at dksX5_init_0 8 rfl rfl)
theorem dX5_init_9 : decode cX5_init 9 = .ok (.iload_n 1, 1) := dk_27 (dk_at dksX5_init_0 9 rfl rfl)
theorem dX5_init_10 : decode cX5_init 10 = .ok (.putfield 7, 3) := dk_181 0 7 (dk_at dksX5_init_0 10 rfl rfl)
theorem dX5_init_13 : decode cX5_init 13 = .ok (.aload_n 0, 1) := dk_42 (dk_at dksX5_init_0 13 rfl rfl)
theorem dX5_init_14 : decode cX5_init 14 = .ok (.iload_n 2, 1) := dk_28 (dk_at dksX5_init_0 14 rfl rfl)
theorem dX5_init_15 : decode cX5_init 15 = .ok (.putfield 13, 3) := dk_181 0 13 (dk_at dksX5_init_0 15 rfl rfl)
theorem dX5_init_18 : decode cX5_init 18 = .ok (.return_, 1) := dk_177 (dk_at dksX5_init_0 18 rfl rfl)
theorem md_X5_init : xMd yX5_init cX5_init 3 (Option.none : Option Jvm.ClassFile.FieldType) 2 := ⟨q545, q141, by decide, by decide +kernel, by decide +kernel, by decide +kernel⟩
def f_X5_init (p0 : PH) (a0 : Nat) (a1 : Int32) (a2 : Int32) : Option (xO × PH) :=
  (xcV (f_J13_init p0 a0 none none 0 0) fun p1 =>
  (xpF p1 a0 4 6 (.int a1) fun p2 =>
  (xpF p2 a0 4 7 (.int a2) fun p3 =>
  (rV p3))))
theorem f_X5_init_ok {G : xG} (hO : xOK G) (p0 : PH) (a0 : Nat) (a1 : Int32) (a2 : Int32) : CT G 3 yX5_init cX5_init 3 (Option.none : Option Jvm.ClassFile.FieldType) [.ref a0, .int a1, .int a2] p0 (f_X5_init p0 a0 a1 a2) := by
  refine CT_of hO (by decide +kernel) (by decide +kernel) (Nat.le_of_ble_eq_true rfl) ?_
  show X G "ForestLegs$Fault" "<init>" cX5_init 3 (Option.none : Option Jvm.ClassFile.FieldType) 3 0 [(0, .ref a0), (1, .int a1), (2, .int a2)] [] p0 (f_X5_init p0 a0 a1 a2)
  refine x_aload_nr 0 dX5_init_0 rfl rfl (n := 1) rfl ?_
  refine x_null dX5_init_1 (n := 2) rfl ?_
  refine x_null dX5_init_2 (n := 3) rfl ?_
  refine x_iconst 0 dX5_init_3 rfl (n := 4) rfl ?_
  refine x_iconst 0 dX5_init_4 rfl (n := 5) rfl ?_
  refine x_callI_V [va_rf none, va_rf none, .int 0, .int 0] [] (f_J13_init_ok hO p0 a0 none none 0 0) md_J13_init rfl q546 q547 dX5_init_5 rfl rfl (by decide) (Nat.le_of_ble_eq_true rfl) (n := 8) rfl (fun p1 => ?_)
  refine x_aload_nr 0 dX5_init_8 rfl rfl (n := 9) rfl ?_
  refine x_iload_n 1 dX5_init_9 rfl rfl (n := 10) rfl ?_
  refine x_pF (pl_X5_7 _ ⟨rfl, rfl⟩) dX5_init_10 (n := 13) rfl (fun p2 => ?_)
  refine x_aload_nr 0 dX5_init_13 rfl rfl (n := 14) rfl ?_
  refine x_iload_n 2 dX5_init_14 rfl rfl (n := 15) rfl ?_
  refine x_pF (pl_X5_13 _ ⟨rfl, rfl⟩) dX5_init_15 (n := 18) rfl (fun p3 => ?_)
  exact x_return dX5_init_18
abbrev cX3_need : ByteArray := prog_10_method_6_code
def yX3_need : MethodName := ⟨RX3, "need", "(ZI)V"⟩
def dkwX3_need_0 : List UInt8 := [27, 154, 0, 16, 187, 0, 71, 89, 28, 42, 180, 0, 48, 183, 0, 73, 191, 177]
abbrev dktX3_need_0 : List UInt8 := dkwX3_need_0 ++ []
theorem dksX3_need_0 : cX3_need.data.toList.drop 0 = dktX3_need_0 := by decide +kernel
theorem dX3_need_0 : decode cX3_need 0 = .ok (.iload_n 1, 1) := dk_27 (dk_at dksX3_need_0 0 rfl rfl)
theorem dX3_need_1 : decode cX3_need 1 = .ok (.ifCond .ne 16, 3) := dk_154 0 16 (dk_at dksX3_need_0 1 rfl rfl)
theorem dX3_need_4 : decode cX3_need 4 = .ok (.new 71, 3) := dk_187 0 71 (dk_at dksX3_need_0 4 rfl rfl)
theorem dX3_need_7 : decode cX3_need 7 = .ok (.dup, 1) := dk_89 (dk_at dksX3_need_0 7 rfl rfl)
theorem dX3_need_8 : decode cX3_need 8 = .ok (.iload_n 2, 1) := dk_28 (dk_at dksX3_need_0 8 rfl rfl)
theorem dX3_need_9 : decode cX3_need 9 = .ok (.aload_n 0, 1) := dk_42 (dk_at dksX3_need_0 9 rfl rfl)
theorem dX3_need_10 : decode cX3_need 10 = .ok (.getfield 48, 3) := dk_180 0 48 (dk_at dksX3_need_0 10 rfl rfl)
theorem dX3_need_13 : decode cX3_need 13 = .ok (.invokespecial 73, 3) := dk_183 0 73 (dk_at dksX3_need_0 13 rfl rfl)
theorem dX3_need_16 : decode cX3_need 16 = .ok (.athrow, 1) := dk_191 (dk_at dksX3_need_0 16 rfl rfl)
theorem dX3_need_17 : decode cX3_need 17 = .ok (.return_, 1) := dk_177 (dk_at dksX3_need_0 17 rfl rfl)
theorem md_X3_need : xMd yX3_need cX3_need 3 (Option.none : Option Jvm.ClassFile.FieldType) 2 := ⟨q502, q127, by decide, by decide +kernel, by decide +kernel, by decide +kernel⟩
def f_X3_need (p0 : PH) (a0 : Nat) (a1 : Int32) (a2 : Int32) : Option (xO × PH) :=
  (xcl1 p0 a0 2 (if a1 = 0 then
  (xnew p0 4 [.null, .null, .null, .null, .null, .int 0, .int 0, .int 0] fun b1 p2 =>
  (xgI p2 a0 2 6 fun x3 =>
  (xcV (f_X5_init p2 b1 a2 x3) fun p4 =>
  (rT b1 p4)))) else
  (rV p0)))
theorem rc_X3_need {p0 : PH} {a0 : Nat} {a1 : Int32} {a2 : Int32} : ∀ z, f_X3_need p0 a0 a1 a2 = some z → xco p0 a0 = some 2 := fun z h => xcl1_some h
theorem f_X3_need_ok {G : xG} (hO : xOK G) (p0 : PH) (a0 : Nat) (a1 : Int32) (a2 : Int32) : CT G 4 yX3_need cX3_need 3 (Option.none : Option Jvm.ClassFile.FieldType) [.ref a0, .int a1, .int a2] p0 (f_X3_need p0 a0 a1 a2) := by
  refine CT_of hO (by decide +kernel) (by decide +kernel) (Nat.le_of_ble_eq_true rfl) ?_
  show X G "ForestLegs$Reader" "need" cX3_need 3 (Option.none : Option Jvm.ClassFile.FieldType) 4 0 [(0, .ref a0), (1, .int a1), (2, .int a2)] [] p0 (f_X3_need p0 a0 a1 a2)
  refine x_cl1 (fun e0 => ?_)
  refine x_iload_n 1 dX3_need_0 rfl rfl (n := 1) rfl ?_
  refine x_if_ne dX3_need_1 (t := 17) (by decide) (n := 4) rfl (fun _ => ?_) (fun _ => ?_)
  · exact x_return dX3_need_17
  · refine x_new cl_4 (by decide) q503 q504 q141 rfl dX3_need_4 (n := 7) rfl (fun b1 p2 => ?_)
    refine x_dup dX3_need_7 rfl (n := 8) rfl ?_
    refine x_iload_n 2 dX3_need_8 rfl rfl (n := 9) rfl ?_
    refine x_aload_nr 0 dX3_need_9 rfl rfl (n := 10) rfl ?_
    refine x_getI fl_X3_48 dX3_need_10 (n := 13) rfl (fun x3 => ?_)
    refine x_callI_V [.int a2, .int x3] [.ref b1] (f_X5_init_ok hO p2 b1 a2 x3) md_X5_init rfl q543 q544 dX3_need_13 rfl rfl (by decide) (Nat.le_of_ble_eq_true rfl) (n := 16) rfl (fun p4 => ?_)
    exact x_throw dX3_need_16 (by decide +kernel)
abbrev cJ14_init : ByteArray := prog_16_method_2_code
def yJ14_init : MethodName := ⟨RJ14, "<init>", "(I)V"⟩
def dkwJ14_init_1 : List UInt8 := [167, 0, 16, 42, 27, 184, 0, 26, 181, 0, 15, 42, 4, 181, 0, 22, 177]
abbrev dktJ14_init_1 : List UInt8 := dkwJ14_init_1 ++ []
def dkwJ14_init_0 : List UInt8 := [42, 183, 0, 3, 178, 0, 18, 153, 0, 18, 42, 27, 188, 8, 181, 0, 15, 42, 3, 181, 0, 22]
abbrev dktJ14_init_0 : List UInt8 := dkwJ14_init_0 ++ dktJ14_init_1
theorem dksJ14_init_0 : cJ14_init.data.toList.drop 0 = dktJ14_init_0 := by decide +kernel
theorem dksJ14_init_1 : cJ14_init.data.toList.drop 22 = dktJ14_init_1 := dk_seg dksJ14_init_0 22 rfl rfl
theorem dJ14_init_0 : decode cJ14_init 0 = .ok (.aload_n 0, 1) := dk_42 (dk_at dksJ14_init_0 0 rfl rfl)
theorem dJ14_init_1 : decode cJ14_init 1 = .ok (.invokespecial 3, 3) := dk_183 0 3 (dk_at dksJ14_init_0 1 rfl rfl)
theorem dJ14_init_4 : decode cJ14_init 4 = .ok (.getstatic 18, 3) := dk_178 0 18 (dk_at dksJ14_init_0 4 rfl rfl)
theorem dJ14_init_7 : decode cJ14_init 7 = .ok (.ifCond .eq 18, 3) := dk_153 0 18 (dk_at dksJ14_init_0 7 rfl rfl)
theorem dJ14_init_10 : decode cJ14_init 10 = .ok (.aload_n 0, 1) := dk_42 (dk_at dksJ14_init_0 10 rfl rfl)
theorem dJ14_init_11 : decode cJ14_init 11 = .ok (.iload_n 1, 1) := dk_27 (dk_at dksJ14_init_0 11 rfl rfl)
theorem dJ14_init_12 : decode cJ14_init 12 = .ok (.newarray .byte, 2) := dk_188_8 (dk_at dksJ14_init_0 12 rfl rfl)
theorem dJ14_init_14 : decode cJ14_init 14 = .ok (.putfield 15, 3) := dk_181 0 15 (dk_at dksJ14_init_0 14 rfl rfl)
theorem dJ14_init_17 : decode cJ14_init 17 = .ok (.aload_n 0, 1) := dk_42 (dk_at dksJ14_init_0 17 rfl rfl)
theorem dJ14_init_18 : decode cJ14_init 18 = .ok (.iconst 0, 1) := dk_3 (dk_at dksJ14_init_0 18 rfl rfl)
theorem dJ14_init_19 : decode cJ14_init 19 = .ok (.putfield 22, 3) := dk_181 0 22 (dk_at dksJ14_init_0 19 rfl rfl)
theorem dJ14_init_22 : decode cJ14_init 22 = .ok (.goto 16, 3) := dk_167 0 16 (dk_at dksJ14_init_1 0 rfl rfl)
theorem dJ14_init_25 : decode cJ14_init 25 = .ok (.aload_n 0, 1) := dk_42 (dk_at dksJ14_init_1 3 rfl rfl)
theorem dJ14_init_26 : decode cJ14_init 26 = .ok (.iload_n 1, 1) := dk_27 (dk_at dksJ14_init_1 4 rfl rfl)
theorem dJ14_init_27 : decode cJ14_init 27 = .ok (.invokestatic 26, 3) := dk_184 0 26 (dk_at dksJ14_init_1 5 rfl rfl)
theorem dJ14_init_30 : decode cJ14_init 30 = .ok (.putfield 15, 3) := dk_181 0 15 (dk_at dksJ14_init_1 8 rfl rfl)
theorem dJ14_init_33 : decode cJ14_init 33 = .ok (.aload_n 0, 1) := dk_42 (dk_at dksJ14_init_1 11 rfl rfl)
theorem dJ14_init_34 : decode cJ14_init 34 = .ok (.iconst 1, 1) := dk_4 (dk_at dksJ14_init_1 12 rfl rfl)
theorem dJ14_init_35 : decode cJ14_init 35 = .ok (.putfield 22, 3) := dk_181 0 22 (dk_at dksJ14_init_1 13 rfl rfl)
theorem dJ14_init_38 : decode cJ14_init 38 = .ok (.return_, 1) := dk_177 (dk_at dksJ14_init_1 16 rfl rfl)
theorem md_J14_init : xMd yJ14_init cJ14_init 2 (Option.none : Option Jvm.ClassFile.FieldType) 1 := ⟨q580, q142, by decide, by decide +kernel, by decide +kernel, by decide +kernel⟩
def f_J14_init (p0 : PH) (a0 : Nat) (a1 : Int32) : Option (xO × PH) :=
  (if (1 : Int32) = 0 then
  none else
  (xnaI p0 2 a1 fun b1 p2 =>
  (xpF p2 a0 17 0 (.ref b1) fun p3 =>
  (xpF p3 a0 17 1 (.int 0) fun p4 =>
  (rV p4)))))
theorem f_J14_init_ok {G : xG} (hO : xOK G) (p0 : PH) (a0 : Nat) (a1 : Int32) : CT G 1 yJ14_init cJ14_init 2 (Option.none : Option Jvm.ClassFile.FieldType) [.ref a0, .int a1] p0 (f_J14_init p0 a0 a1) := by
  refine CT_of hO (by decide +kernel) (by decide +kernel) (Nat.le_of_ble_eq_true rfl) ?_
  show X G "java/lang/AbstractStringBuilder" "<init>" cJ14_init 2 (Option.none : Option Jvm.ClassFile.FieldType) 1 0 [(0, .ref a0), (1, .int a1)] [] p0 (f_J14_init p0 a0 a1)
  refine x_aload_nr 0 dJ14_init_0 rfl rfl (n := 1) rfl ?_
  refine x_objInit q581 q186 q187 dJ14_init_1 (by decide) (Nat.le_of_ble_eq_true rfl) (n := 4) rfl ?_
  refine x_getsI (j := 3) rfl (Or.inl q582) dJ14_init_4 (n := 7) rfl ?_
  refine x_if_eq dJ14_init_7 (t := 25) (by decide) (n := 10) rfl (fun _ => ?_) (fun _ => ?_)
  · refine x_aload_nr 0 dJ14_init_25 rfl rfl (n := 26) rfl ?_
    refine x_iload_n 1 dJ14_init_26 rfl rfl (n := 27) rfl ?_
    exact x_no
  · refine x_aload_nr 0 dJ14_init_10 rfl rfl (n := 11) rfl ?_
    refine x_iload_n 1 dJ14_init_11 rfl rfl (n := 12) rfl ?_
    refine x_newI (t := 2) (atype := .byte) rfl q212 rfl (by decide) dJ14_init_12 (n := 14) rfl (fun b1 p2 => ?_)
    refine x_pF (pl_J14_15 _ _ (xfit_a (some b1))) dJ14_init_14 (n := 17) rfl (fun p3 => ?_)
    refine x_aload_nr 0 dJ14_init_17 rfl rfl (n := 18) rfl ?_
    refine x_iconst 0 dJ14_init_18 rfl (n := 19) rfl ?_
    refine x_pF (pl_J14_22 _ _ ⟨rfl, rfl⟩) dJ14_init_19 (n := 22) rfl (fun p4 => ?_)
    refine x_goto dJ14_init_22 (n := 38) (by decide) ?_
    exact x_return dJ14_init_38
abbrev cJ15_init : ByteArray := prog_32_method_1_code
def yJ15_init : MethodName := ⟨RJ15, "<init>", "()V"⟩
def dkwJ15_init_0 : List UInt8 := [42, 16, 16, 183, 0, 1, 177]
abbrev dktJ15_init_0 : List UInt8 := dkwJ15_init_0 ++ []
theorem dksJ15_init_0 : cJ15_init.data.toList.drop 0 = dktJ15_init_0 := by decide +kernel
theorem dJ15_init_0 : decode cJ15_init 0 = .ok (.aload_n 0, 1) := dk_42 (dk_at dksJ15_init_0 0 rfl rfl)
theorem dJ15_init_1 : decode cJ15_init 1 = .ok (.bipush 16, 2) := dk_16 16 (dk_at dksJ15_init_0 1 rfl rfl)
theorem dJ15_init_3 : decode cJ15_init 3 = .ok (.invokespecial 1, 3) := dk_183 0 1 (dk_at dksJ15_init_0 3 rfl rfl)
theorem dJ15_init_6 : decode cJ15_init 6 = .ok (.return_, 1) := dk_177 (dk_at dksJ15_init_0 6 rfl rfl)
theorem md_J15_init : xMd yJ15_init cJ15_init 1 (Option.none : Option Jvm.ClassFile.FieldType) 0 := ⟨q577, q143, by decide, by decide +kernel, by decide +kernel, by decide +kernel⟩
def f_J15_init (p0 : PH) (a0 : Nat) : Option (xO × PH) :=
  (xcV (f_J14_init p0 a0 16) fun p1 =>
  (rV p1))
theorem f_J15_init_ok {G : xG} (hO : xOK G) (p0 : PH) (a0 : Nat) : CT G 2 yJ15_init cJ15_init 1 (Option.none : Option Jvm.ClassFile.FieldType) [.ref a0] p0 (f_J15_init p0 a0) := by
  refine CT_of hO (by decide +kernel) (by decide +kernel) (Nat.le_of_ble_eq_true rfl) ?_
  show X G "java/lang/StringBuilder" "<init>" cJ15_init 1 (Option.none : Option Jvm.ClassFile.FieldType) 2 0 [(0, .ref a0)] [] p0 (f_J15_init p0 a0)
  refine x_aload_nr 0 dJ15_init_0 rfl rfl (n := 1) rfl ?_
  refine x_bipush 16 dJ15_init_1 rfl (n := 3) rfl ?_
  refine x_callI_V [.int 16] [] (f_J14_init_ok hO p0 a0 16) md_J14_init rfl q578 q579 dJ15_init_3 rfl rfl (by decide) (Nat.le_of_ble_eq_true rfl) (n := 6) rfl (fun p1 => ?_)
  exact x_return dJ15_init_6
abbrev cJ16_newLength : ByteArray := prog_87_method_27_code
def yJ16_newLength : MethodName := ⟨RJ16, "newLength", "(III)I"⟩
def dkwJ16_newLength_1 : List UInt8 := [184, 0, 201, 172]
abbrev dktJ16_newLength_1 : List UInt8 := dkwJ16_newLength_1 ++ []
def dkwJ16_newLength_0 : List UInt8 := [26, 27, 28, 184, 0, 194, 96, 62, 3, 29, 162, 0, 11, 29, 18, 200, 163, 0, 5, 29, 172, 26, 27]
abbrev dktJ16_newLength_0 : List UInt8 := dkwJ16_newLength_0 ++ dktJ16_newLength_1
theorem dksJ16_newLength_0 : cJ16_newLength.data.toList.drop 0 = dktJ16_newLength_0 := by decide +kernel
theorem dksJ16_newLength_1 : cJ16_newLength.data.toList.drop 23 = dktJ16_newLength_1 := dk_seg dksJ16_newLength_0 23 rfl rfl
theorem dJ16_newLength_0 : decode cJ16_newLength 0 = .ok (.iload_n 0, 1) := dk_26 (dk_at dksJ16_newLength_0 0 rfl rfl)
theorem dJ16_newLength_1 : decode cJ16_newLength 1 = .ok (.iload_n 1, 1) := dk_27 (dk_at dksJ16_newLength_0 1 rfl rfl)
theorem dJ16_newLength_2 : decode cJ16_newLength 2 = .ok (.iload_n 2, 1) := dk_28 (dk_at dksJ16_newLength_0 2 rfl rfl)
theorem dJ16_newLength_3 : decode cJ16_newLength 3 = .ok (.invokestatic 194, 3) := dk_184 0 194 (dk_at dksJ16_newLength_0 3 rfl rfl)
theorem dJ16_newLength_6 : decode cJ16_newLength 6 = .ok (.iadd, 1) := dk_96 (dk_at dksJ16_newLength_0 6 rfl rfl)
theorem dJ16_newLength_7 : decode cJ16_newLength 7 = .ok (.istore_n 3, 1) := dk_62 (dk_at dksJ16_newLength_0 7 rfl rfl)
theorem dJ16_newLength_8 : decode cJ16_newLength 8 = .ok (.iconst 0, 1) := dk_3 (dk_at dksJ16_newLength_0 8 rfl rfl)
theorem dJ16_newLength_9 : decode cJ16_newLength 9 = .ok (.iload_n 3, 1) := dk_29 (dk_at dksJ16_newLength_0 9 rfl rfl)
theorem dJ16_newLength_10 : decode cJ16_newLength 10 = .ok (.if_icmp .ge 11, 3) := dk_162 0 11 (dk_at dksJ16_newLength_0 10 rfl rfl)
theorem dJ16_newLength_13 : decode cJ16_newLength 13 = .ok (.iload_n 3, 1) := dk_29 (dk_at dksJ16_newLength_0 13 rfl rfl)
theorem dJ16_newLength_14 : decode cJ16_newLength 14 = .ok (.ldc 200, 2) := dk_18 200 (dk_at dksJ16_newLength_0 14 rfl rfl)
theorem dJ16_newLength_16 : decode cJ16_newLength 16 = .ok (.if_icmp .gt 5, 3) := dk_163 0 5 (dk_at dksJ16_newLength_0 16 rfl rfl)
theorem dJ16_newLength_19 : decode cJ16_newLength 19 = .ok (.iload_n 3, 1) := dk_29 (dk_at dksJ16_newLength_0 19 rfl rfl)
theorem dJ16_newLength_20 : decode cJ16_newLength 20 = .ok (.ireturn, 1) := dk_172 (dk_at dksJ16_newLength_0 20 rfl rfl)
theorem dJ16_newLength_21 : decode cJ16_newLength 21 = .ok (.iload_n 0, 1) := dk_26 (dk_at dksJ16_newLength_0 21 rfl rfl)
theorem dJ16_newLength_22 : decode cJ16_newLength 22 = .ok (.iload_n 1, 1) := dk_27 (dk_at dksJ16_newLength_0 22 rfl rfl)
theorem dJ16_newLength_23 : decode cJ16_newLength 23 = .ok (.invokestatic 201, 3) := dk_184 0 201 (dk_at dksJ16_newLength_1 0 rfl rfl)
theorem dJ16_newLength_26 : decode cJ16_newLength 26 = .ok (.ireturn, 1) := dk_172 (dk_at dksJ16_newLength_1 3 rfl rfl)
theorem md_J16_newLength : xMd yJ16_newLength cJ16_newLength 4 (Option.some Jvm.ClassFile.FieldType.int) 3 := ⟨q620, q144, by decide, by decide +kernel, by decide +kernel, by decide +kernel⟩
def f_J16_newLength_21   (v0 : Int32) (v1 : Int32) (p0 : PH) : Option (xO × PH) :=
  none
def f_J16_newLength (p0 : PH) (a0 : Int32) (a1 : Int32) (a2 : Int32) : Option (xO × PH) :=
  (xcI (f_J8_max p0 a1 a2) fun x2 p1 =>
  (bnd (a0 + x2) fun x3 =>
  (if x3 ≤ 0 then
  (f_J16_newLength_21 a0 a1 p1) else
  (if 2147483639 < x3 then
  (f_J16_newLength_21 a0 a1 p1) else
  (rI x3 p1)))))
theorem f_J16_newLength_21_ok {G : xG} (hO : xOK G)   (v0 : Int32) (v1 : Int32) (p0 : PH) : X G "jdk/internal/util/ArraysSupport" "newLength" cJ16_newLength 4 (Option.some Jvm.ClassFile.FieldType.int) 1 21 [(0, .int v0), (1, .int v1)] [] p0 (f_J16_newLength_21 v0 v1 p0) := by
  unfold f_J16_newLength_21
  refine x_iload_n 0 dJ16_newLength_21 rfl rfl (n := 22) rfl ?_
  refine x_iload_n 1 dJ16_newLength_22 rfl rfl (n := 23) rfl ?_
  exact x_no
theorem f_J16_newLength_ok {G : xG} (hO : xOK G) (p0 : PH) (a0 : Int32) (a1 : Int32) (a2 : Int32) : CT G 1 yJ16_newLength cJ16_newLength 4 (Option.some Jvm.ClassFile.FieldType.int) [.int a0, .int a1, .int a2] p0 (f_J16_newLength p0 a0 a1 a2) := by
  refine CT_of hO (by decide +kernel) (by decide +kernel) (Nat.le_of_ble_eq_true rfl) ?_
  show X G "jdk/internal/util/ArraysSupport" "newLength" cJ16_newLength 4 (Option.some Jvm.ClassFile.FieldType.int) 1 0 [(0, .int a0), (1, .int a1), (2, .int a2)] [] p0 (f_J16_newLength p0 a0 a1 a2)
  refine x_iload_n 0 dJ16_newLength_0 rfl rfl (n := 1) rfl ?_
  refine x_iload_n 1 dJ16_newLength_1 rfl rfl (n := 2) rfl ?_
  refine x_iload_n 2 dJ16_newLength_2 rfl rfl (n := 3) rfl ?_
  refine x_callS_I [.int a1, .int a2] [.int a0] (f_J8_max_ok hO p0 a1 a2) md_J8_max q621 q434 dJ16_newLength_3 rfl rfl (by decide) (Nat.le_of_ble_eq_true rfl) (n := 6) rfl (fun x2 p1 => ?_)
  refine x_iadd dJ16_newLength_6 (n := 7) rfl ?_
  refine x_nm (fun x3 => ?_)
  refine x_istore_n [(3, .int x3), (0, .int a0), (1, .int a1), (2, .int a2)] dJ16_newLength_7 rfl (by decide) rfl (n := 8) rfl ?_
  refine x_iconst 0 dJ16_newLength_8 rfl (n := 9) rfl ?_
  refine x_iload_n 0 dJ16_newLength_9 rfl rfl (n := 10) rfl ?_
  refine x_icmp_ge dJ16_newLength_10 (t := 21) (by decide) (n := 13) rfl (fun _ => ?_) (fun _ => ?_)
  · refine x_sub [1, 2] [(0, .int a0), (1, .int a1)] rfl ?_
    exact f_J16_newLength_21_ok hO a0 a1 p1
  · refine x_iload_n 0 dJ16_newLength_13 rfl rfl (n := 14) rfl ?_
    refine x_ldc 2147483639 dJ16_newLength_14 q622 (n := 16) rfl ?_
    refine x_icmp_gt dJ16_newLength_16 (t := 21) (by decide) (n := 19) rfl (fun _ => ?_) (fun _ => ?_)
    · refine x_sub [1, 2] [(0, .int a0), (1, .int a1)] rfl ?_
      exact f_J16_newLength_21_ok hO a0 a1 p1
    · refine x_iload_n 0 dJ16_newLength_19 rfl rfl (n := 20) rfl ?_
      exact x_ireturn dJ16_newLength_20
abbrev cJ14_newCapacity : ByteArray := prog_16_method_10_code
def yJ14_newCapacity : MethodName := ⟨RJ14, "newCapacity", "(I)I"⟩
def dkwJ14_newCapacity_2 : List UInt8 := [183, 0, 124, 191, 21, 5, 42, 180, 0, 22, 122, 172]
abbrev dktJ14_newCapacity_2 : List UInt8 := dkwJ14_newCapacity_2 ++ []
def dkwJ14_newCapacity_1 : List UInt8 := [180, 0, 22, 120, 96, 184, 0, 114, 54, 5, 21, 5, 18, 39, 160, 0, 13, 187, 0, 120, 89, 18, 122]
abbrev dktJ14_newCapacity_1 : List UInt8 := dkwJ14_newCapacity_1 ++ dktJ14_newCapacity_2
def dkwJ14_newCapacity_0 : List UInt8 := [42, 180, 0, 15, 190, 61, 27, 42, 180, 0, 22, 120, 62, 29, 28, 100, 54, 4, 28, 21, 4, 28, 5, 42]
abbrev dktJ14_newCapacity_0 : List UInt8 := dkwJ14_newCapacity_0 ++ dktJ14_newCapacity_1
theorem dksJ14_newCapacity_0 : cJ14_newCapacity.data.toList.drop 0 = dktJ14_newCapacity_0 := by decide +kernel
theorem dksJ14_newCapacity_1 : cJ14_newCapacity.data.toList.drop 24 = dktJ14_newCapacity_1 := dk_seg dksJ14_newCapacity_0 24 rfl rfl
theorem dksJ14_newCapacity_2 : cJ14_newCapacity.data.toList.drop 47 = dktJ14_newCapacity_2 := dk_seg dksJ14_newCapacity_1 23 rfl rfl
theorem dJ14_newCapacity_0 : decode cJ14_newCapacity 0 = .ok (.aload_n 0, 1) := dk_42 (dk_at dksJ14_newCapacity_0 0 rfl rfl)
theorem dJ14_newCapacity_1 : decode cJ14_newCapacity 1 = .ok (.getfield 15, 3) := dk_180 0 15 (dk_at dksJ14_newCapacity_0 1 rfl rfl)
theorem dJ14_newCapacity_4 : decode cJ14_newCapacity 4 = .ok (.arraylength, 1) := dk_190 (dk_at dksJ14_newCapacity_0 4 rfl rfl)
theorem dJ14_newCapacity_5 : decode cJ14_newCapacity 5 = .ok (.istore_n 2, 1) := dk_61 (dk_at dksJ14_newCapacity_0 5 rfl rfl)
theorem dJ14_newCapacity_6 : decode cJ14_newCapacity 6 = .ok (.iload_n 1, 1) := dk_27 (dk_at dksJ14_newCapacity_0 6 rfl rfl)
theorem dJ14_newCapacity_7 : decode cJ14_newCapacity 7 = .ok (.aload_n 0, 1) := dk_42 (dk_at dksJ14_newCapacity_0 7 rfl rfl)
theorem dJ14_newCapacity_8 : decode cJ14_newCapacity 8 = .ok (.getfield 22, 3) := dk_180 0 22 (dk_at dksJ14_newCapacity_0 8 rfl rfl)
theorem dJ14_newCapacity_11 : decode cJ14_newCapacity 11 = .ok (.ishl, 1) := dk_120 (dk_at dksJ14_newCapacity_0 11 rfl rfl)
theorem dJ14_newCapacity_12 : decode cJ14_newCapacity 12 = .ok (.istore_n 3, 1) := dk_62 (dk_at dksJ14_newCapacity_0 12 rfl rfl)
theorem dJ14_newCapacity_13 : decode cJ14_newCapacity 13 = .ok (.iload_n 3, 1) := dk_29 (dk_at dksJ14_newCapacity_0 13 rfl rfl)
theorem dJ14_newCapacity_14 : decode cJ14_newCapacity 14 = .ok (.iload_n 2, 1) := dk_28 (dk_at dksJ14_newCapacity_0 14 rfl rfl)
theorem dJ14_newCapacity_15 : decode cJ14_newCapacity 15 = .ok (.isub, 1) := dk_100 (dk_at dksJ14_newCapacity_0 15 rfl rfl)
theorem dJ14_newCapacity_16 : decode cJ14_newCapacity 16 = .ok (.istore 4, 2) := dk_54 4 (dk_at dksJ14_newCapacity_0 16 rfl rfl)
theorem dJ14_newCapacity_18 : decode cJ14_newCapacity 18 = .ok (.iload_n 2, 1) := dk_28 (dk_at dksJ14_newCapacity_0 18 rfl rfl)
theorem dJ14_newCapacity_19 : decode cJ14_newCapacity 19 = .ok (.iload 4, 2) := dk_21 4 (dk_at dksJ14_newCapacity_0 19 rfl rfl)
theorem dJ14_newCapacity_21 : decode cJ14_newCapacity 21 = .ok (.iload_n 2, 1) := dk_28 (dk_at dksJ14_newCapacity_0 21 rfl rfl)
theorem dJ14_newCapacity_22 : decode cJ14_newCapacity 22 = .ok (.iconst 2, 1) := dk_5 (dk_at dksJ14_newCapacity_0 22 rfl rfl)
theorem dJ14_newCapacity_23 : decode cJ14_newCapacity 23 = .ok (.aload_n 0, 1) := dk_42 (dk_at dksJ14_newCapacity_0 23 rfl rfl)
theorem dJ14_newCapacity_24 : decode cJ14_newCapacity 24 = .ok (.getfield 22, 3) := dk_180 0 22 (dk_at dksJ14_newCapacity_1 0 rfl rfl)
theorem dJ14_newCapacity_27 : decode cJ14_newCapacity 27 = .ok (.ishl, 1) := dk_120 (dk_at dksJ14_newCapacity_1 3 rfl rfl)
theorem dJ14_newCapacity_28 : decode cJ14_newCapacity 28 = .ok (.iadd, 1) := dk_96 (dk_at dksJ14_newCapacity_1 4 rfl rfl)
theorem dJ14_newCapacity_29 : decode cJ14_newCapacity 29 = .ok (.invokestatic 114, 3) := dk_184 0 114 (dk_at dksJ14_newCapacity_1 5 rfl rfl)
theorem dJ14_newCapacity_32 : decode cJ14_newCapacity 32 = .ok (.istore 5, 2) := dk_54 5 (dk_at dksJ14_newCapacity_1 8 rfl rfl)
theorem dJ14_newCapacity_34 : decode cJ14_newCapacity 34 = .ok (.iload 5, 2) := dk_21 5 (dk_at dksJ14_newCapacity_1 10 rfl rfl)
theorem dJ14_newCapacity_36 : decode cJ14_newCapacity 36 = .ok (.ldc 39, 2) := dk_18 39 (dk_at dksJ14_newCapacity_1 12 rfl rfl)
theorem dJ14_newCapacity_38 : decode cJ14_newCapacity 38 = .ok (.if_icmp .ne 13, 3) := dk_160 0 13 (dk_at dksJ14_newCapacity_1 14 rfl rfl)
theorem dJ14_newCapacity_41 : decode cJ14_newCapacity 41 = .ok (.new 120, 3) := dk_187 0 120 (dk_at dksJ14_newCapacity_1 17 rfl rfl)
theorem dJ14_newCapacity_44 : decode cJ14_newCapacity 44 = .ok (.dup, 1) := dk_89 (dk_at dksJ14_newCapacity_1 20 rfl rfl)
theorem dJ14_newCapacity_45 : decode cJ14_newCapacity 45 = .ok (.ldc 122, 2) := dk_18 122 (dk_at dksJ14_newCapacity_1 21 rfl rfl)
theorem dJ14_newCapacity_47 : decode cJ14_newCapacity 47 = .ok (.invokespecial 124, 3) := dk_183 0 124 (dk_at dksJ14_newCapacity_2 0 rfl rfl)
theorem dJ14_newCapacity_50 : decode cJ14_newCapacity 50 = .ok (.athrow, 1) := dk_191 (dk_at dksJ14_newCapacity_2 3 rfl rfl)
theorem dJ14_newCapacity_51 : decode cJ14_newCapacity 51 = .ok (.iload 5, 2) := dk_21 5 (dk_at dksJ14_newCapacity_2 4 rfl rfl)
theorem dJ14_newCapacity_53 : decode cJ14_newCapacity 53 = .ok (.aload_n 0, 1) := dk_42 (dk_at dksJ14_newCapacity_2 6 rfl rfl)
theorem dJ14_newCapacity_54 : decode cJ14_newCapacity 54 = .ok (.getfield 22, 3) := dk_180 0 22 (dk_at dksJ14_newCapacity_2 7 rfl rfl)
theorem dJ14_newCapacity_57 : decode cJ14_newCapacity 57 = .ok (.ishr, 1) := dk_122 (dk_at dksJ14_newCapacity_2 10 rfl rfl)
theorem dJ14_newCapacity_58 : decode cJ14_newCapacity 58 = .ok (.ireturn, 1) := dk_172 (dk_at dksJ14_newCapacity_2 11 rfl rfl)
theorem md_J14_newCapacity : xMd yJ14_newCapacity cJ14_newCapacity 6 (Option.some Jvm.ClassFile.FieldType.int) 1 := ⟨q617, q142, by decide, by decide +kernel, by decide +kernel, by decide +kernel⟩
def f_J14_newCapacity (p0 : PH) (a0 : Nat) (a1 : Int32) : Option (xO × PH) :=
  (xcl1 p0 a0 17 (xgR p0 a0 17 0 fun x1 =>
  (xnul x1 none fun b2 =>
  (xlen p0 b2 fun x3 =>
  (xgI p0 a0 17 1 fun x4 =>
  (bnd (a1 <<< (x4 &&& 31)) fun x5 =>
  (bnd (x5 - x3) fun x6 =>
  (xgI p0 a0 17 1 fun x7 =>
  (xcI (f_J16_newLength p0 x3 x6 (x3 + (2 <<< (x7 &&& 31)))) fun x9 p8 =>
  (if x9 = 2147483647 then
  none else
  (xgI p8 a0 17 1 fun x10 =>
  (rI (x9 >>> (x10 &&& 31)) p8))))))))))))
theorem rc_J14_newCapacity {p0 : PH} {a0 : Nat} {a1 : Int32} : ∀ z, f_J14_newCapacity p0 a0 a1 = some z → xco p0 a0 = some 17 := fun z h => xcl1_some h
theorem f_J14_newCapacity_ok {G : xG} (hO : xOK G) (p0 : PH) (a0 : Nat) (a1 : Int32) : CT G 2 yJ14_newCapacity cJ14_newCapacity 6 (Option.some Jvm.ClassFile.FieldType.int) [.ref a0, .int a1] p0 (f_J14_newCapacity p0 a0 a1) := by
  refine CT_of hO (by decide +kernel) (by decide +kernel) (Nat.le_of_ble_eq_true rfl) ?_
  show X G "java/lang/AbstractStringBuilder" "newCapacity" cJ14_newCapacity 6 (Option.some Jvm.ClassFile.FieldType.int) 2 0 [(0, .ref a0), (1, .int a1)] [] p0 (f_J14_newCapacity p0 a0 a1)
  refine x_cl1 (fun e0 => ?_)
  refine x_aload_nr 0 dJ14_newCapacity_0 rfl rfl (n := 1) rfl ?_
  refine x_getR fl_J14_15 dJ14_newCapacity_1 (n := 4) rfl (fun x1 => ?_)
  refine x_sm (fun b2 e => ?_)
  subst e
  refine x_alen dJ14_newCapacity_4 (n := 5) rfl (fun x3 => ?_)
  refine x_istore_n [(2, .int x3), (0, .ref a0), (1, .int a1)] dJ14_newCapacity_5 rfl (by decide) rfl (n := 6) rfl ?_
  refine x_iload_n 2 dJ14_newCapacity_6 rfl rfl (n := 7) rfl ?_
  refine x_aload_nr 1 dJ14_newCapacity_7 rfl rfl (n := 8) rfl ?_
  refine x_getI fl_J14_22 dJ14_newCapacity_8 (n := 11) rfl (fun x4 => ?_)
  refine x_ishl dJ14_newCapacity_11 (n := 12) rfl ?_
  refine x_nm (fun x5 => ?_)
  refine x_istore_n [(3, .int x5), (2, .int x3), (0, .ref a0), (1, .int a1)] dJ14_newCapacity_12 rfl (by decide) rfl (n := 13) rfl ?_
  refine x_iload_n 0 dJ14_newCapacity_13 rfl rfl (n := 14) rfl ?_
  refine x_iload_n 1 dJ14_newCapacity_14 rfl rfl (n := 15) rfl ?_
  refine x_isub dJ14_newCapacity_15 (n := 16) rfl ?_
  refine x_nm (fun x6 => ?_)
  refine x_istore [(4, .int x6), (3, .int x5), (2, .int x3), (0, .ref a0), (1, .int a1)] dJ14_newCapacity_16 (by decide) rfl (n := 18) rfl ?_
  refine x_iload_n 2 dJ14_newCapacity_18 rfl rfl (n := 19) rfl ?_
  refine x_iload 0 dJ14_newCapacity_19 rfl (n := 21) rfl ?_
  refine x_iload_n 2 dJ14_newCapacity_21 rfl rfl (n := 22) rfl ?_
  refine x_iconst 2 dJ14_newCapacity_22 rfl (n := 23) rfl ?_
  refine x_aload_nr 3 dJ14_newCapacity_23 rfl rfl (n := 24) rfl ?_
  refine x_getI fl_J14_22 dJ14_newCapacity_24 (n := 27) rfl (fun x7 => ?_)
  refine x_ishl dJ14_newCapacity_27 (n := 28) rfl ?_
  refine x_iadd dJ14_newCapacity_28 (n := 29) rfl ?_
  refine x_callS_I [.int x3, .int x6, .int (x3 + (2 <<< (x7 &&& 31)))] [] (f_J16_newLength_ok hO p0 x3 x6 (x3 + (2 <<< (x7 &&& 31)))) md_J16_newLength q618 q619 dJ14_newCapacity_29 rfl rfl (by decide) (Nat.le_of_ble_eq_true rfl) (n := 32) rfl (fun x9 p8 => ?_)
  refine x_istore [(5, .int x9), (4, .int x6), (3, .int x5), (2, .int x3), (0, .ref a0), (1, .int a1)] dJ14_newCapacity_32 (by decide) rfl (n := 34) rfl ?_
  refine x_iload 0 dJ14_newCapacity_34 rfl (n := 36) rfl ?_
  refine x_ldc 2147483647 dJ14_newCapacity_36 q626 (n := 38) rfl ?_
  refine x_icmp_ne dJ14_newCapacity_38 (t := 51) (by decide) (n := 41) rfl (fun _ => ?_) (fun _ => ?_)
  · refine x_iload 0 dJ14_newCapacity_51 rfl (n := 53) rfl ?_
    refine x_aload_nr 4 dJ14_newCapacity_53 rfl rfl (n := 54) rfl ?_
    refine x_getI fl_J14_22 dJ14_newCapacity_54 (n := 57) rfl (fun x10 => ?_)
    refine x_ishr dJ14_newCapacity_57 (n := 58) rfl ?_
    exact x_ireturn dJ14_newCapacity_58
  · exact x_no
abbrev cJ17_copyOf : ByteArray := prog_50_method_121_code
def yJ17_copyOf : MethodName := ⟨RJ17, "copyOf", "([BI)[B"⟩
def dkwJ17_copyOf_1 : List UInt8 := [27, 184, 1, 48, 184, 0, 150, 44, 176]
abbrev dktJ17_copyOf_1 : List UInt8 := dkwJ17_copyOf_1 ++ []
def dkwJ17_copyOf_0 : List UInt8 := [27, 42, 190, 160, 0, 11, 42, 182, 1, 54, 192, 1, 55, 176, 27, 188, 8, 77, 42, 3, 44, 3, 42, 190]
abbrev dktJ17_copyOf_0 : List UInt8 := dkwJ17_copyOf_0 ++ dktJ17_copyOf_1
theorem dksJ17_copyOf_0 : cJ17_copyOf.data.toList.drop 0 = dktJ17_copyOf_0 := by decide +kernel
theorem dksJ17_copyOf_1 : cJ17_copyOf.data.toList.drop 24 = dktJ17_copyOf_1 := dk_seg dksJ17_copyOf_0 24 rfl rfl
theorem dJ17_copyOf_0 : decode cJ17_copyOf 0 = .ok (.iload_n 1, 1) := dk_27 (dk_at dksJ17_copyOf_0 0 rfl rfl)
theorem dJ17_copyOf_1 : decode cJ17_copyOf 1 = .ok (.aload_n 0, 1) := dk_42 (dk_at dksJ17_copyOf_0 1 rfl rfl)
theorem dJ17_copyOf_2 : decode cJ17_copyOf 2 = .ok (.arraylength, 1) := dk_190 (dk_at dksJ17_copyOf_0 2 rfl rfl)
theorem dJ17_copyOf_3 : decode cJ17_copyOf 3 = .ok (.if_icmp .ne 11, 3) := dk_160 0 11 (dk_at dksJ17_copyOf_0 3 rfl rfl)
theorem dJ17_copyOf_6 : decode cJ17_copyOf 6 = .ok (.aload_n 0, 1) := dk_42 (dk_at dksJ17_copyOf_0 6 rfl rfl)
theorem dJ17_copyOf_7 : decode cJ17_copyOf 7 = .ok (.invokevirtual 310, 3) := dk_182 1 54 (dk_at dksJ17_copyOf_0 7 rfl rfl)
theorem dJ17_copyOf_10 : decode cJ17_copyOf 10 = .ok (.checkcast 311, 3) := dk_192 1 55 (dk_at dksJ17_copyOf_0 10 rfl rfl)
theorem dJ17_copyOf_13 : decode cJ17_copyOf 13 = .ok (.areturn, 1) := dk_176 (dk_at dksJ17_copyOf_0 13 rfl rfl)
theorem dJ17_copyOf_14 : decode cJ17_copyOf 14 = .ok (.iload_n 1, 1) := dk_27 (dk_at dksJ17_copyOf_0 14 rfl rfl)
theorem dJ17_copyOf_15 : decode cJ17_copyOf 15 = .ok (.newarray .byte, 2) := dk_188_8 (dk_at dksJ17_copyOf_0 15 rfl rfl)
theorem dJ17_copyOf_17 : decode cJ17_copyOf 17 = .ok (.astore_n 2, 1) := dk_77 (dk_at dksJ17_copyOf_0 17 rfl rfl)
theorem dJ17_copyOf_18 : decode cJ17_copyOf 18 = .ok (.aload_n 0, 1) := dk_42 (dk_at dksJ17_copyOf_0 18 rfl rfl)
theorem dJ17_copyOf_19 : decode cJ17_copyOf 19 = .ok (.iconst 0, 1) := dk_3 (dk_at dksJ17_copyOf_0 19 rfl rfl)
theorem dJ17_copyOf_20 : decode cJ17_copyOf 20 = .ok (.aload_n 2, 1) := dk_44 (dk_at dksJ17_copyOf_0 20 rfl rfl)
theorem dJ17_copyOf_21 : decode cJ17_copyOf 21 = .ok (.iconst 0, 1) := dk_3 (dk_at dksJ17_copyOf_0 21 rfl rfl)
theorem dJ17_copyOf_22 : decode cJ17_copyOf 22 = .ok (.aload_n 0, 1) := dk_42 (dk_at dksJ17_copyOf_0 22 rfl rfl)
theorem dJ17_copyOf_23 : decode cJ17_copyOf 23 = .ok (.arraylength, 1) := dk_190 (dk_at dksJ17_copyOf_0 23 rfl rfl)
theorem dJ17_copyOf_24 : decode cJ17_copyOf 24 = .ok (.iload_n 1, 1) := dk_27 (dk_at dksJ17_copyOf_1 0 rfl rfl)
theorem dJ17_copyOf_25 : decode cJ17_copyOf 25 = .ok (.invokestatic 304, 3) := dk_184 1 48 (dk_at dksJ17_copyOf_1 1 rfl rfl)
theorem dJ17_copyOf_28 : decode cJ17_copyOf 28 = .ok (.invokestatic 150, 3) := dk_184 0 150 (dk_at dksJ17_copyOf_1 4 rfl rfl)
theorem dJ17_copyOf_31 : decode cJ17_copyOf 31 = .ok (.aload_n 2, 1) := dk_44 (dk_at dksJ17_copyOf_1 7 rfl rfl)
theorem dJ17_copyOf_32 : decode cJ17_copyOf 32 = .ok (.areturn, 1) := dk_176 (dk_at dksJ17_copyOf_1 8 rfl rfl)
theorem md_J17_copyOf : xMd yJ17_copyOf cJ17_copyOf 3 (Option.some (Jvm.ClassFile.FieldType.array Jvm.ClassFile.FieldType.byte)) 2 := ⟨q629, q145, by decide, by decide +kernel, by decide +kernel, by decide +kernel⟩
def f_J17_copyOf (p0 : PH) (a0 : Option Nat) (a1 : Int32) : Option (xO × PH) :=
  (xnul a0 none fun b1 =>
  (xlen p0 b1 fun x2 =>
  (if a1 = x2 then
  (xclB p0 b1 fun b9 p10 =>
  (xcsa p10 (some b9) 2
  (rR (some b9) p10))) else
  (xnaI p0 2 a1 fun b3 p4 =>
  (xlen p4 b1 fun x5 =>
  (xcI (f_J8_min p4 x5 a1) fun x7 p6 =>
  (xcpB p6 b1 b3 0 0 x7 fun p8 =>
  (rR (some b3) p8))))))))
theorem f_J17_copyOf_ok {G : xG} (hO : xOK G) (p0 : PH) (a0 : Option Nat) (a1 : Int32) : CT G 1 yJ17_copyOf cJ17_copyOf 3 (Option.some (Jvm.ClassFile.FieldType.array Jvm.ClassFile.FieldType.byte)) [va_rf a0, .int a1] p0 (f_J17_copyOf p0 a0 a1) := by
  refine CT_of hO (by decide +kernel) (by decide +kernel) (lg_slen _ (by simp only [List.map, xcat]; exact Nat.le_of_ble_eq_true rfl)) ?_
  rw [show lv_args 0 [va_rf a0, .int a1] = [(0, va_rf a0), (1, .int a1)] from by simp only [lv_args, xcat] <;> rfl]
  show X G "java/util/Arrays" "copyOf" cJ17_copyOf 3 (Option.some (Jvm.ClassFile.FieldType.array Jvm.ClassFile.FieldType.byte)) 1 0 [(0, va_rf a0), (1, .int a1)] [] p0 (f_J17_copyOf p0 a0 a1)
  refine x_iload_n 1 dJ17_copyOf_0 rfl rfl (n := 1) rfl ?_
  refine x_aload_n 0 dJ17_copyOf_1 rfl rfl (n := 2) rfl ?_
  refine x_sm (fun b1 e => ?_)
  subst e
  refine x_alen dJ17_copyOf_2 (n := 3) rfl (fun x2 => ?_)
  refine x_icmp_ne dJ17_copyOf_3 (t := 14) (by decide) (n := 6) rfl (fun _ => ?_) (fun _ => ?_)
  · refine x_iload_n 1 dJ17_copyOf_14 rfl rfl (n := 15) rfl ?_
    refine x_newI (t := 2) (atype := .byte) rfl q212 rfl (by decide) dJ17_copyOf_15 (n := 17) rfl (fun b3 p4 => ?_)
    refine x_astore_nr [(2, .ref b3), (0, .ref b1), (1, .int a1)] dJ17_copyOf_17 rfl (by decide) rfl (n := 18) rfl ?_
    refine x_aload_nr 1 dJ17_copyOf_18 rfl rfl (n := 19) rfl ?_
    refine x_iconst 0 dJ17_copyOf_19 rfl (n := 20) rfl ?_
    refine x_aload_nr 0 dJ17_copyOf_20 rfl rfl (n := 21) rfl ?_
    refine x_iconst 0 dJ17_copyOf_21 rfl (n := 22) rfl ?_
    refine x_aload_nr 1 dJ17_copyOf_22 rfl rfl (n := 23) rfl ?_
    refine x_alen dJ17_copyOf_23 (n := 24) rfl (fun x5 => ?_)
    refine x_iload_n 2 dJ17_copyOf_24 rfl rfl (n := 25) rfl ?_
    refine x_callS_I [.int x5, .int a1] [.int 0, .ref b3, .int 0, .ref b1] (f_J8_min_ok hO p4 x5 a1) md_J8_min q637 q437 dJ17_copyOf_25 rfl rfl (by decide) (Nat.le_of_ble_eq_true rfl) (n := 28) rfl (fun x7 p6 => ?_)
    refine x_cpB arc_J17_150 dJ17_copyOf_28 (by decide) (Nat.le_of_ble_eq_true rfl) (n := 31) rfl (fun p8 => ?_)
    refine x_aload_nr 0 dJ17_copyOf_31 rfl rfl (n := 32) rfl ?_
    exact x_areturn (x := some b3) (Or.inr ⟨_, rfl⟩) dJ17_copyOf_32
  · refine x_aload_nr 0 dJ17_copyOf_6 rfl rfl (n := 7) rfl ?_
    refine x_clB clo_J17_310 dJ17_copyOf_7 (by decide) (Nat.le_of_ble_eq_true rfl) (n := 10) rfl (fun b9 p10 => ?_)
    refine x_casta (x := some b9) (t := 2) q636 rfl (by decide) rfl dJ17_copyOf_10 (n := 13) rfl ?_
    exact x_areturn (x := some b9) (Or.inr ⟨_, rfl⟩) dJ17_copyOf_13
abbrev cJ14_ensureCapacityInternal : ByteArray := prog_16_method_9_code
def yJ14_ensureCapacityInternal : MethodName := ⟨RJ14, "ensureCapacityInternal", "(I)V"⟩
def dkwJ14_ensureCapacityInternal_1 : List UInt8 := [182, 0, 104, 42, 180, 0, 22, 120, 184, 0, 108, 181, 0, 15, 177]
abbrev dktJ14_ensureCapacityInternal_1 : List UInt8 := dkwJ14_ensureCapacityInternal_1 ++ []
def dkwJ14_ensureCapacityInternal_0 : List UInt8 := [42, 180, 0, 15, 190, 42, 180, 0, 22, 122, 61, 27, 28, 100, 158, 0, 24, 42, 42, 180, 0, 15, 42, 27]
abbrev dktJ14_ensureCapacityInternal_0 : List UInt8 := dkwJ14_ensureCapacityInternal_0 ++ dktJ14_ensureCapacityInternal_1
theorem dksJ14_ensureCapacityInternal_0 : cJ14_ensureCapacityInternal.data.toList.drop 0 = dktJ14_ensureCapacityInternal_0 := by decide +kernel
theorem dksJ14_ensureCapacityInternal_1 : cJ14_ensureCapacityInternal.data.toList.drop 24 = dktJ14_ensureCapacityInternal_1 := dk_seg dksJ14_ensureCapacityInternal_0 24 rfl rfl
theorem dJ14_ensureCapacityInternal_0 : decode cJ14_ensureCapacityInternal 0 = .ok (.aload_n 0, 1) := dk_42 (dk_at dksJ14_ensureCapacityInternal_0 0 rfl rfl)
theorem dJ14_ensureCapacityInternal_1 : decode cJ14_ensureCapacityInternal 1 = .ok (.getfield 15, 3) := dk_180 0 15 (dk_at dksJ14_ensureCapacityInternal_0 1 rfl rfl)
theorem dJ14_ensureCapacityInternal_4 : decode cJ14_ensureCapacityInternal 4 = .ok (.arraylength, 1) := dk_190 (dk_at dksJ14_ensureCapacityInternal_0 4 rfl rfl)
theorem dJ14_ensureCapacityInternal_5 : decode cJ14_ensureCapacityInternal 5 = .ok (.aload_n 0, 1) := dk_42 (dk_at dksJ14_ensureCapacityInternal_0 5 rfl rfl)
theorem dJ14_ensureCapacityInternal_6 : decode cJ14_ensureCapacityInternal 6 = .ok (.getfield 22, 3) := dk_180 0 22 (dk_at dksJ14_ensureCapacityInternal_0 6 rfl rfl)
theorem dJ14_ensureCapacityInternal_9 : decode cJ14_ensureCapacityInternal 9 = .ok (.ishr, 1) := dk_122 (dk_at dksJ14_ensureCapacityInternal_0 9 rfl rfl)
theorem dJ14_ensureCapacityInternal_10 : decode cJ14_ensureCapacityInternal 10 = .ok (.istore_n 2, 1) := dk_61 (dk_at dksJ14_ensureCapacityInternal_0 10 rfl rfl)
theorem dJ14_ensureCapacityInternal_11 : decode cJ14_ensureCapacityInternal 11 = .ok (.iload_n 1, 1) := dk_27 (dk_at dksJ14_ensureCapacityInternal_0 11 rfl rfl)
theorem dJ14_ensureCapacityInternal_12 : decode cJ14_ensureCapacityInternal 12 = .ok (.iload_n 2, 1) := dk_28 (dk_at dksJ14_ensureCapacityInternal_0 12 rfl rfl)
theorem dJ14_ensureCapacityInternal_13 : decode cJ14_ensureCapacityInternal 13 = .ok (.isub, 1) := dk_100 (dk_at dksJ14_ensureCapacityInternal_0 13 rfl rfl)
theorem dJ14_ensureCapacityInternal_14 : decode cJ14_ensureCapacityInternal 14 = .ok (.ifCond .le 24, 3) := dk_158 0 24 (dk_at dksJ14_ensureCapacityInternal_0 14 rfl rfl)
theorem dJ14_ensureCapacityInternal_17 : decode cJ14_ensureCapacityInternal 17 = .ok (.aload_n 0, 1) := dk_42 (dk_at dksJ14_ensureCapacityInternal_0 17 rfl rfl)
theorem dJ14_ensureCapacityInternal_18 : decode cJ14_ensureCapacityInternal 18 = .ok (.aload_n 0, 1) := dk_42 (dk_at dksJ14_ensureCapacityInternal_0 18 rfl rfl)
theorem dJ14_ensureCapacityInternal_19 : decode cJ14_ensureCapacityInternal 19 = .ok (.getfield 15, 3) := dk_180 0 15 (dk_at dksJ14_ensureCapacityInternal_0 19 rfl rfl)
theorem dJ14_ensureCapacityInternal_22 : decode cJ14_ensureCapacityInternal 22 = .ok (.aload_n 0, 1) := dk_42 (dk_at dksJ14_ensureCapacityInternal_0 22 rfl rfl)
theorem dJ14_ensureCapacityInternal_23 : decode cJ14_ensureCapacityInternal 23 = .ok (.iload_n 1, 1) := dk_27 (dk_at dksJ14_ensureCapacityInternal_0 23 rfl rfl)
theorem dJ14_ensureCapacityInternal_24 : decode cJ14_ensureCapacityInternal 24 = .ok (.invokevirtual 104, 3) := dk_182 0 104 (dk_at dksJ14_ensureCapacityInternal_1 0 rfl rfl)
theorem dJ14_ensureCapacityInternal_27 : decode cJ14_ensureCapacityInternal 27 = .ok (.aload_n 0, 1) := dk_42 (dk_at dksJ14_ensureCapacityInternal_1 3 rfl rfl)
theorem dJ14_ensureCapacityInternal_28 : decode cJ14_ensureCapacityInternal 28 = .ok (.getfield 22, 3) := dk_180 0 22 (dk_at dksJ14_ensureCapacityInternal_1 4 rfl rfl)
theorem dJ14_ensureCapacityInternal_31 : decode cJ14_ensureCapacityInternal 31 = .ok (.ishl, 1) := dk_120 (dk_at dksJ14_ensureCapacityInternal_1 7 rfl rfl)
theorem dJ14_ensureCapacityInternal_32 : decode cJ14_ensureCapacityInternal 32 = .ok (.invokestatic 108, 3) := dk_184 0 108 (dk_at dksJ14_ensureCapacityInternal_1 8 rfl rfl)
theorem dJ14_ensureCapacityInternal_35 : decode cJ14_ensureCapacityInternal 35 = .ok (.putfield 15, 3) := dk_181 0 15 (dk_at dksJ14_ensureCapacityInternal_1 11 rfl rfl)
theorem dJ14_ensureCapacityInternal_38 : decode cJ14_ensureCapacityInternal 38 = .ok (.return_, 1) := dk_177 (dk_at dksJ14_ensureCapacityInternal_1 14 rfl rfl)
theorem md_J14_ensureCapacityInternal : xMd yJ14_ensureCapacityInternal cJ14_ensureCapacityInternal 3 (Option.none : Option Jvm.ClassFile.FieldType) 1 := ⟨q613, q142, by decide, by decide +kernel, by decide +kernel, by decide +kernel⟩
def f_J14_ensureCapacityInternal (p0 : PH) (a0 : Nat) (a1 : Int32) : Option (xO × PH) :=
  (xcl1 p0 a0 17 (xgR p0 a0 17 0 fun x1 =>
  (xnul x1 none fun b2 =>
  (xlen p0 b2 fun x3 =>
  (xgI p0 a0 17 1 fun x4 =>
  (bnd (x3 >>> (x4 &&& 31)) fun x5 =>
  (if (a1 - x5) ≤ 0 then
  (rV p0) else
  (xgR p0 a0 17 0 fun x6 =>
  (xcI (f_J14_newCapacity p0 a0 a1) fun x8 p7 =>
  (xgI p7 a0 17 1 fun x9 =>
  (xcR (f_J17_copyOf p7 x6 (x8 <<< (x9 &&& 31))) fun x11 p10 =>
  (xpF p10 a0 17 0 (va_rf x11) fun p12 =>
  (rV p12)))))))))))))
theorem rc_J14_ensureCapacityInternal {p0 : PH} {a0 : Nat} {a1 : Int32} : ∀ z, f_J14_ensureCapacityInternal p0 a0 a1 = some z → xco p0 a0 = some 17 := fun z h => xcl1_some h
theorem f_J14_ensureCapacityInternal_ok {G : xG} (hO : xOK G) (p0 : PH) (a0 : Nat) (a1 : Int32) : CT G 3 yJ14_ensureCapacityInternal cJ14_ensureCapacityInternal 3 (Option.none : Option Jvm.ClassFile.FieldType) [.ref a0, .int a1] p0 (f_J14_ensureCapacityInternal p0 a0 a1) := by
  refine CT_of hO (by decide +kernel) (by decide +kernel) (Nat.le_of_ble_eq_true rfl) ?_
  show X G "java/lang/AbstractStringBuilder" "ensureCapacityInternal" cJ14_ensureCapacityInternal 3 (Option.none : Option Jvm.ClassFile.FieldType) 3 0 [(0, .ref a0), (1, .int a1)] [] p0 (f_J14_ensureCapacityInternal p0 a0 a1)
  refine x_cl1 (fun e0 => ?_)
  refine x_aload_nr 0 dJ14_ensureCapacityInternal_0 rfl rfl (n := 1) rfl ?_
  refine x_getR fl_J14_15 dJ14_ensureCapacityInternal_1 (n := 4) rfl (fun x1 => ?_)
  refine x_sm (fun b2 e => ?_)
  subst e
  refine x_alen dJ14_ensureCapacityInternal_4 (n := 5) rfl (fun x3 => ?_)
  refine x_aload_nr 0 dJ14_ensureCapacityInternal_5 rfl rfl (n := 6) rfl ?_
  refine x_getI fl_J14_22 dJ14_ensureCapacityInternal_6 (n := 9) rfl (fun x4 => ?_)
  refine x_ishr dJ14_ensureCapacityInternal_9 (n := 10) rfl ?_
  refine x_nm (fun x5 => ?_)
  refine x_istore_n [(2, .int x5), (0, .ref a0), (1, .int a1)] dJ14_ensureCapacityInternal_10 rfl (by decide) rfl (n := 11) rfl ?_
  refine x_iload_n 2 dJ14_ensureCapacityInternal_11 rfl rfl (n := 12) rfl ?_
  refine x_iload_n 0 dJ14_ensureCapacityInternal_12 rfl rfl (n := 13) rfl ?_
  refine x_isub dJ14_ensureCapacityInternal_13 (n := 14) rfl ?_
  refine x_if_le dJ14_ensureCapacityInternal_14 (t := 38) (by decide) (n := 17) rfl (fun _ => ?_) (fun _ => ?_)
  · exact x_return dJ14_ensureCapacityInternal_38
  · refine x_aload_nr 1 dJ14_ensureCapacityInternal_17 rfl rfl (n := 18) rfl ?_
    refine x_aload_nr 1 dJ14_ensureCapacityInternal_18 rfl rfl (n := 19) rfl ?_
    refine x_getR fl_J14_15 dJ14_ensureCapacityInternal_19 (n := 22) rfl (fun x6 => ?_)
    refine x_aload_nr 1 dJ14_ensureCapacityInternal_22 rfl rfl (n := 23) rfl ?_
    refine x_iload_n 2 dJ14_ensureCapacityInternal_23 rfl rfl (n := 24) rfl ?_
    refine x_callP_I [.int a1] [va_rf x6, .ref a0] (f_J14_newCapacity_ok hO p0 a0 a1) rc_J14_newCapacity md_J14_newCapacity rfl q614 q3478 q615 q616 dJ14_ensureCapacityInternal_24 rfl rfl (by decide) (by simp only [List.map, xcat]; exact Nat.le_of_ble_eq_true rfl) (n := 27) rfl (fun x8 p7 => ?_)
    refine x_aload_nr 1 dJ14_ensureCapacityInternal_27 rfl rfl (n := 28) rfl ?_
    refine x_getI fl_J14_22 dJ14_ensureCapacityInternal_28 (n := 31) rfl (fun x9 => ?_)
    refine x_ishl dJ14_ensureCapacityInternal_31 (n := 32) rfl ?_
    refine x_callS_R [va_rf x6, .int (x8 <<< (x9 &&& 31))] [.ref a0] (f_J17_copyOf_ok hO p7 x6 (x8 <<< (x9 &&& 31))) md_J17_copyOf q627 q628 dJ14_ensureCapacityInternal_32 rfl rfl (by decide) (Nat.le_of_ble_eq_true rfl) (n := 35) rfl (fun x11 p10 => ?_)
    refine x_pF (pl_J14_15 _ _ (xfit_a (x11))) dJ14_ensureCapacityInternal_35 (n := 38) rfl (fun p12 => ?_)
    exact x_return dJ14_ensureCapacityInternal_38
abbrev cJ14_isLatin1 : ByteArray := prog_16_method_68_code
def yJ14_isLatin1 : MethodName := ⟨RJ14, "isLatin1", "()Z"⟩
def dkwJ14_isLatin1_0 : List UInt8 := [178, 0, 18, 153, 0, 14, 42, 180, 0, 22, 154, 0, 7, 4, 167, 0, 4, 3, 172]
abbrev dktJ14_isLatin1_0 : List UInt8 := dkwJ14_isLatin1_0 ++ []
theorem dksJ14_isLatin1_0 : cJ14_isLatin1.data.toList.drop 0 = dktJ14_isLatin1_0 := by decide +kernel
theorem dJ14_isLatin1_0 : decode cJ14_isLatin1 0 = .ok (.getstatic 18, 3) := dk_178 0 18 (dk_at dksJ14_isLatin1_0 0 rfl rfl)
theorem dJ14_isLatin1_3 : decode cJ14_isLatin1 3 = .ok (.ifCond .eq 14, 3) := dk_153 0 14 (dk_at dksJ14_isLatin1_0 3 rfl rfl)
theorem dJ14_isLatin1_6 : decode cJ14_isLatin1 6 = .ok (.aload_n 0, 1) := dk_42 (dk_at dksJ14_isLatin1_0 6 rfl rfl)
theorem dJ14_isLatin1_7 : decode cJ14_isLatin1 7 = .ok (.getfield 22, 3) := dk_180 0 22 (dk_at dksJ14_isLatin1_0 7 rfl rfl)
theorem dJ14_isLatin1_10 : decode cJ14_isLatin1 10 = .ok (.ifCond .ne 7, 3) := dk_154 0 7 (dk_at dksJ14_isLatin1_0 10 rfl rfl)
theorem dJ14_isLatin1_13 : decode cJ14_isLatin1 13 = .ok (.iconst 1, 1) := dk_4 (dk_at dksJ14_isLatin1_0 13 rfl rfl)
theorem dJ14_isLatin1_14 : decode cJ14_isLatin1 14 = .ok (.goto 4, 3) := dk_167 0 4 (dk_at dksJ14_isLatin1_0 14 rfl rfl)
theorem dJ14_isLatin1_17 : decode cJ14_isLatin1 17 = .ok (.iconst 0, 1) := dk_3 (dk_at dksJ14_isLatin1_0 17 rfl rfl)
theorem dJ14_isLatin1_18 : decode cJ14_isLatin1 18 = .ok (.ireturn, 1) := dk_172 (dk_at dksJ14_isLatin1_0 18 rfl rfl)
theorem md_J14_isLatin1 : xMd yJ14_isLatin1 cJ14_isLatin1 1 (Option.some Jvm.ClassFile.FieldType.boolean) 0 := ⟨q645, q142, by decide, by decide +kernel, by decide +kernel, by decide +kernel⟩
def f_J14_isLatin1 (p0 : PH) (a0 : Nat) : Option (xO × PH) :=
  (xcl1 p0 a0 17 (if (1 : Int32) = 0 then
  (if vp_nar .boolean 0 = 0 then rI 0 p0 else none) else
  (xgI p0 a0 17 1 fun x1 =>
  (if x1 = 0 then
  (if vp_nar .boolean 1 = 1 then rI 1 p0 else none) else
  (if vp_nar .boolean 0 = 0 then rI 0 p0 else none)))))
theorem rc_J14_isLatin1 {p0 : PH} {a0 : Nat} : ∀ z, f_J14_isLatin1 p0 a0 = some z → xco p0 a0 = some 17 := fun z h => xcl1_some h
theorem f_J14_isLatin1_ok {G : xG} (hO : xOK G) (p0 : PH) (a0 : Nat) : CT G 0 yJ14_isLatin1 cJ14_isLatin1 1 (Option.some Jvm.ClassFile.FieldType.boolean) [.ref a0] p0 (f_J14_isLatin1 p0 a0) := by
  refine CT_of hO (by decide +kernel) (by decide +kernel) (Nat.le_of_ble_eq_true rfl) ?_
  show X G "java/lang/AbstractStringBuilder" "isLatin1" cJ14_isLatin1 1 (Option.some Jvm.ClassFile.FieldType.boolean) 0 0 [(0, .ref a0)] [] p0 (f_J14_isLatin1 p0 a0)
  refine x_cl1 (fun e0 => ?_)
  refine x_getsI (j := 3) rfl (Or.inl q582) dJ14_isLatin1_0 (n := 3) rfl ?_
  refine x_if_eq dJ14_isLatin1_3 (t := 17) (by decide) (n := 6) rfl (fun _ => ?_) (fun _ => ?_)
  · refine x_iconst 0 dJ14_isLatin1_17 rfl (n := 18) rfl ?_
    exact x_nreturn rfl dJ14_isLatin1_18
  · refine x_aload_nr 0 dJ14_isLatin1_6 rfl rfl (n := 7) rfl ?_
    refine x_getI fl_J14_22 dJ14_isLatin1_7 (n := 10) rfl (fun x1 => ?_)
    refine x_if_ne dJ14_isLatin1_10 (t := 17) (by decide) (n := 13) rfl (fun _ => ?_) (fun _ => ?_)
    · refine x_iconst 0 dJ14_isLatin1_17 rfl (n := 18) rfl ?_
      exact x_nreturn rfl dJ14_isLatin1_18
    · refine x_iconst 1 dJ14_isLatin1_13 rfl (n := 14) rfl ?_
      refine x_goto dJ14_isLatin1_14 (n := 18) (by decide) ?_
      exact x_nreturn rfl dJ14_isLatin1_18
abbrev cJ7_canEncode_2 : ByteArray := prog_33_method_3_code
def yJ7_canEncode_2 : MethodName := ⟨RJ7, "canEncode", "(C)Z"⟩
def dkwJ7_canEncode_2_0 : List UInt8 := [26, 17, 0, 255, 163, 0, 7, 4, 167, 0, 4, 3, 172]
abbrev dktJ7_canEncode_2_0 : List UInt8 := dkwJ7_canEncode_2_0 ++ []
theorem dksJ7_canEncode_2_0 : cJ7_canEncode_2.data.toList.drop 0 = dktJ7_canEncode_2_0 := by decide +kernel
theorem dJ7_canEncode_2_0 : decode cJ7_canEncode_2 0 = .ok (.iload_n 0, 1) := dk_26 (dk_at dksJ7_canEncode_2_0 0 rfl rfl)
theorem dJ7_canEncode_2_1 : decode cJ7_canEncode_2 1 = .ok (.sipush 255, 3) := dk_17 0 255 (dk_at dksJ7_canEncode_2_0 1 rfl rfl)
theorem dJ7_canEncode_2_4 : decode cJ7_canEncode_2 4 = .ok (.if_icmp .gt 7, 3) := dk_163 0 7 (dk_at dksJ7_canEncode_2_0 4 rfl rfl)
theorem dJ7_canEncode_2_7 : decode cJ7_canEncode_2 7 = .ok (.iconst 1, 1) := dk_4 (dk_at dksJ7_canEncode_2_0 7 rfl rfl)
theorem dJ7_canEncode_2_8 : decode cJ7_canEncode_2 8 = .ok (.goto 4, 3) := dk_167 0 4 (dk_at dksJ7_canEncode_2_0 8 rfl rfl)
theorem dJ7_canEncode_2_11 : decode cJ7_canEncode_2 11 = .ok (.iconst 0, 1) := dk_3 (dk_at dksJ7_canEncode_2_0 11 rfl rfl)
theorem dJ7_canEncode_2_12 : decode cJ7_canEncode_2 12 = .ok (.ireturn, 1) := dk_172 (dk_at dksJ7_canEncode_2_0 12 rfl rfl)
theorem md_J7_canEncode_2 : xMd yJ7_canEncode_2 cJ7_canEncode_2 1 (Option.some Jvm.ClassFile.FieldType.boolean) 1 := ⟨q648, q134, by decide, by decide +kernel, by decide +kernel, by decide +kernel⟩
def f_J7_canEncode_2 (p0 : PH) (a0 : Int32) : Option (xO × PH) :=
  (if 255 < a0 then
  (if vp_nar .boolean 0 = 0 then rI 0 p0 else none) else
  (if vp_nar .boolean 1 = 1 then rI 1 p0 else none))
theorem f_J7_canEncode_2_ok {G : xG} (hO : xOK G) (p0 : PH) (a0 : Int32) : CT G 0 yJ7_canEncode_2 cJ7_canEncode_2 1 (Option.some Jvm.ClassFile.FieldType.boolean) [.int a0] p0 (f_J7_canEncode_2 p0 a0) := by
  refine CT_of hO (by decide +kernel) (by decide +kernel) (Nat.le_of_ble_eq_true rfl) ?_
  show X G "java/lang/StringLatin1" "canEncode" cJ7_canEncode_2 1 (Option.some Jvm.ClassFile.FieldType.boolean) 0 0 [(0, .int a0)] [] p0 (f_J7_canEncode_2 p0 a0)
  refine x_iload_n 0 dJ7_canEncode_2_0 rfl rfl (n := 1) rfl ?_
  refine x_sipush 255 dJ7_canEncode_2_1 rfl (n := 4) rfl ?_
  refine x_icmp_gt dJ7_canEncode_2_4 (t := 11) (by decide) (n := 7) rfl (fun _ => ?_) (fun _ => ?_)
  · refine x_iconst 0 dJ7_canEncode_2_11 rfl (n := 12) rfl ?_
    exact x_nreturn rfl dJ7_canEncode_2_12
  · refine x_iconst 1 dJ7_canEncode_2_7 rfl (n := 8) rfl ?_
    refine x_goto dJ7_canEncode_2_8 (n := 12) (by decide) ?_
    exact x_nreturn rfl dJ7_canEncode_2_12
abbrev cJ14_append : ByteArray := prog_16_method_31_code
def yJ14_append : MethodName := ⟨RJ14, "append", "(C)Ljava/lang/AbstractStringBuilder;"⟩
def dkwJ14_append_3 : List UInt8 := [181, 0, 79, 27, 184, 0, 197, 42, 176]
abbrev dktJ14_append_3 : List UInt8 := dkwJ14_append_3 ++ []
def dkwJ14_append_2 : List UInt8 := [182, 0, 83, 153, 0, 7, 42, 182, 0, 195, 42, 180, 0, 15, 42, 89, 180, 0, 79, 90, 4, 96]
abbrev dktJ14_append_2 : List UInt8 := dkwJ14_append_2 ++ dktJ14_append_3
def dkwJ14_append_1 : List UInt8 := [42, 180, 0, 15, 42, 89, 180, 0, 79, 90, 4, 96, 181, 0, 79, 27, 145, 84, 167, 0, 33, 42]
abbrev dktJ14_append_1 : List UInt8 := dkwJ14_append_1 ++ dktJ14_append_2
def dkwJ14_append_0 : List UInt8 := [42, 42, 180, 0, 79, 4, 96, 182, 0, 100, 42, 182, 0, 83, 153, 0, 31, 27, 184, 0, 191, 153, 0, 24]
abbrev dktJ14_append_0 : List UInt8 := dkwJ14_append_0 ++ dktJ14_append_1
theorem dksJ14_append_0 : cJ14_append.data.toList.drop 0 = dktJ14_append_0 := by decide +kernel
theorem dksJ14_append_1 : cJ14_append.data.toList.drop 24 = dktJ14_append_1 := dk_seg dksJ14_append_0 24 rfl rfl
theorem dksJ14_append_2 : cJ14_append.data.toList.drop 46 = dktJ14_append_2 := dk_seg dksJ14_append_1 22 rfl rfl
theorem dksJ14_append_3 : cJ14_append.data.toList.drop 68 = dktJ14_append_3 := dk_seg dksJ14_append_2 22 rfl rfl
theorem dJ14_append_0 : decode cJ14_append 0 = .ok (.aload_n 0, 1) := dk_42 (dk_at dksJ14_append_0 0 rfl rfl)
theorem dJ14_append_1 : decode cJ14_append 1 = .ok (.aload_n 0, 1) := dk_42 (dk_at dksJ14_append_0 1 rfl rfl)
theorem dJ14_append_2 : decode cJ14_append 2 = .ok (.getfield 79, 3) := dk_180 0 79 (dk_at dksJ14_append_0 2 rfl rfl)
theorem dJ14_append_5 : decode cJ14_append 5 = .ok (.iconst 1, 1) := dk_4 (dk_at dksJ14_append_0 5 rfl rfl)
theorem dJ14_append_6 : decode cJ14_append 6 = .ok (.iadd, 1) := dk_96 (dk_at dksJ14_append_0 6 rfl rfl)
theorem dJ14_append_7 : decode cJ14_append 7 = .ok (.invokevirtual 100, 3) := dk_182 0 100 (dk_at dksJ14_append_0 7 rfl rfl)
theorem dJ14_append_10 : decode cJ14_append 10 = .ok (.aload_n 0, 1) := dk_42 (dk_at dksJ14_append_0 10 rfl rfl)
theorem dJ14_append_11 : decode cJ14_append 11 = .ok (.invokevirtual 83, 3) := dk_182 0 83 (dk_at dksJ14_append_0 11 rfl rfl)
theorem dJ14_append_14 : decode cJ14_append 14 = .ok (.ifCond .eq 31, 3) := dk_153 0 31 (dk_at dksJ14_append_0 14 rfl rfl)
theorem dJ14_append_17 : decode cJ14_append 17 = .ok (.iload_n 1, 1) := dk_27 (dk_at dksJ14_append_0 17 rfl rfl)
theorem dJ14_append_18 : decode cJ14_append 18 = .ok (.invokestatic 191, 3) := dk_184 0 191 (dk_at dksJ14_append_0 18 rfl rfl)
theorem dJ14_append_21 : decode cJ14_append 21 = .ok (.ifCond .eq 24, 3) := dk_153 0 24 (dk_at dksJ14_append_0 21 rfl rfl)
theorem dJ14_append_24 : decode cJ14_append 24 = .ok (.aload_n 0, 1) := dk_42 (dk_at dksJ14_append_1 0 rfl rfl)
theorem dJ14_append_25 : decode cJ14_append 25 = .ok (.getfield 15, 3) := dk_180 0 15 (dk_at dksJ14_append_1 1 rfl rfl)
theorem dJ14_append_28 : decode cJ14_append 28 = .ok (.aload_n 0, 1) := dk_42 (dk_at dksJ14_append_1 4 rfl rfl)
theorem dJ14_append_29 : decode cJ14_append 29 = .ok (.dup, 1) := dk_89 (dk_at dksJ14_append_1 5 rfl rfl)
theorem dJ14_append_30 : decode cJ14_append 30 = .ok (.getfield 79, 3) := dk_180 0 79 (dk_at dksJ14_append_1 6 rfl rfl)
theorem dJ14_append_33 : decode cJ14_append 33 = .ok (.dup_x1, 1) := dk_90 (dk_at dksJ14_append_1 9 rfl rfl)
theorem dJ14_append_34 : decode cJ14_append 34 = .ok (.iconst 1, 1) := dk_4 (dk_at dksJ14_append_1 10 rfl rfl)
theorem dJ14_append_35 : decode cJ14_append 35 = .ok (.iadd, 1) := dk_96 (dk_at dksJ14_append_1 11 rfl rfl)
theorem dJ14_append_36 : decode cJ14_append 36 = .ok (.putfield 79, 3) := dk_181 0 79 (dk_at dksJ14_append_1 12 rfl rfl)
theorem dJ14_append_39 : decode cJ14_append 39 = .ok (.iload_n 1, 1) := dk_27 (dk_at dksJ14_append_1 15 rfl rfl)
theorem dJ14_append_40 : decode cJ14_append 40 = .ok (.i2b, 1) := dk_145 (dk_at dksJ14_append_1 16 rfl rfl)
theorem dJ14_append_41 : decode cJ14_append 41 = .ok (.bastore, 1) := dk_84 (dk_at dksJ14_append_1 17 rfl rfl)
theorem dJ14_append_42 : decode cJ14_append 42 = .ok (.goto 33, 3) := dk_167 0 33 (dk_at dksJ14_append_1 18 rfl rfl)
theorem dJ14_append_45 : decode cJ14_append 45 = .ok (.aload_n 0, 1) := dk_42 (dk_at dksJ14_append_1 21 rfl rfl)
theorem dJ14_append_46 : decode cJ14_append 46 = .ok (.invokevirtual 83, 3) := dk_182 0 83 (dk_at dksJ14_append_2 0 rfl rfl)
theorem dJ14_append_49 : decode cJ14_append 49 = .ok (.ifCond .eq 7, 3) := dk_153 0 7 (dk_at dksJ14_append_2 3 rfl rfl)
theorem dJ14_append_52 : decode cJ14_append 52 = .ok (.aload_n 0, 1) := dk_42 (dk_at dksJ14_append_2 6 rfl rfl)
theorem dJ14_append_53 : decode cJ14_append 53 = .ok (.invokevirtual 195, 3) := dk_182 0 195 (dk_at dksJ14_append_2 7 rfl rfl)
theorem dJ14_append_56 : decode cJ14_append 56 = .ok (.aload_n 0, 1) := dk_42 (dk_at dksJ14_append_2 10 rfl rfl)
theorem dJ14_append_57 : decode cJ14_append 57 = .ok (.getfield 15, 3) := dk_180 0 15 (dk_at dksJ14_append_2 11 rfl rfl)
theorem dJ14_append_60 : decode cJ14_append 60 = .ok (.aload_n 0, 1) := dk_42 (dk_at dksJ14_append_2 14 rfl rfl)
theorem dJ14_append_61 : decode cJ14_append 61 = .ok (.dup, 1) := dk_89 (dk_at dksJ14_append_2 15 rfl rfl)
theorem dJ14_append_62 : decode cJ14_append 62 = .ok (.getfield 79, 3) := dk_180 0 79 (dk_at dksJ14_append_2 16 rfl rfl)
theorem dJ14_append_65 : decode cJ14_append 65 = .ok (.dup_x1, 1) := dk_90 (dk_at dksJ14_append_2 19 rfl rfl)
theorem dJ14_append_66 : decode cJ14_append 66 = .ok (.iconst 1, 1) := dk_4 (dk_at dksJ14_append_2 20 rfl rfl)
theorem dJ14_append_67 : decode cJ14_append 67 = .ok (.iadd, 1) := dk_96 (dk_at dksJ14_append_2 21 rfl rfl)
theorem dJ14_append_68 : decode cJ14_append 68 = .ok (.putfield 79, 3) := dk_181 0 79 (dk_at dksJ14_append_3 0 rfl rfl)
theorem dJ14_append_71 : decode cJ14_append 71 = .ok (.iload_n 1, 1) := dk_27 (dk_at dksJ14_append_3 3 rfl rfl)
theorem dJ14_append_72 : decode cJ14_append 72 = .ok (.invokestatic 197, 3) := dk_184 0 197 (dk_at dksJ14_append_3 4 rfl rfl)
theorem dJ14_append_75 : decode cJ14_append 75 = .ok (.aload_n 0, 1) := dk_42 (dk_at dksJ14_append_3 7 rfl rfl)
theorem dJ14_append_76 : decode cJ14_append 76 = .ok (.areturn, 1) := dk_176 (dk_at dksJ14_append_3 8 rfl rfl)
theorem md_J14_append : xMd yJ14_append cJ14_append 2 (Option.some (Jvm.ClassFile.FieldType.object "java/lang/AbstractStringBuilder")) 1 := ⟨q609, q142, by decide, by decide +kernel, by decide +kernel, by decide +kernel⟩
def f_J14_append_56 (a0 : Nat)  (v1 : Int32) (p0 : PH) : Option (xO × PH) :=
  (xgR p0 a0 17 0 fun x7 =>
  (xgI p0 a0 17 3 fun x8 =>
  (xpF p0 a0 17 3 (.int (x8 + 1)) fun p9 =>
  none)))
def f_J14_append_45 (a0 : Nat)  (v1 : Int32) (p0 : PH) : Option (xO × PH) :=
  (xcI (f_J14_isLatin1 p0 a0 ) fun x6 p5 =>
  (if x6 = 0 then
  (f_J14_append_56 a0 v1 p5) else
  none))
def f_J14_append (p0 : PH) (a0 : Nat) (a1 : Int32) : Option (xO × PH) :=
  (xcl1 p0 a0 17 (xgI p0 a0 17 3 fun x1 =>
  (xcV (f_J14_ensureCapacityInternal p0 a0 (x1 + 1)) fun p2 =>
  (xcI (f_J14_isLatin1 p2 a0 ) fun x4 p3 =>
  (if x4 = 0 then
  (f_J14_append_45 a0 a1 p3) else
  (xcI (f_J7_canEncode_2 p3 a1) fun x11 p10 =>
  (if x11 = 0 then
  (f_J14_append_45 a0 a1 p10) else
  (xgR p10 a0 17 0 fun x12 =>
  (xgI p10 a0 17 3 fun x13 =>
  (xpF p10 a0 17 3 (.int (x13 + 1)) fun p14 =>
  (xnul x12 none fun b15 =>
  (xsI p14 b15 2 x13 (vp_nar .byte a1.toInt8.toInt32) fun p16 =>
  (rR (some a0) p16)))))))))))))
theorem rc_J14_append {p0 : PH} {a0 : Nat} {a1 : Int32} : ∀ z, f_J14_append p0 a0 a1 = some z → xco p0 a0 = some 17 := fun z h => xcl1_some h
theorem f_J14_append_56_ok {G : xG} (hO : xOK G) (a0 : Nat)  (v1 : Int32) (p0 : PH) : X G "java/lang/AbstractStringBuilder" "append" cJ14_append 2 (Option.some (Jvm.ClassFile.FieldType.object "java/lang/AbstractStringBuilder")) 4 56 [(0, .ref a0), (1, .int v1)] [] p0 (f_J14_append_56 a0 v1 p0) := by
  unfold f_J14_append_56
  refine x_aload_nr 0 dJ14_append_56 rfl rfl (n := 57) rfl ?_
  refine x_getR fl_J14_15 dJ14_append_57 (n := 60) rfl (fun x7 => ?_)
  refine x_aload_nr 0 dJ14_append_60 rfl rfl (n := 61) rfl ?_
  refine x_dup dJ14_append_61 rfl (n := 62) rfl ?_
  refine x_getI fl_J14_79 dJ14_append_62 (n := 65) rfl (fun x8 => ?_)
  refine x_dup_x1 dJ14_append_65 rfl rfl (n := 66) rfl ?_
  refine x_iconst 1 dJ14_append_66 rfl (n := 67) rfl ?_
  refine x_iadd dJ14_append_67 (n := 68) rfl ?_
  refine x_pF (pl_J14_79 _ _ ⟨rfl, rfl⟩) dJ14_append_68 (n := 71) rfl (fun p9 => ?_)
  refine x_iload_n 1 dJ14_append_71 rfl rfl (n := 72) rfl ?_
  exact x_no
theorem f_J14_append_45_ok {G : xG} (hO : xOK G) (a0 : Nat)  (v1 : Int32) (p0 : PH) : X G "java/lang/AbstractStringBuilder" "append" cJ14_append 2 (Option.some (Jvm.ClassFile.FieldType.object "java/lang/AbstractStringBuilder")) 4 45 [(0, .ref a0), (1, .int v1)] [] p0 (f_J14_append_45 a0 v1 p0) := by
  unfold f_J14_append_45
  refine x_aload_nr 0 dJ14_append_45 rfl rfl (n := 46) rfl ?_
  refine x_callV_I [] [] (f_J14_isLatin1_ok hO p0 a0 ) rc_J14_isLatin1 md_J14_isLatin1 rfl q641 q642 q644 dJ14_append_46 rfl rfl (by decide) (Nat.le_of_ble_eq_true rfl) (n := 49) rfl (fun x6 p5 => ?_)
  refine x_if_eq dJ14_append_49 (t := 56) (by decide) (n := 52) rfl (fun _ => ?_) (fun _ => ?_)
  · exact f_J14_append_56_ok hO a0 v1 p5
  · refine x_aload_nr 0 dJ14_append_52 rfl rfl (n := 53) rfl ?_
    exact x_no
theorem f_J14_append_ok {G : xG} (hO : xOK G) (p0 : PH) (a0 : Nat) (a1 : Int32) : CT G 4 yJ14_append cJ14_append 2 (Option.some (Jvm.ClassFile.FieldType.object "java/lang/AbstractStringBuilder")) [.ref a0, .int a1] p0 (f_J14_append p0 a0 a1) := by
  refine CT_of hO (by decide +kernel) (by decide +kernel) (Nat.le_of_ble_eq_true rfl) ?_
  show X G "java/lang/AbstractStringBuilder" "append" cJ14_append 2 (Option.some (Jvm.ClassFile.FieldType.object "java/lang/AbstractStringBuilder")) 4 0 [(0, .ref a0), (1, .int a1)] [] p0 (f_J14_append p0 a0 a1)
  refine x_cl1 (fun e0 => ?_)
  refine x_aload_nr 0 dJ14_append_0 rfl rfl (n := 1) rfl ?_
  refine x_aload_nr 0 dJ14_append_1 rfl rfl (n := 2) rfl ?_
  refine x_getI fl_J14_79 dJ14_append_2 (n := 5) rfl (fun x1 => ?_)
  refine x_iconst 1 dJ14_append_5 rfl (n := 6) rfl ?_
  refine x_iadd dJ14_append_6 (n := 7) rfl ?_
  refine x_callP_V [.int (x1 + 1)] [] (f_J14_ensureCapacityInternal_ok hO p0 a0 (x1 + 1)) rc_J14_ensureCapacityInternal md_J14_ensureCapacityInternal rfl q610 q3477 q611 q612 dJ14_append_7 rfl rfl (by decide) (Nat.le_of_ble_eq_true rfl) (n := 10) rfl (fun p2 => ?_)
  refine x_aload_nr 0 dJ14_append_10 rfl rfl (n := 11) rfl ?_
  refine x_callV_I [] [] (f_J14_isLatin1_ok hO p2 a0 ) rc_J14_isLatin1 md_J14_isLatin1 rfl q641 q642 q644 dJ14_append_11 rfl rfl (by decide) (Nat.le_of_ble_eq_true rfl) (n := 14) rfl (fun x4 p3 => ?_)
  refine x_if_eq dJ14_append_14 (t := 45) (by decide) (n := 17) rfl (fun _ => ?_) (fun _ => ?_)
  · exact f_J14_append_45_ok hO a0 a1 p3
  · refine x_iload_n 1 dJ14_append_17 rfl rfl (n := 18) rfl ?_
    refine x_callS_I [.int a1] [] (f_J7_canEncode_2_ok hO p3 a1) md_J7_canEncode_2 q646 q647 dJ14_append_18 rfl rfl (by decide) (Nat.le_of_ble_eq_true rfl) (n := 21) rfl (fun x11 p10 => ?_)
    refine x_if_eq dJ14_append_21 (t := 45) (by decide) (n := 24) rfl (fun _ => ?_) (fun _ => ?_)
    · exact f_J14_append_45_ok hO a0 a1 p10
    · refine x_aload_nr 0 dJ14_append_24 rfl rfl (n := 25) rfl ?_
      refine x_getR fl_J14_15 dJ14_append_25 (n := 28) rfl (fun x12 => ?_)
      refine x_aload_nr 0 dJ14_append_28 rfl rfl (n := 29) rfl ?_
      refine x_dup dJ14_append_29 rfl (n := 30) rfl ?_
      refine x_getI fl_J14_79 dJ14_append_30 (n := 33) rfl (fun x13 => ?_)
      refine x_dup_x1 dJ14_append_33 rfl rfl (n := 34) rfl ?_
      refine x_iconst 1 dJ14_append_34 rfl (n := 35) rfl ?_
      refine x_iadd dJ14_append_35 (n := 36) rfl ?_
      refine x_pF (pl_J14_79 _ _ ⟨rfl, rfl⟩) dJ14_append_36 (n := 39) rfl (fun p14 => ?_)
      refine x_iload_n 1 dJ14_append_39 rfl rfl (n := 40) rfl ?_
      refine x_i2b dJ14_append_40 (n := 41) rfl ?_
      refine x_sm (fun b15 e => ?_)
      subst e
      refine x_bast (t := 2) rfl dJ14_append_41 (n := 42) rfl (fun p16 => ?_)
      refine x_goto dJ14_append_42 (n := 75) (by decide) ?_
      refine x_aload_nr 0 dJ14_append_75 rfl rfl (n := 76) rfl ?_
      exact x_areturn (x := some a0) (Or.inl ⟨_, rfl⟩) dJ14_append_76
abbrev cJ15_append : ByteArray := prog_32_method_14_code
def yJ15_append : MethodName := ⟨RJ15, "append", "(C)Ljava/lang/StringBuilder;"⟩
def dkwJ15_append_0 : List UInt8 := [42, 27, 183, 0, 50, 87, 42, 176]
abbrev dktJ15_append_0 : List UInt8 := dkwJ15_append_0 ++ []
theorem dksJ15_append_0 : cJ15_append.data.toList.drop 0 = dktJ15_append_0 := by decide +kernel
theorem dJ15_append_0 : decode cJ15_append 0 = .ok (.aload_n 0, 1) := dk_42 (dk_at dksJ15_append_0 0 rfl rfl)
theorem dJ15_append_1 : decode cJ15_append 1 = .ok (.iload_n 1, 1) := dk_27 (dk_at dksJ15_append_0 1 rfl rfl)
theorem dJ15_append_2 : decode cJ15_append 2 = .ok (.invokespecial 50, 3) := dk_183 0 50 (dk_at dksJ15_append_0 2 rfl rfl)
theorem dJ15_append_5 : decode cJ15_append 5 = .ok (.pop, 1) := dk_87 (dk_at dksJ15_append_0 5 rfl rfl)
theorem dJ15_append_6 : decode cJ15_append 6 = .ok (.aload_n 0, 1) := dk_42 (dk_at dksJ15_append_0 6 rfl rfl)
theorem dJ15_append_7 : decode cJ15_append 7 = .ok (.areturn, 1) := dk_176 (dk_at dksJ15_append_0 7 rfl rfl)
theorem md_J15_append : xMd yJ15_append cJ15_append 2 (Option.some (Jvm.ClassFile.FieldType.object "java/lang/StringBuilder")) 1 := ⟨q606, q143, by decide, by decide +kernel, by decide +kernel, by decide +kernel⟩
def f_J15_append (p0 : PH) (a0 : Nat) (a1 : Int32) : Option (xO × PH) :=
  (xcl1 p0 a0 17 (xcR (f_J14_append p0 a0 a1) fun x2 p1 =>
  (rR (some a0) p1)))
theorem rc_J15_append {p0 : PH} {a0 : Nat} {a1 : Int32} : ∀ z, f_J15_append p0 a0 a1 = some z → xco p0 a0 = some 17 := fun z h => xcl1_some h
theorem f_J15_append_ok {G : xG} (hO : xOK G) (p0 : PH) (a0 : Nat) (a1 : Int32) : CT G 5 yJ15_append cJ15_append 2 (Option.some (Jvm.ClassFile.FieldType.object "java/lang/StringBuilder")) [.ref a0, .int a1] p0 (f_J15_append p0 a0 a1) := by
  refine CT_of hO (by decide +kernel) (by decide +kernel) (Nat.le_of_ble_eq_true rfl) ?_
  show X G "java/lang/StringBuilder" "append" cJ15_append 2 (Option.some (Jvm.ClassFile.FieldType.object "java/lang/StringBuilder")) 5 0 [(0, .ref a0), (1, .int a1)] [] p0 (f_J15_append p0 a0 a1)
  refine x_cl1 (fun e0 => ?_)
  refine x_aload_nr 0 dJ15_append_0 rfl rfl (n := 1) rfl ?_
  refine x_iload_n 1 dJ15_append_1 rfl rfl (n := 2) rfl ?_
  refine x_callSU_R [.int a1] [] (f_J14_append_ok hO p0 a0 a1) rc_J14_append md_J14_append rfl q607 q3476 q602 (by decide) q608 dJ15_append_2 rfl rfl (by decide) (Nat.le_of_ble_eq_true rfl) (n := 5) rfl (fun x2 p1 => ?_)
  refine x_pop dJ15_append_5 (xcat _) (n := 6) rfl ?_
  refine x_aload_nr 0 dJ15_append_6 rfl rfl (n := 7) rfl ?_
  exact x_areturn (x := some a0) (Or.inl ⟨_, rfl⟩) dJ15_append_7
abbrev cJ14_getValue : ByteArray := prog_16_method_64_code
def yJ14_getValue : MethodName := ⟨RJ14, "getValue", "()[B"⟩
theorem dJ14_getValue_0 : decode cJ14_getValue 0 = .ok (.aload_n 0, 1) := by decide +kernel
theorem dJ14_getValue_1 : decode cJ14_getValue 1 = .ok (.getfield 15, 3) := by decide +kernel
theorem dJ14_getValue_4 : decode cJ14_getValue 4 = .ok (.areturn, 1) := by decide +kernel
theorem md_J14_getValue : xMd yJ14_getValue cJ14_getValue 1 (Option.some (Jvm.ClassFile.FieldType.array Jvm.ClassFile.FieldType.byte)) 0 := ⟨q700, q142, by decide, by decide +kernel, by decide +kernel, by decide +kernel⟩
def f_J14_getValue (p0 : PH) (a0 : Nat) : Option (xO × PH) :=
  (xcl1 p0 a0 17 (xgR p0 a0 17 0 fun x1 =>
  (rR x1 p0)))
theorem rc_J14_getValue {p0 : PH} {a0 : Nat} : ∀ z, f_J14_getValue p0 a0 = some z → xco p0 a0 = some 17 := fun z h => xcl1_some h
theorem f_J14_getValue_ok {G : xG} (hO : xOK G) (p0 : PH) (a0 : Nat) : CT G 0 yJ14_getValue cJ14_getValue 1 (Option.some (Jvm.ClassFile.FieldType.array Jvm.ClassFile.FieldType.byte)) [.ref a0] p0 (f_J14_getValue p0 a0) := by
  refine CT_of hO (by decide +kernel) (by decide +kernel) (Nat.le_of_ble_eq_true rfl) ?_
  show X G "java/lang/AbstractStringBuilder" "getValue" cJ14_getValue 1 (Option.some (Jvm.ClassFile.FieldType.array Jvm.ClassFile.FieldType.byte)) 0 0 [(0, .ref a0)] [] p0 (f_J14_getValue p0 a0)
  refine x_cl1 (fun e0 => ?_)
  refine x_aload_nr 0 dJ14_getValue_0 rfl rfl (n := 1) rfl ?_
  refine x_getR fl_J14_15 dJ14_getValue_1 (n := 4) rfl (fun x1 => ?_)
  exact x_areturn (x := x1) (Or.inr ⟨_, rfl⟩) dJ14_getValue_4
abbrev cJ14_length : ByteArray := prog_16_method_6_code
def yJ14_length : MethodName := ⟨RJ14, "length", "()I"⟩
theorem dJ14_length_0 : decode cJ14_length 0 = .ok (.aload_n 0, 1) := by decide +kernel
theorem dJ14_length_1 : decode cJ14_length 1 = .ok (.getfield 79, 3) := by decide +kernel
theorem dJ14_length_4 : decode cJ14_length 4 = .ok (.ireturn, 1) := by decide +kernel
theorem md_J14_length : xMd yJ14_length cJ14_length 1 (Option.some Jvm.ClassFile.FieldType.int) 0 := ⟨q708, q142, by decide, by decide +kernel, by decide +kernel, by decide +kernel⟩
def f_J14_length (p0 : PH) (a0 : Nat) : Option (xO × PH) :=
  (xcl1 p0 a0 17 (xgI p0 a0 17 3 fun x1 =>
  (rI x1 p0)))
theorem rc_J14_length {p0 : PH} {a0 : Nat} : ∀ z, f_J14_length p0 a0 = some z → xco p0 a0 = some 17 := fun z h => xcl1_some h
theorem f_J14_length_ok {G : xG} (hO : xOK G) (p0 : PH) (a0 : Nat) : CT G 0 yJ14_length cJ14_length 1 (Option.some Jvm.ClassFile.FieldType.int) [.ref a0] p0 (f_J14_length p0 a0) := by
  refine CT_of hO (by decide +kernel) (by decide +kernel) (Nat.le_of_ble_eq_true rfl) ?_
  show X G "java/lang/AbstractStringBuilder" "length" cJ14_length 1 (Option.some Jvm.ClassFile.FieldType.int) 0 0 [(0, .ref a0)] [] p0 (f_J14_length p0 a0)
  refine x_cl1 (fun e0 => ?_)
  refine x_aload_nr 0 dJ14_length_0 rfl rfl (n := 1) rfl ?_
  refine x_getI fl_J14_79 dJ14_length_1 (n := 4) rfl (fun x1 => ?_)
  exact x_ireturn dJ14_length_4
abbrev cJ15_length : ByteArray := prog_32_method_93_code
def yJ15_length : MethodName := ⟨RJ15, "length", "()I"⟩
theorem dJ15_length_0 : decode cJ15_length 0 = .ok (.aload_n 0, 1) := by decide +kernel
theorem dJ15_length_1 : decode cJ15_length 1 = .ok (.invokespecial 343, 3) := by decide +kernel
theorem dJ15_length_4 : decode cJ15_length 4 = .ok (.ireturn, 1) := by decide +kernel
theorem md_J15_length : xMd yJ15_length cJ15_length 1 (Option.some Jvm.ClassFile.FieldType.int) 0 := ⟨q706, q143, by decide, by decide +kernel, by decide +kernel, by decide +kernel⟩
def f_J15_length (p0 : PH) (a0 : Nat) : Option (xO × PH) :=
  (xcl1 p0 a0 17 (xcI (f_J14_length p0 a0 ) fun x2 p1 =>
  (rI x2 p1)))
theorem rc_J15_length {p0 : PH} {a0 : Nat} : ∀ z, f_J15_length p0 a0 = some z → xco p0 a0 = some 17 := fun z h => xcl1_some h
theorem f_J15_length_ok {G : xG} (hO : xOK G) (p0 : PH) (a0 : Nat) : CT G 1 yJ15_length cJ15_length 1 (Option.some Jvm.ClassFile.FieldType.int) [.ref a0] p0 (f_J15_length p0 a0) := by
  refine CT_of hO (by decide +kernel) (by decide +kernel) (Nat.le_of_ble_eq_true rfl) ?_
  show X G "java/lang/StringBuilder" "length" cJ15_length 1 (Option.some Jvm.ClassFile.FieldType.int) 1 0 [(0, .ref a0)] [] p0 (f_J15_length p0 a0)
  refine x_cl1 (fun e0 => ?_)
  refine x_aload_nr 0 dJ15_length_0 rfl rfl (n := 1) rfl ?_
  refine x_callSU_I [] [] (f_J14_length_ok hO p0 a0 ) rc_J14_length md_J14_length rfl q707 q703 q602 (by decide) q702 dJ15_length_1 rfl rfl (by decide) (Nat.le_of_ble_eq_true rfl) (n := 4) rfl (fun x2 p1 => ?_)
  exact x_ireturn dJ15_length_4
abbrev cJ17_checkLength : ByteArray := prog_50_method_131_code
def yJ17_checkLength : MethodName := ⟨RJ17, "checkLength", "(II)V"⟩
def dkwJ17_checkLength_1 : List UInt8 := [182, 0, 50, 27, 182, 0, 54, 182, 0, 61, 183, 0, 65, 191, 177]
abbrev dktJ17_checkLength_1 : List UInt8 := dkwJ17_checkLength_1 ++ []
def dkwJ17_checkLength_0 : List UInt8 := [27, 26, 162, 0, 35, 187, 0, 43, 89, 187, 0, 45, 89, 183, 0, 47, 26, 182, 0, 54, 19, 1, 81]
abbrev dktJ17_checkLength_0 : List UInt8 := dkwJ17_checkLength_0 ++ dktJ17_checkLength_1
theorem dksJ17_checkLength_0 : cJ17_checkLength.data.toList.drop 0 = dktJ17_checkLength_0 := by decide +kernel
theorem dksJ17_checkLength_1 : cJ17_checkLength.data.toList.drop 23 = dktJ17_checkLength_1 := dk_seg dksJ17_checkLength_0 23 rfl rfl
theorem dJ17_checkLength_0 : decode cJ17_checkLength 0 = .ok (.iload_n 1, 1) := dk_27 (dk_at dksJ17_checkLength_0 0 rfl rfl)
theorem dJ17_checkLength_1 : decode cJ17_checkLength 1 = .ok (.iload_n 0, 1) := dk_26 (dk_at dksJ17_checkLength_0 1 rfl rfl)
theorem dJ17_checkLength_2 : decode cJ17_checkLength 2 = .ok (.if_icmp .ge 35, 3) := dk_162 0 35 (dk_at dksJ17_checkLength_0 2 rfl rfl)
theorem dJ17_checkLength_5 : decode cJ17_checkLength 5 = .ok (.new 43, 3) := dk_187 0 43 (dk_at dksJ17_checkLength_0 5 rfl rfl)
theorem dJ17_checkLength_8 : decode cJ17_checkLength 8 = .ok (.dup, 1) := dk_89 (dk_at dksJ17_checkLength_0 8 rfl rfl)
theorem dJ17_checkLength_9 : decode cJ17_checkLength 9 = .ok (.new 45, 3) := dk_187 0 45 (dk_at dksJ17_checkLength_0 9 rfl rfl)
theorem dJ17_checkLength_12 : decode cJ17_checkLength 12 = .ok (.dup, 1) := dk_89 (dk_at dksJ17_checkLength_0 12 rfl rfl)
theorem dJ17_checkLength_13 : decode cJ17_checkLength 13 = .ok (.invokespecial 47, 3) := dk_183 0 47 (dk_at dksJ17_checkLength_0 13 rfl rfl)
theorem dJ17_checkLength_16 : decode cJ17_checkLength 16 = .ok (.iload_n 0, 1) := dk_26 (dk_at dksJ17_checkLength_0 16 rfl rfl)
theorem dJ17_checkLength_17 : decode cJ17_checkLength 17 = .ok (.invokevirtual 54, 3) := dk_182 0 54 (dk_at dksJ17_checkLength_0 17 rfl rfl)
theorem dJ17_checkLength_20 : decode cJ17_checkLength 20 = .ok (.ldc_w 337, 3) := dk_19 1 81 (dk_at dksJ17_checkLength_0 20 rfl rfl)
theorem dJ17_checkLength_23 : decode cJ17_checkLength 23 = .ok (.invokevirtual 50, 3) := dk_182 0 50 (dk_at dksJ17_checkLength_1 0 rfl rfl)
theorem dJ17_checkLength_26 : decode cJ17_checkLength 26 = .ok (.iload_n 1, 1) := dk_27 (dk_at dksJ17_checkLength_1 3 rfl rfl)
theorem dJ17_checkLength_27 : decode cJ17_checkLength 27 = .ok (.invokevirtual 54, 3) := dk_182 0 54 (dk_at dksJ17_checkLength_1 4 rfl rfl)
theorem dJ17_checkLength_30 : decode cJ17_checkLength 30 = .ok (.invokevirtual 61, 3) := dk_182 0 61 (dk_at dksJ17_checkLength_1 7 rfl rfl)
theorem dJ17_checkLength_33 : decode cJ17_checkLength 33 = .ok (.invokespecial 65, 3) := dk_183 0 65 (dk_at dksJ17_checkLength_1 10 rfl rfl)
theorem dJ17_checkLength_36 : decode cJ17_checkLength 36 = .ok (.athrow, 1) := dk_191 (dk_at dksJ17_checkLength_1 13 rfl rfl)
theorem dJ17_checkLength_37 : decode cJ17_checkLength 37 = .ok (.return_, 1) := dk_177 (dk_at dksJ17_checkLength_1 14 rfl rfl)
theorem md_J17_checkLength : xMd yJ17_checkLength cJ17_checkLength 2 (Option.none : Option Jvm.ClassFile.FieldType) 2 := ⟨q718, q145, by decide, by decide +kernel, by decide +kernel, by decide +kernel⟩
def f_J17_checkLength (p0 : PH) (a0 : Int32) (a1 : Int32) : Option (xO × PH) :=
  (if a0 ≤ a1 then
  (rV p0) else
  none)
theorem f_J17_checkLength_ok {G : xG} (hO : xOK G) (p0 : PH) (a0 : Int32) (a1 : Int32) : CT G 0 yJ17_checkLength cJ17_checkLength 2 (Option.none : Option Jvm.ClassFile.FieldType) [.int a0, .int a1] p0 (f_J17_checkLength p0 a0 a1) := by
  refine CT_of hO (by decide +kernel) (by decide +kernel) (Nat.le_of_ble_eq_true rfl) ?_
  show X G "java/util/Arrays" "checkLength" cJ17_checkLength 2 (Option.none : Option Jvm.ClassFile.FieldType) 0 0 [(0, .int a0), (1, .int a1)] [] p0 (f_J17_checkLength p0 a0 a1)
  refine x_iload_n 1 dJ17_checkLength_0 rfl rfl (n := 1) rfl ?_
  refine x_iload_n 0 dJ17_checkLength_1 rfl rfl (n := 2) rfl ?_
  refine x_icmp_ge dJ17_checkLength_2 (t := 37) (by decide) (n := 5) rfl (fun _ => ?_) (fun _ => ?_)
  · exact x_return dJ17_checkLength_37
  · exact x_no
abbrev cJ17_copyOfRangeByte : ByteArray := prog_50_method_133_code
def yJ17_copyOfRangeByte : MethodName := ⟨RJ17, "copyOfRangeByte", "([BII)[B"⟩
def dkwJ17_copyOfRangeByte_1 : List UInt8 := [184, 1, 48, 184, 0, 150, 25, 4, 176]
abbrev dktJ17_copyOfRangeByte_1 : List UInt8 := dkwJ17_copyOfRangeByte_1 ++ []
def dkwJ17_copyOfRangeByte_0 : List UInt8 := [27, 28, 184, 1, 87, 28, 27, 100, 62, 29, 188, 8, 58, 4, 42, 27, 25, 4, 3, 42, 190, 27, 100, 29]
abbrev dktJ17_copyOfRangeByte_0 : List UInt8 := dkwJ17_copyOfRangeByte_0 ++ dktJ17_copyOfRangeByte_1
theorem dksJ17_copyOfRangeByte_0 : cJ17_copyOfRangeByte.data.toList.drop 0 = dktJ17_copyOfRangeByte_0 := by decide +kernel
theorem dksJ17_copyOfRangeByte_1 : cJ17_copyOfRangeByte.data.toList.drop 24 = dktJ17_copyOfRangeByte_1 := dk_seg dksJ17_copyOfRangeByte_0 24 rfl rfl
theorem dJ17_copyOfRangeByte_0 : decode cJ17_copyOfRangeByte 0 = .ok (.iload_n 1, 1) := dk_27 (dk_at dksJ17_copyOfRangeByte_0 0 rfl rfl)
theorem dJ17_copyOfRangeByte_1 : decode cJ17_copyOfRangeByte 1 = .ok (.iload_n 2, 1) := dk_28 (dk_at dksJ17_copyOfRangeByte_0 1 rfl rfl)
theorem dJ17_copyOfRangeByte_2 : decode cJ17_copyOfRangeByte 2 = .ok (.invokestatic 343, 3) := dk_184 1 87 (dk_at dksJ17_copyOfRangeByte_0 2 rfl rfl)
theorem dJ17_copyOfRangeByte_5 : decode cJ17_copyOfRangeByte 5 = .ok (.iload_n 2, 1) := dk_28 (dk_at dksJ17_copyOfRangeByte_0 5 rfl rfl)
theorem dJ17_copyOfRangeByte_6 : decode cJ17_copyOfRangeByte 6 = .ok (.iload_n 1, 1) := dk_27 (dk_at dksJ17_copyOfRangeByte_0 6 rfl rfl)
theorem dJ17_copyOfRangeByte_7 : decode cJ17_copyOfRangeByte 7 = .ok (.isub, 1) := dk_100 (dk_at dksJ17_copyOfRangeByte_0 7 rfl rfl)
theorem dJ17_copyOfRangeByte_8 : decode cJ17_copyOfRangeByte 8 = .ok (.istore_n 3, 1) := dk_62 (dk_at dksJ17_copyOfRangeByte_0 8 rfl rfl)
theorem dJ17_copyOfRangeByte_9 : decode cJ17_copyOfRangeByte 9 = .ok (.iload_n 3, 1) := dk_29 (dk_at dksJ17_copyOfRangeByte_0 9 rfl rfl)
theorem dJ17_copyOfRangeByte_10 : decode cJ17_copyOfRangeByte 10 = .ok (.newarray .byte, 2) := dk_188_8 (dk_at dksJ17_copyOfRangeByte_0 10 rfl rfl)
theorem dJ17_copyOfRangeByte_12 : decode cJ17_copyOfRangeByte 12 = .ok (.astore 4, 2) := dk_58 4 (dk_at dksJ17_copyOfRangeByte_0 12 rfl rfl)
theorem dJ17_copyOfRangeByte_14 : decode cJ17_copyOfRangeByte 14 = .ok (.aload_n 0, 1) := dk_42 (dk_at dksJ17_copyOfRangeByte_0 14 rfl rfl)
theorem dJ17_copyOfRangeByte_15 : decode cJ17_copyOfRangeByte 15 = .ok (.iload_n 1, 1) := dk_27 (dk_at dksJ17_copyOfRangeByte_0 15 rfl rfl)
theorem dJ17_copyOfRangeByte_16 : decode cJ17_copyOfRangeByte 16 = .ok (.aload 4, 2) := dk_25 4 (dk_at dksJ17_copyOfRangeByte_0 16 rfl rfl)
theorem dJ17_copyOfRangeByte_18 : decode cJ17_copyOfRangeByte 18 = .ok (.iconst 0, 1) := dk_3 (dk_at dksJ17_copyOfRangeByte_0 18 rfl rfl)
theorem dJ17_copyOfRangeByte_19 : decode cJ17_copyOfRangeByte 19 = .ok (.aload_n 0, 1) := dk_42 (dk_at dksJ17_copyOfRangeByte_0 19 rfl rfl)
theorem dJ17_copyOfRangeByte_20 : decode cJ17_copyOfRangeByte 20 = .ok (.arraylength, 1) := dk_190 (dk_at dksJ17_copyOfRangeByte_0 20 rfl rfl)
theorem dJ17_copyOfRangeByte_21 : decode cJ17_copyOfRangeByte 21 = .ok (.iload_n 1, 1) := dk_27 (dk_at dksJ17_copyOfRangeByte_0 21 rfl rfl)
theorem dJ17_copyOfRangeByte_22 : decode cJ17_copyOfRangeByte 22 = .ok (.isub, 1) := dk_100 (dk_at dksJ17_copyOfRangeByte_0 22 rfl rfl)
theorem dJ17_copyOfRangeByte_23 : decode cJ17_copyOfRangeByte 23 = .ok (.iload_n 3, 1) := dk_29 (dk_at dksJ17_copyOfRangeByte_0 23 rfl rfl)
theorem dJ17_copyOfRangeByte_24 : decode cJ17_copyOfRangeByte 24 = .ok (.invokestatic 304, 3) := dk_184 1 48 (dk_at dksJ17_copyOfRangeByte_1 0 rfl rfl)
theorem dJ17_copyOfRangeByte_27 : decode cJ17_copyOfRangeByte 27 = .ok (.invokestatic 150, 3) := dk_184 0 150 (dk_at dksJ17_copyOfRangeByte_1 3 rfl rfl)
theorem dJ17_copyOfRangeByte_30 : decode cJ17_copyOfRangeByte 30 = .ok (.aload 4, 2) := dk_25 4 (dk_at dksJ17_copyOfRangeByte_1 6 rfl rfl)
theorem dJ17_copyOfRangeByte_32 : decode cJ17_copyOfRangeByte 32 = .ok (.areturn, 1) := dk_176 (dk_at dksJ17_copyOfRangeByte_1 8 rfl rfl)
theorem md_J17_copyOfRangeByte : xMd yJ17_copyOfRangeByte cJ17_copyOfRangeByte 5 (Option.some (Jvm.ClassFile.FieldType.array Jvm.ClassFile.FieldType.byte)) 3 := ⟨q715, q145, by decide, by decide +kernel, by decide +kernel, by decide +kernel⟩
def f_J17_copyOfRangeByte (p0 : PH) (a0 : Option Nat) (a1 : Int32) (a2 : Int32) : Option (xO × PH) :=
  (xcV (f_J17_checkLength p0 a1 a2) fun p1 =>
  (bnd (a2 - a1) fun x2 =>
  (xnaI p1 2 x2 fun b3 p4 =>
  (xnul a0 none fun b5 =>
  (xlen p4 b5 fun x6 =>
  (xcI (f_J8_min p4 (x6 - a1) x2) fun x8 p7 =>
  (xcpB p7 b5 b3 a1 0 x8 fun p9 =>
  (rR (some b3) p9))))))))
theorem f_J17_copyOfRangeByte_ok {G : xG} (hO : xOK G) (p0 : PH) (a0 : Option Nat) (a1 : Int32) (a2 : Int32) : CT G 1 yJ17_copyOfRangeByte cJ17_copyOfRangeByte 5 (Option.some (Jvm.ClassFile.FieldType.array Jvm.ClassFile.FieldType.byte)) [va_rf a0, .int a1, .int a2] p0 (f_J17_copyOfRangeByte p0 a0 a1 a2) := by
  refine CT_of hO (by decide +kernel) (by decide +kernel) (lg_slen _ (by simp only [List.map, xcat]; exact Nat.le_of_ble_eq_true rfl)) ?_
  rw [show lv_args 0 [va_rf a0, .int a1, .int a2] = [(0, va_rf a0), (1, .int a1), (2, .int a2)] from by simp only [lv_args, xcat] <;> rfl]
  show X G "java/util/Arrays" "copyOfRangeByte" cJ17_copyOfRangeByte 5 (Option.some (Jvm.ClassFile.FieldType.array Jvm.ClassFile.FieldType.byte)) 1 0 [(0, va_rf a0), (1, .int a1), (2, .int a2)] [] p0 (f_J17_copyOfRangeByte p0 a0 a1 a2)
  refine x_iload_n 1 dJ17_copyOfRangeByte_0 rfl rfl (n := 1) rfl ?_
  refine x_iload_n 2 dJ17_copyOfRangeByte_1 rfl rfl (n := 2) rfl ?_
  refine x_callS_V [.int a1, .int a2] [] (f_J17_checkLength_ok hO p0 a1 a2) md_J17_checkLength q716 q717 dJ17_copyOfRangeByte_2 rfl rfl (by decide) (Nat.le_of_ble_eq_true rfl) (n := 5) rfl (fun p1 => ?_)
  refine x_iload_n 2 dJ17_copyOfRangeByte_5 rfl rfl (n := 6) rfl ?_
  refine x_iload_n 1 dJ17_copyOfRangeByte_6 rfl rfl (n := 7) rfl ?_
  refine x_isub dJ17_copyOfRangeByte_7 (n := 8) rfl ?_
  refine x_nm (fun x2 => ?_)
  refine x_istore_n [(3, .int x2), (0, va_rf a0), (1, .int a1), (2, .int a2)] dJ17_copyOfRangeByte_8 rfl (by decide) rfl (n := 9) rfl ?_
  refine x_iload_n 0 dJ17_copyOfRangeByte_9 rfl rfl (n := 10) rfl ?_
  refine x_newI (t := 2) (atype := .byte) rfl q212 rfl (by decide) dJ17_copyOfRangeByte_10 (n := 12) rfl (fun b3 p4 => ?_)
  refine x_astorer [(4, .ref b3), (3, .int x2), (0, va_rf a0), (1, .int a1), (2, .int a2)] dJ17_copyOfRangeByte_12 (by decide) rfl (n := 14) rfl ?_
  refine x_aload_n 2 dJ17_copyOfRangeByte_14 rfl rfl (n := 15) rfl ?_
  refine x_iload_n 3 dJ17_copyOfRangeByte_15 rfl rfl (n := 16) rfl ?_
  refine x_aloadr 0 dJ17_copyOfRangeByte_16 rfl (n := 18) rfl ?_
  refine x_iconst 0 dJ17_copyOfRangeByte_18 rfl (n := 19) rfl ?_
  refine x_aload_n 2 dJ17_copyOfRangeByte_19 rfl rfl (n := 20) rfl ?_
  refine x_sm (fun b5 e => ?_)
  subst e
  refine x_alen dJ17_copyOfRangeByte_20 (n := 21) rfl (fun x6 => ?_)
  refine x_iload_n 3 dJ17_copyOfRangeByte_21 rfl rfl (n := 22) rfl ?_
  refine x_isub dJ17_copyOfRangeByte_22 (n := 23) rfl ?_
  refine x_iload_n 1 dJ17_copyOfRangeByte_23 rfl rfl (n := 24) rfl ?_
  refine x_callS_I [.int (x6 - a1), .int x2] [.int 0, .ref b3, .int a1, .ref b5] (f_J8_min_ok hO p4 (x6 - a1) x2) md_J8_min q637 q437 dJ17_copyOfRangeByte_24 rfl rfl (by decide) (Nat.le_of_ble_eq_true rfl) (n := 27) rfl (fun x8 p7 => ?_)
  refine x_cpB arc_J17_150 dJ17_copyOfRangeByte_27 (by decide) (Nat.le_of_ble_eq_true rfl) (n := 30) rfl (fun p9 => ?_)
  refine x_aloadr 0 dJ17_copyOfRangeByte_30 rfl (n := 32) rfl ?_
  exact x_areturn (x := some b3) (Or.inr ⟨_, rfl⟩) dJ17_copyOfRangeByte_32
abbrev cJ17_copyOfRange : ByteArray := prog_50_method_132_code
def yJ17_copyOfRange : MethodName := ⟨RJ17, "copyOfRange", "([BII)[B"⟩
def dkwJ17_copyOfRange_1 : List UInt8 := [176]
abbrev dktJ17_copyOfRange_1 : List UInt8 := dkwJ17_copyOfRange_1 ++ []
def dkwJ17_copyOfRange_0 : List UInt8 := [27, 154, 0, 9, 28, 42, 190, 159, 0, 10, 42, 27, 28, 184, 1, 83, 176, 42, 182, 1, 54, 192, 1, 55]
abbrev dktJ17_copyOfRange_0 : List UInt8 := dkwJ17_copyOfRange_0 ++ dktJ17_copyOfRange_1
theorem dksJ17_copyOfRange_0 : cJ17_copyOfRange.data.toList.drop 0 = dktJ17_copyOfRange_0 := by decide +kernel
theorem dksJ17_copyOfRange_1 : cJ17_copyOfRange.data.toList.drop 24 = dktJ17_copyOfRange_1 := dk_seg dksJ17_copyOfRange_0 24 rfl rfl
theorem dJ17_copyOfRange_0 : decode cJ17_copyOfRange 0 = .ok (.iload_n 1, 1) := dk_27 (dk_at dksJ17_copyOfRange_0 0 rfl rfl)
theorem dJ17_copyOfRange_1 : decode cJ17_copyOfRange 1 = .ok (.ifCond .ne 9, 3) := dk_154 0 9 (dk_at dksJ17_copyOfRange_0 1 rfl rfl)
theorem dJ17_copyOfRange_4 : decode cJ17_copyOfRange 4 = .ok (.iload_n 2, 1) := dk_28 (dk_at dksJ17_copyOfRange_0 4 rfl rfl)
theorem dJ17_copyOfRange_5 : decode cJ17_copyOfRange 5 = .ok (.aload_n 0, 1) := dk_42 (dk_at dksJ17_copyOfRange_0 5 rfl rfl)
theorem dJ17_copyOfRange_6 : decode cJ17_copyOfRange 6 = .ok (.arraylength, 1) := dk_190 (dk_at dksJ17_copyOfRange_0 6 rfl rfl)
theorem dJ17_copyOfRange_7 : decode cJ17_copyOfRange 7 = .ok (.if_icmp .eq 10, 3) := dk_159 0 10 (dk_at dksJ17_copyOfRange_0 7 rfl rfl)
theorem dJ17_copyOfRange_10 : decode cJ17_copyOfRange 10 = .ok (.aload_n 0, 1) := dk_42 (dk_at dksJ17_copyOfRange_0 10 rfl rfl)
theorem dJ17_copyOfRange_11 : decode cJ17_copyOfRange 11 = .ok (.iload_n 1, 1) := dk_27 (dk_at dksJ17_copyOfRange_0 11 rfl rfl)
theorem dJ17_copyOfRange_12 : decode cJ17_copyOfRange 12 = .ok (.iload_n 2, 1) := dk_28 (dk_at dksJ17_copyOfRange_0 12 rfl rfl)
theorem dJ17_copyOfRange_13 : decode cJ17_copyOfRange 13 = .ok (.invokestatic 339, 3) := dk_184 1 83 (dk_at dksJ17_copyOfRange_0 13 rfl rfl)
theorem dJ17_copyOfRange_16 : decode cJ17_copyOfRange 16 = .ok (.areturn, 1) := dk_176 (dk_at dksJ17_copyOfRange_0 16 rfl rfl)
theorem dJ17_copyOfRange_17 : decode cJ17_copyOfRange 17 = .ok (.aload_n 0, 1) := dk_42 (dk_at dksJ17_copyOfRange_0 17 rfl rfl)
theorem dJ17_copyOfRange_18 : decode cJ17_copyOfRange 18 = .ok (.invokevirtual 310, 3) := dk_182 1 54 (dk_at dksJ17_copyOfRange_0 18 rfl rfl)
theorem dJ17_copyOfRange_21 : decode cJ17_copyOfRange 21 = .ok (.checkcast 311, 3) := dk_192 1 55 (dk_at dksJ17_copyOfRange_0 21 rfl rfl)
theorem dJ17_copyOfRange_24 : decode cJ17_copyOfRange 24 = .ok (.areturn, 1) := dk_176 (dk_at dksJ17_copyOfRange_1 0 rfl rfl)
theorem md_J17_copyOfRange : xMd yJ17_copyOfRange cJ17_copyOfRange 3 (Option.some (Jvm.ClassFile.FieldType.array Jvm.ClassFile.FieldType.byte)) 3 := ⟨q712, q145, by decide, by decide +kernel, by decide +kernel, by decide +kernel⟩
def f_J17_copyOfRange_10   (v0 : Option Nat) (v1 : Int32) (v2 : Int32) (p0 : PH) : Option (xO × PH) :=
  (xcR (f_J17_copyOfRangeByte p0 v0 v1 v2) fun x2 p1 =>
  (rR x2 p1))
def f_J17_copyOfRange (p0 : PH) (a0 : Option Nat) (a1 : Int32) (a2 : Int32) : Option (xO × PH) :=
  (if a1 = 0 then
  (xnul a0 none fun b3 =>
  (xlen p0 b3 fun x4 =>
  (if a2 = x4 then
  (xclB p0 b3 fun b5 p6 =>
  (xcsa p6 (some b5) 2
  (rR (some b5) p6))) else
  (f_J17_copyOfRange_10 ((some b3)) a1 a2 p0)))) else
  (f_J17_copyOfRange_10 a0 a1 a2 p0))
theorem f_J17_copyOfRange_10_ok {G : xG} (hO : xOK G)   (v0 : Option Nat) (v1 : Int32) (v2 : Int32) (p0 : PH) : X G "java/util/Arrays" "copyOfRange" cJ17_copyOfRange 3 (Option.some (Jvm.ClassFile.FieldType.array Jvm.ClassFile.FieldType.byte)) 2 10 [(0, va_rf v0), (1, .int v1), (2, .int v2)] [] p0 (f_J17_copyOfRange_10 v0 v1 v2 p0) := by
  unfold f_J17_copyOfRange_10
  refine x_aload_n 0 dJ17_copyOfRange_10 rfl rfl (n := 11) rfl ?_
  refine x_iload_n 1 dJ17_copyOfRange_11 rfl rfl (n := 12) rfl ?_
  refine x_iload_n 2 dJ17_copyOfRange_12 rfl rfl (n := 13) rfl ?_
  refine x_callS_R [va_rf v0, .int v1, .int v2] [] (f_J17_copyOfRangeByte_ok hO p0 v0 v1 v2) md_J17_copyOfRangeByte q713 q714 dJ17_copyOfRange_13 rfl rfl (by decide) (Nat.le_of_ble_eq_true rfl) (n := 16) rfl (fun x2 p1 => ?_)
  exact x_areturn (x := x2) (Or.inr ⟨_, rfl⟩) dJ17_copyOfRange_16
theorem f_J17_copyOfRange_ok {G : xG} (hO : xOK G) (p0 : PH) (a0 : Option Nat) (a1 : Int32) (a2 : Int32) : CT G 2 yJ17_copyOfRange cJ17_copyOfRange 3 (Option.some (Jvm.ClassFile.FieldType.array Jvm.ClassFile.FieldType.byte)) [va_rf a0, .int a1, .int a2] p0 (f_J17_copyOfRange p0 a0 a1 a2) := by
  refine CT_of hO (by decide +kernel) (by decide +kernel) (lg_slen _ (by simp only [List.map, xcat]; exact Nat.le_of_ble_eq_true rfl)) ?_
  rw [show lv_args 0 [va_rf a0, .int a1, .int a2] = [(0, va_rf a0), (1, .int a1), (2, .int a2)] from by simp only [lv_args, xcat] <;> rfl]
  show X G "java/util/Arrays" "copyOfRange" cJ17_copyOfRange 3 (Option.some (Jvm.ClassFile.FieldType.array Jvm.ClassFile.FieldType.byte)) 2 0 [(0, va_rf a0), (1, .int a1), (2, .int a2)] [] p0 (f_J17_copyOfRange p0 a0 a1 a2)
  refine x_iload_n 1 dJ17_copyOfRange_0 rfl rfl (n := 1) rfl ?_
  refine x_if_ne dJ17_copyOfRange_1 (t := 10) (by decide) (n := 4) rfl (fun _ => ?_) (fun _ => ?_)
  · exact f_J17_copyOfRange_10_ok hO a0 a1 a2 p0
  · refine x_iload_n 2 dJ17_copyOfRange_4 rfl rfl (n := 5) rfl ?_
    refine x_aload_n 0 dJ17_copyOfRange_5 rfl rfl (n := 6) rfl ?_
    refine x_sm (fun b3 e => ?_)
    subst e
    refine x_alen dJ17_copyOfRange_6 (n := 7) rfl (fun x4 => ?_)
    refine x_icmp_eq dJ17_copyOfRange_7 (t := 17) (by decide) (n := 10) rfl (fun _ => ?_) (fun _ => ?_)
    · refine x_aload_nr 0 dJ17_copyOfRange_17 rfl rfl (n := 18) rfl ?_
      refine x_clB clo_J17_310 dJ17_copyOfRange_18 (by decide) (Nat.le_of_ble_eq_true rfl) (n := 21) rfl (fun b5 p6 => ?_)
      refine x_casta (x := some b5) (t := 2) q636 rfl (by decide) rfl dJ17_copyOfRange_21 (n := 24) rfl ?_
      exact x_areturn (x := some b5) (Or.inr ⟨_, rfl⟩) dJ17_copyOfRange_24
    · exact f_J17_copyOfRange_10_ok hO ((some b3)) a1 a2 p0
abbrev cJ6_init_2 : ByteArray := prog_31_method_150_code
def yJ6_init_2 : MethodName := ⟨RJ6, "<init>", "(Ljava/lang/AbstractStringBuilder;Ljava/lang/Void;)V"⟩
def dkwJ6_init_2_4 : List UInt8 := [181, 0, 9, 177]
abbrev dktJ6_init_2_4 : List UInt8 := dkwJ6_init_2_4 ++ []
def dkwJ6_init_2_3 : List UInt8 := [184, 0, 47, 181, 0, 15, 177, 42, 4, 181, 0, 15, 42, 45, 3, 21, 4, 4, 120, 184, 0, 54]
abbrev dktJ6_init_2_3 : List UInt8 := dkwJ6_init_2_3 ++ dktJ6_init_2_4
def dkwJ6_init_2_2 : List UInt8 := [180, 4, 24, 153, 0, 28, 42, 45, 3, 21, 4, 184, 4, 27, 181, 0, 9, 42, 42, 180, 0, 9, 21, 4]
abbrev dktJ6_init_2_2 : List UInt8 := dkwJ6_init_2_2 ++ dktJ6_init_2_3
def dkwJ6_init_2_1 : List UInt8 := [181, 0, 15, 42, 45, 3, 21, 4, 184, 0, 54, 181, 0, 9, 167, 0, 59, 178, 0, 38, 153, 0, 35, 43]
abbrev dktJ6_init_2_1 : List UInt8 := dkwJ6_init_2_1 ++ dktJ6_init_2_2
def dkwJ6_init_2_0 : List UInt8 := [42, 183, 0, 1, 43, 182, 2, 40, 78, 43, 182, 2, 37, 54, 4, 43, 182, 4, 23, 153, 0, 22, 42, 3]
abbrev dktJ6_init_2_0 : List UInt8 := dkwJ6_init_2_0 ++ dktJ6_init_2_1
theorem dksJ6_init_2_0 : cJ6_init_2.data.toList.drop 0 = dktJ6_init_2_0 := by decide +kernel
theorem dksJ6_init_2_1 : cJ6_init_2.data.toList.drop 24 = dktJ6_init_2_1 := dk_seg dksJ6_init_2_0 24 rfl rfl
theorem dksJ6_init_2_2 : cJ6_init_2.data.toList.drop 48 = dktJ6_init_2_2 := dk_seg dksJ6_init_2_1 24 rfl rfl
theorem dksJ6_init_2_3 : cJ6_init_2.data.toList.drop 72 = dktJ6_init_2_3 := dk_seg dksJ6_init_2_2 24 rfl rfl
theorem dksJ6_init_2_4 : cJ6_init_2.data.toList.drop 94 = dktJ6_init_2_4 := dk_seg dksJ6_init_2_3 22 rfl rfl
theorem dJ6_init_2_0 : decode cJ6_init_2 0 = .ok (.aload_n 0, 1) := dk_42 (dk_at dksJ6_init_2_0 0 rfl rfl)
theorem dJ6_init_2_1 : decode cJ6_init_2 1 = .ok (.invokespecial 1, 3) := dk_183 0 1 (dk_at dksJ6_init_2_0 1 rfl rfl)
theorem dJ6_init_2_4 : decode cJ6_init_2 4 = .ok (.aload_n 1, 1) := dk_43 (dk_at dksJ6_init_2_0 4 rfl rfl)
theorem dJ6_init_2_5 : decode cJ6_init_2 5 = .ok (.invokevirtual 552, 3) := dk_182 2 40 (dk_at dksJ6_init_2_0 5 rfl rfl)
theorem dJ6_init_2_8 : decode cJ6_init_2 8 = .ok (.astore_n 3, 1) := dk_78 (dk_at dksJ6_init_2_0 8 rfl rfl)
theorem dJ6_init_2_9 : decode cJ6_init_2 9 = .ok (.aload_n 1, 1) := dk_43 (dk_at dksJ6_init_2_0 9 rfl rfl)
theorem dJ6_init_2_10 : decode cJ6_init_2 10 = .ok (.invokevirtual 549, 3) := dk_182 2 37 (dk_at dksJ6_init_2_0 10 rfl rfl)
theorem dJ6_init_2_13 : decode cJ6_init_2 13 = .ok (.istore 4, 2) := dk_54 4 (dk_at dksJ6_init_2_0 13 rfl rfl)
theorem dJ6_init_2_15 : decode cJ6_init_2 15 = .ok (.aload_n 1, 1) := dk_43 (dk_at dksJ6_init_2_0 15 rfl rfl)
theorem dJ6_init_2_16 : decode cJ6_init_2 16 = .ok (.invokevirtual 1047, 3) := dk_182 4 23 (dk_at dksJ6_init_2_0 16 rfl rfl)
theorem dJ6_init_2_19 : decode cJ6_init_2 19 = .ok (.ifCond .eq 22, 3) := dk_153 0 22 (dk_at dksJ6_init_2_0 19 rfl rfl)
theorem dJ6_init_2_22 : decode cJ6_init_2 22 = .ok (.aload_n 0, 1) := dk_42 (dk_at dksJ6_init_2_0 22 rfl rfl)
theorem dJ6_init_2_23 : decode cJ6_init_2 23 = .ok (.iconst 0, 1) := dk_3 (dk_at dksJ6_init_2_0 23 rfl rfl)
theorem dJ6_init_2_24 : decode cJ6_init_2 24 = .ok (.putfield 15, 3) := dk_181 0 15 (dk_at dksJ6_init_2_1 0 rfl rfl)
theorem dJ6_init_2_27 : decode cJ6_init_2 27 = .ok (.aload_n 0, 1) := dk_42 (dk_at dksJ6_init_2_1 3 rfl rfl)
theorem dJ6_init_2_28 : decode cJ6_init_2 28 = .ok (.aload_n 3, 1) := dk_45 (dk_at dksJ6_init_2_1 4 rfl rfl)
theorem dJ6_init_2_29 : decode cJ6_init_2 29 = .ok (.iconst 0, 1) := dk_3 (dk_at dksJ6_init_2_1 5 rfl rfl)
theorem dJ6_init_2_30 : decode cJ6_init_2 30 = .ok (.iload 4, 2) := dk_21 4 (dk_at dksJ6_init_2_1 6 rfl rfl)
theorem dJ6_init_2_32 : decode cJ6_init_2 32 = .ok (.invokestatic 54, 3) := dk_184 0 54 (dk_at dksJ6_init_2_1 8 rfl rfl)
theorem dJ6_init_2_35 : decode cJ6_init_2 35 = .ok (.putfield 9, 3) := dk_181 0 9 (dk_at dksJ6_init_2_1 11 rfl rfl)
theorem dJ6_init_2_38 : decode cJ6_init_2 38 = .ok (.goto 59, 3) := dk_167 0 59 (dk_at dksJ6_init_2_1 14 rfl rfl)
theorem dJ6_init_2_41 : decode cJ6_init_2 41 = .ok (.getstatic 38, 3) := dk_178 0 38 (dk_at dksJ6_init_2_1 17 rfl rfl)
theorem dJ6_init_2_44 : decode cJ6_init_2 44 = .ok (.ifCond .eq 35, 3) := dk_153 0 35 (dk_at dksJ6_init_2_1 20 rfl rfl)
theorem dJ6_init_2_47 : decode cJ6_init_2 47 = .ok (.aload_n 1, 1) := dk_43 (dk_at dksJ6_init_2_1 23 rfl rfl)
theorem dJ6_init_2_48 : decode cJ6_init_2 48 = .ok (.getfield 1048, 3) := dk_180 4 24 (dk_at dksJ6_init_2_2 0 rfl rfl)
theorem dJ6_init_2_51 : decode cJ6_init_2 51 = .ok (.ifCond .eq 28, 3) := dk_153 0 28 (dk_at dksJ6_init_2_2 3 rfl rfl)
theorem dJ6_init_2_54 : decode cJ6_init_2 54 = .ok (.aload_n 0, 1) := dk_42 (dk_at dksJ6_init_2_2 6 rfl rfl)
theorem dJ6_init_2_55 : decode cJ6_init_2 55 = .ok (.aload_n 3, 1) := dk_45 (dk_at dksJ6_init_2_2 7 rfl rfl)
theorem dJ6_init_2_56 : decode cJ6_init_2 56 = .ok (.iconst 0, 1) := dk_3 (dk_at dksJ6_init_2_2 8 rfl rfl)
theorem dJ6_init_2_57 : decode cJ6_init_2 57 = .ok (.iload 4, 2) := dk_21 4 (dk_at dksJ6_init_2_2 9 rfl rfl)
theorem dJ6_init_2_59 : decode cJ6_init_2 59 = .ok (.invokestatic 1051, 3) := dk_184 4 27 (dk_at dksJ6_init_2_2 11 rfl rfl)
theorem dJ6_init_2_62 : decode cJ6_init_2 62 = .ok (.putfield 9, 3) := dk_181 0 9 (dk_at dksJ6_init_2_2 14 rfl rfl)
theorem dJ6_init_2_65 : decode cJ6_init_2 65 = .ok (.aload_n 0, 1) := dk_42 (dk_at dksJ6_init_2_2 17 rfl rfl)
theorem dJ6_init_2_66 : decode cJ6_init_2 66 = .ok (.aload_n 0, 1) := dk_42 (dk_at dksJ6_init_2_2 18 rfl rfl)
theorem dJ6_init_2_67 : decode cJ6_init_2 67 = .ok (.getfield 9, 3) := dk_180 0 9 (dk_at dksJ6_init_2_2 19 rfl rfl)
theorem dJ6_init_2_70 : decode cJ6_init_2 70 = .ok (.iload 4, 2) := dk_21 4 (dk_at dksJ6_init_2_2 22 rfl rfl)
theorem dJ6_init_2_72 : decode cJ6_init_2 72 = .ok (.invokestatic 47, 3) := dk_184 0 47 (dk_at dksJ6_init_2_3 0 rfl rfl)
theorem dJ6_init_2_75 : decode cJ6_init_2 75 = .ok (.putfield 15, 3) := dk_181 0 15 (dk_at dksJ6_init_2_3 3 rfl rfl)
theorem dJ6_init_2_78 : decode cJ6_init_2 78 = .ok (.return_, 1) := dk_177 (dk_at dksJ6_init_2_3 6 rfl rfl)
theorem dJ6_init_2_79 : decode cJ6_init_2 79 = .ok (.aload_n 0, 1) := dk_42 (dk_at dksJ6_init_2_3 7 rfl rfl)
theorem dJ6_init_2_80 : decode cJ6_init_2 80 = .ok (.iconst 1, 1) := dk_4 (dk_at dksJ6_init_2_3 8 rfl rfl)
theorem dJ6_init_2_81 : decode cJ6_init_2 81 = .ok (.putfield 15, 3) := dk_181 0 15 (dk_at dksJ6_init_2_3 9 rfl rfl)
theorem dJ6_init_2_84 : decode cJ6_init_2 84 = .ok (.aload_n 0, 1) := dk_42 (dk_at dksJ6_init_2_3 12 rfl rfl)
theorem dJ6_init_2_85 : decode cJ6_init_2 85 = .ok (.aload_n 3, 1) := dk_45 (dk_at dksJ6_init_2_3 13 rfl rfl)
theorem dJ6_init_2_86 : decode cJ6_init_2 86 = .ok (.iconst 0, 1) := dk_3 (dk_at dksJ6_init_2_3 14 rfl rfl)
theorem dJ6_init_2_87 : decode cJ6_init_2 87 = .ok (.iload 4, 2) := dk_21 4 (dk_at dksJ6_init_2_3 15 rfl rfl)
theorem dJ6_init_2_89 : decode cJ6_init_2 89 = .ok (.iconst 1, 1) := dk_4 (dk_at dksJ6_init_2_3 17 rfl rfl)
theorem dJ6_init_2_90 : decode cJ6_init_2 90 = .ok (.ishl, 1) := dk_120 (dk_at dksJ6_init_2_3 18 rfl rfl)
theorem dJ6_init_2_91 : decode cJ6_init_2 91 = .ok (.invokestatic 54, 3) := dk_184 0 54 (dk_at dksJ6_init_2_3 19 rfl rfl)
theorem dJ6_init_2_94 : decode cJ6_init_2 94 = .ok (.putfield 9, 3) := dk_181 0 9 (dk_at dksJ6_init_2_4 0 rfl rfl)
theorem dJ6_init_2_97 : decode cJ6_init_2 97 = .ok (.return_, 1) := dk_177 (dk_at dksJ6_init_2_4 3 rfl rfl)
theorem md_J6_init_2 : xMd yJ6_init_2 cJ6_init_2 5 (Option.none : Option Jvm.ClassFile.FieldType) 2 := ⟨q694, q133, by decide, by decide +kernel, by decide +kernel, by decide +kernel⟩
def f_J6_init_2_79 (a0 : Nat)  (v3 : Option Nat) (v4 : Int32) (p0 : PH) : Option (xO × PH) :=
  (xpF p0 a0 16 1 (.int 1) fun p8 =>
  (xcR (f_J17_copyOfRange p8 v3 0 (v4 <<< (1 &&& 31))) fun x10 p9 =>
  (xpF p9 a0 16 0 (va_rf x10) fun p11 =>
  (rV p11))))
def f_J6_init_2 (p0 : PH) (a0 : Nat) (a1 : Option Nat) (a2 : Option Nat) : Option (xO × PH) :=
  (xnul a1 none fun b1 =>
  (xcR (f_J14_getValue p0 b1 ) fun x3 p2 =>
  (xcI (f_J15_length p2 b1 ) fun x5 p4 =>
  (xcI (f_J14_isLatin1 p4 b1 ) fun x7 p6 =>
  (if x7 = 0 then
  (if (1 : Int32) = 0 then
  (f_J6_init_2_79 a0 x3 x5 p6) else
  (xgI p6 b1 17 2 fun x12 =>
  (if x12 = 0 then
  (f_J6_init_2_79 a0 x3 x5 p6) else
  none))) else
  (xpF p6 a0 16 1 (.int 0) fun p13 =>
  (xcR (f_J17_copyOfRange p13 x3 0 x5) fun x15 p14 =>
  (xpF p14 a0 16 0 (va_rf x15) fun p16 =>
  (rV p16)))))))))
theorem f_J6_init_2_79_ok {G : xG} (hO : xOK G) (a0 : Nat)  (v3 : Option Nat) (v4 : Int32) (p0 : PH) : X G "java/lang/String" "<init>" cJ6_init_2 5 (Option.none : Option Jvm.ClassFile.FieldType) 3 79 [(0, .ref a0), (3, va_rf v3), (4, .int v4)] [] p0 (f_J6_init_2_79 a0 v3 v4 p0) := by
  unfold f_J6_init_2_79
  refine x_aload_nr 0 dJ6_init_2_79 rfl rfl (n := 80) rfl ?_
  refine x_iconst 1 dJ6_init_2_80 rfl (n := 81) rfl ?_
  refine x_pF (pl_J6_15 _ ⟨rfl, rfl⟩) dJ6_init_2_81 (n := 84) rfl (fun p8 => ?_)
  refine x_aload_nr 0 dJ6_init_2_84 rfl rfl (n := 85) rfl ?_
  refine x_aload_n 1 dJ6_init_2_85 rfl rfl (n := 86) rfl ?_
  refine x_iconst 0 dJ6_init_2_86 rfl (n := 87) rfl ?_
  refine x_iload 2 dJ6_init_2_87 rfl (n := 89) rfl ?_
  refine x_iconst 1 dJ6_init_2_89 rfl (n := 90) rfl ?_
  refine x_ishl dJ6_init_2_90 (n := 91) rfl ?_
  refine x_callS_R [va_rf v3, .int 0, .int (v4 <<< (1 &&& 31))] [.ref a0] (f_J17_copyOfRange_ok hO p8 v3 0 (v4 <<< (1 &&& 31))) md_J17_copyOfRange q710 q711 dJ6_init_2_91 rfl rfl (by decide) (Nat.le_of_ble_eq_true rfl) (n := 94) rfl (fun x10 p9 => ?_)
  refine x_pF (pl_J6_9 _ (xfit_a (x10))) dJ6_init_2_94 (n := 97) rfl (fun p11 => ?_)
  exact x_return dJ6_init_2_97
theorem f_J6_init_2_ok {G : xG} (hO : xOK G) (p0 : PH) (a0 : Nat) (a1 : Option Nat) (a2 : Option Nat) : CT G 3 yJ6_init_2 cJ6_init_2 5 (Option.none : Option Jvm.ClassFile.FieldType) [.ref a0, va_rf a1, va_rf a2] p0 (f_J6_init_2 p0 a0 a1 a2) := by
  refine CT_of hO (by decide +kernel) (by decide +kernel) (lg_slen _ (by simp only [List.map, xcat]; exact Nat.le_of_ble_eq_true rfl)) ?_
  rw [show lv_args 0 [.ref a0, va_rf a1, va_rf a2] = [(0, .ref a0), (1, va_rf a1), (2, va_rf a2)] from by simp only [lv_args, xcat] <;> rfl]
  show X G "java/lang/String" "<init>" cJ6_init_2 5 (Option.none : Option Jvm.ClassFile.FieldType) 3 0 [(0, .ref a0), (1, va_rf a1), (2, va_rf a2)] [] p0 (f_J6_init_2 p0 a0 a1 a2)
  refine x_aload_nr 0 dJ6_init_2_0 rfl rfl (n := 1) rfl ?_
  refine x_objInit q695 q186 q187 dJ6_init_2_1 (by decide) (Nat.le_of_ble_eq_true rfl) (n := 4) rfl ?_
  refine x_aload_n 1 dJ6_init_2_4 rfl rfl (n := 5) rfl ?_
  refine x_sm (fun b1 e => ?_)
  subst e
  refine x_callV_R [] [] (f_J14_getValue_ok hO p0 b1 ) rc_J14_getValue md_J14_getValue rfl q696 q697 q699 dJ6_init_2_5 rfl rfl (by decide) (Nat.le_of_ble_eq_true rfl) (n := 8) rfl (fun x3 p2 => ?_)
  refine x_astore_n [(3, va_rf x3), (0, .ref a0), (1, .ref b1), (2, va_rf a2)] dJ6_init_2_8 rfl (by decide) (by simp only [xst, List.filter_cons, List.filter_nil, xcat] <;> rfl) (n := 9) rfl ?_
  refine x_aload_nr 2 dJ6_init_2_9 rfl rfl (n := 10) rfl ?_
  refine x_callU_I (x := ⟨"java/lang/AbstractStringBuilder", "length", "()I"⟩) (owner := "java/lang/AbstractStringBuilder") [] [] (f_J15_length_ok hO p2 b1 ) rc_J15_length md_J15_length rfl q701 q703 ⟨by decide +kernel, by decide +kernel⟩ (Or.inr (Or.inr ⟨_, _, _, q702, q708⟩)) q705 q704 (by decide +kernel) dJ6_init_2_10 rfl rfl (by decide) (Nat.le_of_ble_eq_true rfl) (n := 13) rfl (fun x5 p4 => ?_)
  refine x_istore [(4, .int x5), (3, va_rf x3), (0, .ref a0), (1, .ref b1), (2, va_rf a2)] dJ6_init_2_13 (by decide) (by simp only [xst, List.filter_cons, List.filter_nil, xcat] <;> rfl) (n := 15) rfl ?_
  refine x_aload_nr 3 dJ6_init_2_15 rfl rfl (n := 16) rfl ?_
  refine x_callV_I [] [] (f_J14_isLatin1_ok hO p4 b1 ) rc_J14_isLatin1 md_J14_isLatin1 rfl q709 q642 q644 dJ6_init_2_16 rfl rfl (by decide) (Nat.le_of_ble_eq_true rfl) (n := 19) rfl (fun x7 p6 => ?_)
  refine x_if_eq dJ6_init_2_19 (t := 41) (by decide) (n := 22) rfl (fun _ => ?_) (fun _ => ?_)
  · refine x_getsI (j := 3) rfl (Or.inl q417) dJ6_init_2_41 (n := 44) rfl ?_
    refine x_if_eq dJ6_init_2_44 (t := 79) (by decide) (n := 47) rfl (fun _ => ?_) (fun _ => ?_)
    · refine x_sub [2, 1, 0] [(0, .ref a0), (3, va_rf x3), (4, .int x5)] rfl ?_
      exact f_J6_init_2_79_ok hO a0 x3 x5 p6
    · refine x_aload_nr 3 dJ6_init_2_47 rfl rfl (n := 48) rfl ?_
      refine x_getI fl_J6_1048 dJ6_init_2_48 (n := 51) rfl (fun x12 => ?_)
      refine x_if_eq dJ6_init_2_51 (t := 79) (by decide) (n := 54) rfl (fun _ => ?_) (fun _ => ?_)
      · refine x_sub [2, 1, 0] [(0, .ref a0), (3, va_rf x3), (4, .int x5)] rfl ?_
        exact f_J6_init_2_79_ok hO a0 x3 x5 p6
      · refine x_aload_nr 2 dJ6_init_2_54 rfl rfl (n := 55) rfl ?_
        refine x_aload_n 1 dJ6_init_2_55 rfl rfl (n := 56) rfl ?_
        refine x_iconst 0 dJ6_init_2_56 rfl (n := 57) rfl ?_
        refine x_iload 0 dJ6_init_2_57 rfl (n := 59) rfl ?_
        exact x_no
  · refine x_aload_nr 2 dJ6_init_2_22 rfl rfl (n := 23) rfl ?_
    refine x_iconst 0 dJ6_init_2_23 rfl (n := 24) rfl ?_
    refine x_pF (pl_J6_15 _ ⟨rfl, rfl⟩) dJ6_init_2_24 (n := 27) rfl (fun p13 => ?_)
    refine x_aload_nr 2 dJ6_init_2_27 rfl rfl (n := 28) rfl ?_
    refine x_aload_n 1 dJ6_init_2_28 rfl rfl (n := 29) rfl ?_
    refine x_iconst 0 dJ6_init_2_29 rfl (n := 30) rfl ?_
    refine x_iload 0 dJ6_init_2_30 rfl (n := 32) rfl ?_
    refine x_callS_R [va_rf x3, .int 0, .int x5] [.ref a0] (f_J17_copyOfRange_ok hO p13 x3 0 x5) md_J17_copyOfRange q710 q711 dJ6_init_2_32 rfl rfl (by decide) (Nat.le_of_ble_eq_true rfl) (n := 35) rfl (fun x15 p14 => ?_)
    refine x_pF (pl_J6_9 _ (xfit_a (x15))) dJ6_init_2_35 (n := 38) rfl (fun p16 => ?_)
    refine x_goto dJ6_init_2_38 (n := 97) (by decide) ?_
    exact x_return dJ6_init_2_97
abbrev cJ6_init : ByteArray := prog_31_method_53_code
def yJ6_init : MethodName := ⟨RJ6, "<init>", "(Ljava/lang/StringBuilder;)V"⟩
def dkwJ6_init_0 : List UInt8 := [42, 43, 1, 183, 1, 233, 177]
abbrev dktJ6_init_0 : List UInt8 := dkwJ6_init_0 ++ []
theorem dksJ6_init_0 : cJ6_init.data.toList.drop 0 = dktJ6_init_0 := by decide +kernel
theorem dJ6_init_0 : decode cJ6_init 0 = .ok (.aload_n 0, 1) := dk_42 (dk_at dksJ6_init_0 0 rfl rfl)
theorem dJ6_init_1 : decode cJ6_init 1 = .ok (.aload_n 1, 1) := dk_43 (dk_at dksJ6_init_0 1 rfl rfl)
theorem dJ6_init_2 : decode cJ6_init 2 = .ok (.aconst_null, 1) := dk_1 (dk_at dksJ6_init_0 2 rfl rfl)
theorem dJ6_init_3 : decode cJ6_init 3 = .ok (.invokespecial 489, 3) := dk_183 1 233 (dk_at dksJ6_init_0 3 rfl rfl)
theorem dJ6_init_6 : decode cJ6_init 6 = .ok (.return_, 1) := dk_177 (dk_at dksJ6_init_0 6 rfl rfl)
theorem md_J6_init : xMd yJ6_init cJ6_init 2 (Option.none : Option Jvm.ClassFile.FieldType) 1 := ⟨q691, q133, by decide, by decide +kernel, by decide +kernel, by decide +kernel⟩
def f_J6_init (p0 : PH) (a0 : Nat) (a1 : Option Nat) : Option (xO × PH) :=
  (xcV (f_J6_init_2 p0 a0 a1 none) fun p1 =>
  (rV p1))
theorem f_J6_init_ok {G : xG} (hO : xOK G) (p0 : PH) (a0 : Nat) (a1 : Option Nat) : CT G 4 yJ6_init cJ6_init 2 (Option.none : Option Jvm.ClassFile.FieldType) [.ref a0, va_rf a1] p0 (f_J6_init p0 a0 a1) := by
  refine CT_of hO (by decide +kernel) (by decide +kernel) (lg_slen _ (by simp only [List.map, xcat]; exact Nat.le_of_ble_eq_true rfl)) ?_
  rw [show lv_args 0 [.ref a0, va_rf a1] = [(0, .ref a0), (1, va_rf a1)] from by simp only [lv_args, xcat] <;> rfl]
  show X G "java/lang/String" "<init>" cJ6_init 2 (Option.none : Option Jvm.ClassFile.FieldType) 4 0 [(0, .ref a0), (1, va_rf a1)] [] p0 (f_J6_init p0 a0 a1)
  refine x_aload_nr 0 dJ6_init_0 rfl rfl (n := 1) rfl ?_
  refine x_aload_n 1 dJ6_init_1 rfl rfl (n := 2) rfl ?_
  refine x_null dJ6_init_2 (n := 3) rfl ?_
  refine x_callI_V [va_rf a1, va_rf none] [] (f_J6_init_2_ok hO p0 a0 a1 none) md_J6_init_2 rfl q692 q693 dJ6_init_3 rfl rfl (by decide) (Nat.le_of_ble_eq_true rfl) (n := 6) rfl (fun p1 => ?_)
  exact x_return dJ6_init_6
abbrev cJ15_toString : ByteArray := prog_32_method_42_code
def yJ15_toString : MethodName := ⟨RJ15, "toString", "()Ljava/lang/String;"⟩
def dkwJ15_toString_0 : List UInt8 := [187, 0, 18, 89, 42, 183, 0, 137, 176]
abbrev dktJ15_toString_0 : List UInt8 := dkwJ15_toString_0 ++ []
theorem dksJ15_toString_0 : cJ15_toString.data.toList.drop 0 = dktJ15_toString_0 := by decide +kernel
theorem dJ15_toString_0 : decode cJ15_toString 0 = .ok (.new 18, 3) := dk_187 0 18 (dk_at dksJ15_toString_0 0 rfl rfl)
theorem dJ15_toString_3 : decode cJ15_toString 3 = .ok (.dup, 1) := dk_89 (dk_at dksJ15_toString_0 3 rfl rfl)
theorem dJ15_toString_4 : decode cJ15_toString 4 = .ok (.aload_n 0, 1) := dk_42 (dk_at dksJ15_toString_0 4 rfl rfl)
theorem dJ15_toString_5 : decode cJ15_toString 5 = .ok (.invokespecial 137, 3) := dk_183 0 137 (dk_at dksJ15_toString_0 5 rfl rfl)
theorem dJ15_toString_8 : decode cJ15_toString 8 = .ok (.areturn, 1) := dk_176 (dk_at dksJ15_toString_0 8 rfl rfl)
theorem md_J15_toString : xMd yJ15_toString cJ15_toString 1 (Option.some (Jvm.ClassFile.FieldType.object "java/lang/String")) 0 := ⟨q686, q143, by decide, by decide +kernel, by decide +kernel, by decide +kernel⟩
def f_J15_toString (p0 : PH) (a0 : Nat) : Option (xO × PH) :=
  (xcl1 p0 a0 17 (xnew p0 16 [.null, .int 0, .int 0, .int 0] fun b1 p2 =>
  (xcV (f_J6_init p2 b1 (some a0)) fun p3 =>
  (rR (some b1) p3))))
theorem rc_J15_toString {p0 : PH} {a0 : Nat} : ∀ z, f_J15_toString p0 a0 = some z → xco p0 a0 = some 17 := fun z h => xcl1_some h
theorem f_J15_toString_ok {G : xG} (hO : xOK G) (p0 : PH) (a0 : Nat) : CT G 5 yJ15_toString cJ15_toString 1 (Option.some (Jvm.ClassFile.FieldType.object "java/lang/String")) [.ref a0] p0 (f_J15_toString p0 a0) := by
  refine CT_of hO (by decide +kernel) (by decide +kernel) (Nat.le_of_ble_eq_true rfl) ?_
  show X G "java/lang/StringBuilder" "toString" cJ15_toString 1 (Option.some (Jvm.ClassFile.FieldType.object "java/lang/String")) 5 0 [(0, .ref a0)] [] p0 (f_J15_toString p0 a0)
  refine x_cl1 (fun e0 => ?_)
  refine x_new cl_16 (by decide) q687 q688 q133 rfl dJ15_toString_0 (n := 3) rfl (fun b1 p2 => ?_)
  refine x_dup dJ15_toString_3 rfl (n := 4) rfl ?_
  refine x_aload_nr 0 dJ15_toString_4 rfl rfl (n := 5) rfl ?_
  refine x_callI_V [.ref a0] [.ref b1] (f_J6_init_ok hO p2 b1 (some a0)) md_J6_init rfl q689 q690 dJ15_toString_5 rfl rfl (by decide) (Nat.le_of_ble_eq_true rfl) (n := 8) rfl (fun p3 => ?_)
  exact x_areturn (x := some b1) (Or.inl ⟨_, rfl⟩) dJ15_toString_8
abbrev cX3_word : ByteArray := prog_10_method_8_code
def yX3_word : MethodName := ⟨RX3, "word", "()Ljava/lang/String;"⟩
def dkwX3_word_2 : List UInt8 := [182, 0, 83, 87, 132, 2, 1, 167, 255, 234, 43, 182, 0, 87, 176]
abbrev dktX3_word_2 : List UInt8 := dkwX3_word_2 ++ []
def dkwX3_word_1 : List UInt8 := [183, 0, 82, 76, 42, 180, 0, 48, 61, 28, 42, 180, 0, 45, 162, 0, 20, 43, 42, 28, 182, 0, 37, 146]
abbrev dktX3_word_1 : List UInt8 := dkwX3_word_1 ++ dktX3_word_2
def dkwX3_word_0 : List UInt8 := [42, 42, 180, 0, 51, 5, 160, 0, 7, 4, 167, 0, 4, 3, 4, 182, 0, 76, 187, 0, 80, 89]
abbrev dktX3_word_0 : List UInt8 := dkwX3_word_0 ++ dktX3_word_1
theorem dksX3_word_0 : cX3_word.data.toList.drop 0 = dktX3_word_0 := by decide +kernel
theorem dksX3_word_1 : cX3_word.data.toList.drop 22 = dktX3_word_1 := dk_seg dksX3_word_0 22 rfl rfl
theorem dksX3_word_2 : cX3_word.data.toList.drop 46 = dktX3_word_2 := dk_seg dksX3_word_1 24 rfl rfl
theorem dX3_word_0 : decode cX3_word 0 = .ok (.aload_n 0, 1) := dk_42 (dk_at dksX3_word_0 0 rfl rfl)
theorem dX3_word_1 : decode cX3_word 1 = .ok (.aload_n 0, 1) := dk_42 (dk_at dksX3_word_0 1 rfl rfl)
theorem dX3_word_2 : decode cX3_word 2 = .ok (.getfield 51, 3) := dk_180 0 51 (dk_at dksX3_word_0 2 rfl rfl)
theorem dX3_word_5 : decode cX3_word 5 = .ok (.iconst 2, 1) := dk_5 (dk_at dksX3_word_0 5 rfl rfl)
theorem dX3_word_6 : decode cX3_word 6 = .ok (.if_icmp .ne 7, 3) := dk_160 0 7 (dk_at dksX3_word_0 6 rfl rfl)
theorem dX3_word_9 : decode cX3_word 9 = .ok (.iconst 1, 1) := dk_4 (dk_at dksX3_word_0 9 rfl rfl)
theorem dX3_word_10 : decode cX3_word 10 = .ok (.goto 4, 3) := dk_167 0 4 (dk_at dksX3_word_0 10 rfl rfl)
theorem dX3_word_13 : decode cX3_word 13 = .ok (.iconst 0, 1) := dk_3 (dk_at dksX3_word_0 13 rfl rfl)
theorem dX3_word_14 : decode cX3_word 14 = .ok (.iconst 1, 1) := dk_4 (dk_at dksX3_word_0 14 rfl rfl)
theorem dX3_word_15 : decode cX3_word 15 = .ok (.invokevirtual 76, 3) := dk_182 0 76 (dk_at dksX3_word_0 15 rfl rfl)
theorem dX3_word_18 : decode cX3_word 18 = .ok (.new 80, 3) := dk_187 0 80 (dk_at dksX3_word_0 18 rfl rfl)
theorem dX3_word_21 : decode cX3_word 21 = .ok (.dup, 1) := dk_89 (dk_at dksX3_word_0 21 rfl rfl)
theorem dX3_word_22 : decode cX3_word 22 = .ok (.invokespecial 82, 3) := dk_183 0 82 (dk_at dksX3_word_1 0 rfl rfl)
theorem dX3_word_25 : decode cX3_word 25 = .ok (.astore_n 1, 1) := dk_76 (dk_at dksX3_word_1 3 rfl rfl)
theorem dX3_word_26 : decode cX3_word 26 = .ok (.aload_n 0, 1) := dk_42 (dk_at dksX3_word_1 4 rfl rfl)
theorem dX3_word_27 : decode cX3_word 27 = .ok (.getfield 48, 3) := dk_180 0 48 (dk_at dksX3_word_1 5 rfl rfl)
theorem dX3_word_30 : decode cX3_word 30 = .ok (.istore_n 2, 1) := dk_61 (dk_at dksX3_word_1 8 rfl rfl)
theorem dX3_word_31 : decode cX3_word 31 = .ok (.iload_n 2, 1) := dk_28 (dk_at dksX3_word_1 9 rfl rfl)
theorem dX3_word_32 : decode cX3_word 32 = .ok (.aload_n 0, 1) := dk_42 (dk_at dksX3_word_1 10 rfl rfl)
theorem dX3_word_33 : decode cX3_word 33 = .ok (.getfield 45, 3) := dk_180 0 45 (dk_at dksX3_word_1 11 rfl rfl)
theorem dX3_word_36 : decode cX3_word 36 = .ok (.if_icmp .ge 20, 3) := dk_162 0 20 (dk_at dksX3_word_1 14 rfl rfl)
theorem dX3_word_39 : decode cX3_word 39 = .ok (.aload_n 1, 1) := dk_43 (dk_at dksX3_word_1 17 rfl rfl)
theorem dX3_word_40 : decode cX3_word 40 = .ok (.aload_n 0, 1) := dk_42 (dk_at dksX3_word_1 18 rfl rfl)
theorem dX3_word_41 : decode cX3_word 41 = .ok (.iload_n 2, 1) := dk_28 (dk_at dksX3_word_1 19 rfl rfl)
theorem dX3_word_42 : decode cX3_word 42 = .ok (.invokevirtual 37, 3) := dk_182 0 37 (dk_at dksX3_word_1 20 rfl rfl)
theorem dX3_word_45 : decode cX3_word 45 = .ok (.i2c, 1) := dk_146 (dk_at dksX3_word_1 23 rfl rfl)
theorem dX3_word_46 : decode cX3_word 46 = .ok (.invokevirtual 83, 3) := dk_182 0 83 (dk_at dksX3_word_2 0 rfl rfl)
theorem dX3_word_49 : decode cX3_word 49 = .ok (.pop, 1) := dk_87 (dk_at dksX3_word_2 3 rfl rfl)
theorem dX3_word_50 : decode cX3_word 50 = .ok (.iinc 2 1, 3) := dk_132 2 1 (dk_at dksX3_word_2 4 rfl rfl)
theorem dX3_word_53 : decode cX3_word 53 = .ok (.goto (-22), 3) := dk_167 255 234 (dk_at dksX3_word_2 7 rfl rfl)
theorem dX3_word_56 : decode cX3_word 56 = .ok (.aload_n 1, 1) := dk_43 (dk_at dksX3_word_2 10 rfl rfl)
theorem dX3_word_57 : decode cX3_word 57 = .ok (.invokevirtual 87, 3) := dk_182 0 87 (dk_at dksX3_word_2 11 rfl rfl)
theorem dX3_word_60 : decode cX3_word 60 = .ok (.areturn, 1) := dk_176 (dk_at dksX3_word_2 14 rfl rfl)
theorem md_X3_word : xMd yX3_word cX3_word 3 (Option.some (Jvm.ClassFile.FieldType.object "java/lang/String")) 0 := ⟨q498, q127, by decide, by decide +kernel, by decide +kernel, by decide +kernel⟩
def f_X3_word_31F (a0 : Nat)  (k31 : Nat × Int32 × PH → Option (xO × PH)) (p : Nat × Int32 × PH) : Option (xO × PH) := match p with
  | (v1, v2, p0) => (xgI p0 a0 2 5 fun x7 =>
  (if x7 ≤ v2 then
  (xcR (f_J15_toString p0 v1 ) fun x9 p8 =>
  (rR x9 p8)) else
  (xcI (f_X3_byteAt p0 a0 v2) fun x11 p10 =>
  (xcR (f_J15_append p10 v1 ((x11.toUInt32 % 65536).toInt32)) fun x13 p12 =>
  (bnd (v2 + 1) fun x14 =>
  (k31 (v1, x14, p12)))))))
def f_X3_word_14 (a0 : Nat)  (w1 : Int32) (p0 : PH) : Option (xO × PH) :=
  (xtV (f_X3_need p0 a0 w1 1) (fun p2 =>
  (xnew p2 17 [.null, .int 0, .int 0, .int 0] fun b3 p4 =>
  (xcV (f_J15_init p4 b3 ) fun p5 =>
  (xgI p5 a0 2 6 fun x6 =>
  (lp (f_X3_word_31F a0) FU (b3, x6, p5)))))) rT)
def f_X3_word (p0 : PH) (a0 : Nat) : Option (xO × PH) :=
  (xcl1 p0 a0 2 (xgI p0 a0 2 7 fun x1 =>
  (if x1 = 2 then
  (f_X3_word_14 a0 1 p0) else
  (f_X3_word_14 a0 0 p0))))
theorem rc_X3_word {p0 : PH} {a0 : Nat} : ∀ z, f_X3_word p0 a0 = some z → xco p0 a0 = some 2 := fun z h => xcl1_some h
theorem f_X3_word_31F_ok {G : xG} (hO : xOK G) (a0 : Nat)  {k31 : Nat × Int32 × PH → Option (xO × PH)} (hk31 : ∀ (v1 : Nat) (v2 : Int32) (p0 : PH), X G "ForestLegs$Reader" "word" cX3_word 3 (Option.some (Jvm.ClassFile.FieldType.object "java/lang/String")) 6 31 [(0, .ref a0), (1, .ref v1), (2, .int v2)] [] p0 (k31 (v1, v2, p0))) (v1 : Nat) (v2 : Int32) (p0 : PH) : X G "ForestLegs$Reader" "word" cX3_word 3 (Option.some (Jvm.ClassFile.FieldType.object "java/lang/String")) 6 31 [(0, .ref a0), (1, .ref v1), (2, .int v2)] [] p0 (f_X3_word_31F a0 k31 (v1, v2, p0)) := by
  unfold f_X3_word_31F
  refine x_iload_n 2 dX3_word_31 rfl rfl (n := 32) rfl ?_
  refine x_aload_nr 0 dX3_word_32 rfl rfl (n := 33) rfl ?_
  refine x_getI fl_X3_45 dX3_word_33 (n := 36) rfl (fun x7 => ?_)
  refine x_icmp_ge dX3_word_36 (t := 56) (by decide) (n := 39) rfl (fun _ => ?_) (fun _ => ?_)
  · refine x_aload_nr 1 dX3_word_56 rfl rfl (n := 57) rfl ?_
    refine x_callV_R [] [] (f_J15_toString_ok hO p0 v1 ) rc_J15_toString md_J15_toString rfl q683 q684 q685 dX3_word_57 rfl rfl (by decide) (Nat.le_of_ble_eq_true rfl) (n := 60) rfl (fun x9 p8 => ?_)
    exact x_areturn (x := x9) (Or.inl ⟨_, rfl⟩) dX3_word_60
  · refine x_aload_nr 1 dX3_word_39 rfl rfl (n := 40) rfl ?_
    refine x_aload_nr 0 dX3_word_40 rfl rfl (n := 41) rfl ?_
    refine x_iload_n 2 dX3_word_41 rfl rfl (n := 42) rfl ?_
    refine x_callV_I [.int v2] [.ref v1] (f_X3_byteAt_ok hO p0 a0 v2) rc_X3_byteAt md_X3_byteAt rfl q391 q393 qs2 dX3_word_42 rfl rfl (by decide) (Nat.le_of_ble_eq_true rfl) (n := 45) rfl (fun x11 p10 => ?_)
    refine x_i2c dX3_word_45 (n := 46) rfl ?_
    refine x_callV_R [.int ((x11.toUInt32 % 65536).toInt32)] [] (f_J15_append_ok hO p10 v1 ((x11.toUInt32 % 65536).toInt32)) rc_J15_append md_J15_append rfl q603 q604 q605 dX3_word_46 rfl rfl (by decide) (Nat.le_of_ble_eq_true rfl) (n := 49) rfl (fun x13 p12 => ?_)
    refine x_pop dX3_word_49 (xcat _) (n := 50) rfl ?_
    refine x_iincB 2 (fun x14 => [(2, .int x14), (0, .ref a0), (1, .ref v1)]) dX3_word_50 rfl rfl (by decide) (fun _ => rfl) (n := 53) rfl (fun x14 => ?_)
    refine x_goto dX3_word_53 (n := 31) (by decide) ?_
    refine x_sub [1, 2, 0] [(0, .ref a0), (1, .ref v1), (2, .int x14)] rfl ?_
    exact hk31 v1 x14 p12
theorem f_X3_word_31_lp {G : xG} (hO : xOK G) (a0 : Nat)  (n : Nat) (v1 : Nat) (v2 : Int32) (p0 : PH) : X G "ForestLegs$Reader" "word" cX3_word 3 (Option.some (Jvm.ClassFile.FieldType.object "java/lang/String")) 6 31 [(0, .ref a0), (1, .ref v1), (2, .int v2)] [] p0 (lp (f_X3_word_31F a0) n (v1, v2, p0)) :=
  lp_ok (W := fun p K => X G "ForestLegs$Reader" "word" cX3_word 3 (Option.some (Jvm.ClassFile.FieldType.object "java/lang/String")) 6 31 [(0, .ref a0), (1, .ref p.1), (2, .int p.2.1)] [] p.2.2 K) (fun _ => x_no) (fun k hk => fun (v1, v2, p0) => f_X3_word_31F_ok hO a0 (fun v1 v2 p0 => hk (v1, v2, p0)) v1 v2 p0) n (v1, v2, p0)
theorem f_X3_word_14_ok {G : xG} (hO : xOK G) (a0 : Nat)  (w1 : Int32) (p0 : PH) : X G "ForestLegs$Reader" "word" cX3_word 3 (Option.some (Jvm.ClassFile.FieldType.object "java/lang/String")) 6 14 [(0, .ref a0)] [.int w1, .ref a0] p0 (f_X3_word_14 a0 w1 p0) := by
  unfold f_X3_word_14
  refine x_iconst 1 dX3_word_14 rfl (n := 15) rfl ?_
  refine x_callVT_V [.int w1, .int 1] [] (f_X3_need_ok hO p0 a0 w1 1) rc_X3_need md_X3_need rfl q499 q501 qs7 dX3_word_15 rfl rfl (by decide) (Nat.le_of_ble_eq_true rfl) (n := 18) rfl (fun p2 => ?_) (fun q P1 => xt_out (by decide +kernel))
  refine x_new cl_17 (by decide) q573 q574 q143 rfl dX3_word_18 (n := 21) rfl (fun b3 p4 => ?_)
  refine x_dup dX3_word_21 rfl (n := 22) rfl ?_
  refine x_callI_V [] [.ref b3] (f_J15_init_ok hO p4 b3 ) md_J15_init rfl q575 q576 dX3_word_22 rfl rfl (by decide) (Nat.le_of_ble_eq_true rfl) (n := 25) rfl (fun p5 => ?_)
  refine x_astore_nr [(1, .ref b3), (0, .ref a0)] dX3_word_25 rfl (by decide) rfl (n := 26) rfl ?_
  refine x_aload_nr 1 dX3_word_26 rfl rfl (n := 27) rfl ?_
  refine x_getI fl_X3_48 dX3_word_27 (n := 30) rfl (fun x6 => ?_)
  refine x_istore_n [(2, .int x6), (1, .ref b3), (0, .ref a0)] dX3_word_30 rfl (by decide) rfl (n := 31) rfl ?_
  refine x_sub [2, 1, 0] [(0, .ref a0), (1, .ref b3), (2, .int x6)] rfl ?_
  exact f_X3_word_31_lp hO a0 FU b3 x6 p5
theorem f_X3_word_ok {G : xG} (hO : xOK G) (p0 : PH) (a0 : Nat) : CT G 6 yX3_word cX3_word 3 (Option.some (Jvm.ClassFile.FieldType.object "java/lang/String")) [.ref a0] p0 (f_X3_word p0 a0) := by
  refine CT_of hO (by decide +kernel) (by decide +kernel) (Nat.le_of_ble_eq_true rfl) ?_
  show X G "ForestLegs$Reader" "word" cX3_word 3 (Option.some (Jvm.ClassFile.FieldType.object "java/lang/String")) 6 0 [(0, .ref a0)] [] p0 (f_X3_word p0 a0)
  refine x_cl1 (fun e0 => ?_)
  refine x_aload_nr 0 dX3_word_0 rfl rfl (n := 1) rfl ?_
  refine x_aload_nr 0 dX3_word_1 rfl rfl (n := 2) rfl ?_
  refine x_getI fl_X3_51 dX3_word_2 (n := 5) rfl (fun x1 => ?_)
  refine x_iconst 2 dX3_word_5 rfl (n := 6) rfl ?_
  refine x_icmp_ne dX3_word_6 (t := 13) (by decide) (n := 9) rfl (fun _ => ?_) (fun _ => ?_)
  · refine x_iconst 0 dX3_word_13 rfl (n := 14) rfl ?_
    exact f_X3_word_14_ok hO a0 0 p0
  · refine x_iconst 1 dX3_word_9 rfl (n := 10) rfl ?_
    refine x_goto dX3_word_10 (n := 14) (by decide) ?_
    exact f_X3_word_14_ok hO a0 1 p0
abbrev cJ16_signedHashCode : ByteArray := prog_87_method_5_code
def yJ16_signedHashCode : MethodName := ⟨RJ16, "signedHashCode", "(I[BII)I"⟩
def dkwJ16_signedHashCode_1 : List UInt8 := [17, 0, 255, 126, 96, 59, 132, 5, 1, 167, 255, 232, 26, 172]
abbrev dktJ16_signedHashCode_1 : List UInt8 := dkwJ16_signedHashCode_1 ++ []
def dkwJ16_signedHashCode_0 : List UInt8 := [28, 29, 96, 54, 4, 28, 54, 5, 21, 5, 21, 4, 162, 0, 23, 16, 31, 26, 104, 43, 21, 5, 51]
abbrev dktJ16_signedHashCode_0 : List UInt8 := dkwJ16_signedHashCode_0 ++ dktJ16_signedHashCode_1
theorem dksJ16_signedHashCode_0 : cJ16_signedHashCode.data.toList.drop 0 = dktJ16_signedHashCode_0 := by decide +kernel
theorem dksJ16_signedHashCode_1 : cJ16_signedHashCode.data.toList.drop 23 = dktJ16_signedHashCode_1 := dk_seg dksJ16_signedHashCode_0 23 rfl rfl
theorem dJ16_signedHashCode_0 : decode cJ16_signedHashCode 0 = .ok (.iload_n 2, 1) := dk_28 (dk_at dksJ16_signedHashCode_0 0 rfl rfl)
theorem dJ16_signedHashCode_1 : decode cJ16_signedHashCode 1 = .ok (.iload_n 3, 1) := dk_29 (dk_at dksJ16_signedHashCode_0 1 rfl rfl)
theorem dJ16_signedHashCode_2 : decode cJ16_signedHashCode 2 = .ok (.iadd, 1) := dk_96 (dk_at dksJ16_signedHashCode_0 2 rfl rfl)
theorem dJ16_signedHashCode_3 : decode cJ16_signedHashCode 3 = .ok (.istore 4, 2) := dk_54 4 (dk_at dksJ16_signedHashCode_0 3 rfl rfl)
theorem dJ16_signedHashCode_5 : decode cJ16_signedHashCode 5 = .ok (.iload_n 2, 1) := dk_28 (dk_at dksJ16_signedHashCode_0 5 rfl rfl)
theorem dJ16_signedHashCode_6 : decode cJ16_signedHashCode 6 = .ok (.istore 5, 2) := dk_54 5 (dk_at dksJ16_signedHashCode_0 6 rfl rfl)
theorem dJ16_signedHashCode_8 : decode cJ16_signedHashCode 8 = .ok (.iload 5, 2) := dk_21 5 (dk_at dksJ16_signedHashCode_0 8 rfl rfl)
theorem dJ16_signedHashCode_10 : decode cJ16_signedHashCode 10 = .ok (.iload 4, 2) := dk_21 4 (dk_at dksJ16_signedHashCode_0 10 rfl rfl)
theorem dJ16_signedHashCode_12 : decode cJ16_signedHashCode 12 = .ok (.if_icmp .ge 23, 3) := dk_162 0 23 (dk_at dksJ16_signedHashCode_0 12 rfl rfl)
theorem dJ16_signedHashCode_15 : decode cJ16_signedHashCode 15 = .ok (.bipush 31, 2) := dk_16 31 (dk_at dksJ16_signedHashCode_0 15 rfl rfl)
theorem dJ16_signedHashCode_17 : decode cJ16_signedHashCode 17 = .ok (.iload_n 0, 1) := dk_26 (dk_at dksJ16_signedHashCode_0 17 rfl rfl)
theorem dJ16_signedHashCode_18 : decode cJ16_signedHashCode 18 = .ok (.imul, 1) := dk_104 (dk_at dksJ16_signedHashCode_0 18 rfl rfl)
theorem dJ16_signedHashCode_19 : decode cJ16_signedHashCode 19 = .ok (.aload_n 1, 1) := dk_43 (dk_at dksJ16_signedHashCode_0 19 rfl rfl)
theorem dJ16_signedHashCode_20 : decode cJ16_signedHashCode 20 = .ok (.iload 5, 2) := dk_21 5 (dk_at dksJ16_signedHashCode_0 20 rfl rfl)
theorem dJ16_signedHashCode_22 : decode cJ16_signedHashCode 22 = .ok (.baload, 1) := dk_51 (dk_at dksJ16_signedHashCode_0 22 rfl rfl)
theorem dJ16_signedHashCode_23 : decode cJ16_signedHashCode 23 = .ok (.sipush 255, 3) := dk_17 0 255 (dk_at dksJ16_signedHashCode_1 0 rfl rfl)
theorem dJ16_signedHashCode_26 : decode cJ16_signedHashCode 26 = .ok (.iand, 1) := dk_126 (dk_at dksJ16_signedHashCode_1 3 rfl rfl)
theorem dJ16_signedHashCode_27 : decode cJ16_signedHashCode 27 = .ok (.iadd, 1) := dk_96 (dk_at dksJ16_signedHashCode_1 4 rfl rfl)
theorem dJ16_signedHashCode_28 : decode cJ16_signedHashCode 28 = .ok (.istore_n 0, 1) := dk_59 (dk_at dksJ16_signedHashCode_1 5 rfl rfl)
theorem dJ16_signedHashCode_29 : decode cJ16_signedHashCode 29 = .ok (.iinc 5 1, 3) := dk_132 5 1 (dk_at dksJ16_signedHashCode_1 6 rfl rfl)
theorem dJ16_signedHashCode_32 : decode cJ16_signedHashCode 32 = .ok (.goto (-24), 3) := dk_167 255 232 (dk_at dksJ16_signedHashCode_1 9 rfl rfl)
theorem dJ16_signedHashCode_35 : decode cJ16_signedHashCode 35 = .ok (.iload_n 0, 1) := dk_26 (dk_at dksJ16_signedHashCode_1 12 rfl rfl)
theorem dJ16_signedHashCode_36 : decode cJ16_signedHashCode 36 = .ok (.ireturn, 1) := dk_172 (dk_at dksJ16_signedHashCode_1 13 rfl rfl)
theorem md_J16_signedHashCode : xMd yJ16_signedHashCode cJ16_signedHashCode 6 (Option.some Jvm.ClassFile.FieldType.int) 4 := ⟨q755, q144, by decide, by decide +kernel, by decide +kernel, by decide +kernel⟩
def f_J16_signedHashCode_8F   (k8 : Int32 × Option Nat × Int32 × Int32 × PH → Option (xO × PH)) (p : Int32 × Option Nat × Int32 × Int32 × PH) : Option (xO × PH) := match p with
  | (v0, v1, v4, v5, p0) => (if v4 ≤ v5 then
  (rI v0 p0) else
  (xnul v1 none fun b2 =>
  (xaI p0 b2 2 v5 fun x3 =>
  (bnd ((31 * v0) + (x3 &&& 255)) fun x4 =>
  (bnd (v5 + 1) fun x5 =>
  (k8 (x4, ((some b2)), v4, x5, p0)))))))
def f_J16_signedHashCode (p0 : PH) (a0 : Int32) (a1 : Option Nat) (a2 : Int32) (a3 : Int32) : Option (xO × PH) :=
  (bnd (a2 + a3) fun x1 =>
  (lp (f_J16_signedHashCode_8F) FU (a0, a1, x1, a2, p0)))
theorem f_J16_signedHashCode_8F_ok {G : xG} (hO : xOK G)   {k8 : Int32 × Option Nat × Int32 × Int32 × PH → Option (xO × PH)} (hk8 : ∀ (v0 : Int32) (v1 : Option Nat) (v4 : Int32) (v5 : Int32) (p0 : PH), X G "jdk/internal/util/ArraysSupport" "signedHashCode" cJ16_signedHashCode 6 (Option.some Jvm.ClassFile.FieldType.int) 0 8 [(0, .int v0), (1, va_rf v1), (4, .int v4), (5, .int v5)] [] p0 (k8 (v0, v1, v4, v5, p0))) (v0 : Int32) (v1 : Option Nat) (v4 : Int32) (v5 : Int32) (p0 : PH) : X G "jdk/internal/util/ArraysSupport" "signedHashCode" cJ16_signedHashCode 6 (Option.some Jvm.ClassFile.FieldType.int) 0 8 [(0, .int v0), (1, va_rf v1), (4, .int v4), (5, .int v5)] [] p0 (f_J16_signedHashCode_8F k8 (v0, v1, v4, v5, p0)) := by
  unfold f_J16_signedHashCode_8F
  refine x_iload 3 dJ16_signedHashCode_8 rfl (n := 10) rfl ?_
  refine x_iload 2 dJ16_signedHashCode_10 rfl (n := 12) rfl ?_
  refine x_icmp_ge dJ16_signedHashCode_12 (t := 35) (by decide) (n := 15) rfl (fun _ => ?_) (fun _ => ?_)
  · refine x_iload_n 0 dJ16_signedHashCode_35 rfl rfl (n := 36) rfl ?_
    exact x_ireturn dJ16_signedHashCode_36
  · refine x_bipush 31 dJ16_signedHashCode_15 rfl (n := 17) rfl ?_
    refine x_iload_n 0 dJ16_signedHashCode_17 rfl rfl (n := 18) rfl ?_
    refine x_imul dJ16_signedHashCode_18 (n := 19) rfl ?_
    refine x_aload_n 1 dJ16_signedHashCode_19 rfl rfl (n := 20) rfl ?_
    refine x_iload 3 dJ16_signedHashCode_20 rfl (n := 22) rfl ?_
    refine x_sm (fun b2 e => ?_)
    subst e
    refine x_bald (t := 2) rfl dJ16_signedHashCode_22 (n := 23) rfl (fun x3 => ?_)
    refine x_sipush 255 dJ16_signedHashCode_23 rfl (n := 26) rfl ?_
    refine x_iand dJ16_signedHashCode_26 (n := 27) rfl ?_
    refine x_iadd dJ16_signedHashCode_27 (n := 28) rfl ?_
    refine x_nm (fun x4 => ?_)
    refine x_istore_n [(0, .int x4), (1, .ref b2), (4, .int v4), (5, .int v5)] dJ16_signedHashCode_28 rfl (by decide) rfl (n := 29) rfl ?_
    refine x_iincB 3 (fun x5 => [(5, .int x5), (0, .int x4), (1, .ref b2), (4, .int v4)]) dJ16_signedHashCode_29 rfl rfl (by decide) (fun _ => rfl) (n := 32) rfl (fun x5 => ?_)
    refine x_goto dJ16_signedHashCode_32 (n := 8) (by decide) ?_
    refine x_sub [1, 2, 3, 0] [(0, .int x4), (1, .ref b2), (4, .int v4), (5, .int x5)] rfl ?_
    exact hk8 x4 ((some b2)) v4 x5 p0
theorem f_J16_signedHashCode_8_lp {G : xG} (hO : xOK G)   (n : Nat) (v0 : Int32) (v1 : Option Nat) (v4 : Int32) (v5 : Int32) (p0 : PH) : X G "jdk/internal/util/ArraysSupport" "signedHashCode" cJ16_signedHashCode 6 (Option.some Jvm.ClassFile.FieldType.int) 0 8 [(0, .int v0), (1, va_rf v1), (4, .int v4), (5, .int v5)] [] p0 (lp (f_J16_signedHashCode_8F) n (v0, v1, v4, v5, p0)) :=
  lp_ok (W := fun p K => X G "jdk/internal/util/ArraysSupport" "signedHashCode" cJ16_signedHashCode 6 (Option.some Jvm.ClassFile.FieldType.int) 0 8 [(0, .int p.1), (1, va_rf p.2.1), (4, .int p.2.2.1), (5, .int p.2.2.2.1)] [] p.2.2.2.2 K) (fun _ => x_no) (fun k hk => fun (v0, v1, v4, v5, p0) => f_J16_signedHashCode_8F_ok hO (fun v0 v1 v4 v5 p0 => hk (v0, v1, v4, v5, p0)) v0 v1 v4 v5 p0) n (v0, v1, v4, v5, p0)
theorem f_J16_signedHashCode_ok {G : xG} (hO : xOK G) (p0 : PH) (a0 : Int32) (a1 : Option Nat) (a2 : Int32) (a3 : Int32) : CT G 0 yJ16_signedHashCode cJ16_signedHashCode 6 (Option.some Jvm.ClassFile.FieldType.int) [.int a0, va_rf a1, .int a2, .int a3] p0 (f_J16_signedHashCode p0 a0 a1 a2 a3) := by
  refine CT_of hO (by decide +kernel) (by decide +kernel) (lg_slen _ (by simp only [List.map, xcat]; exact Nat.le_of_ble_eq_true rfl)) ?_
  rw [show lv_args 0 [.int a0, va_rf a1, .int a2, .int a3] = [(0, .int a0), (1, va_rf a1), (2, .int a2), (3, .int a3)] from by simp only [lv_args, xcat] <;> rfl]
  show X G "jdk/internal/util/ArraysSupport" "signedHashCode" cJ16_signedHashCode 6 (Option.some Jvm.ClassFile.FieldType.int) 0 0 [(0, .int a0), (1, va_rf a1), (2, .int a2), (3, .int a3)] [] p0 (f_J16_signedHashCode p0 a0 a1 a2 a3)
  refine x_iload_n 2 dJ16_signedHashCode_0 rfl rfl (n := 1) rfl ?_
  refine x_iload_n 3 dJ16_signedHashCode_1 rfl rfl (n := 2) rfl ?_
  refine x_iadd dJ16_signedHashCode_2 (n := 3) rfl ?_
  refine x_nm (fun x1 => ?_)
  refine x_istore [(4, .int x1), (0, .int a0), (1, va_rf a1), (2, .int a2), (3, .int a3)] dJ16_signedHashCode_3 (by decide) rfl (n := 5) rfl ?_
  refine x_iload_n 3 dJ16_signedHashCode_5 rfl rfl (n := 6) rfl ?_
  refine x_istore [(5, .int a2), (4, .int x1), (0, .int a0), (1, va_rf a1), (2, .int a2), (3, .int a3)] dJ16_signedHashCode_6 (by decide) rfl (n := 8) rfl ?_
  refine x_sub [2, 3, 1, 0] [(0, .int a0), (1, va_rf a1), (4, .int x1), (5, .int a2)] rfl ?_
  exact f_J16_signedHashCode_8_lp hO FU a0 a1 x1 a2 p0
abbrev cJ16_vectorizedHashCode : ByteArray := prog_87_method_4_code
def yJ16_vectorizedHashCode : MethodName := ⟨RJ16, "vectorizedHashCode", "(Ljava/lang/Object;IIII)I"⟩
def dkwJ16_vectorizedHashCode_6 : List UInt8 := [183, 0, 91, 18, 92, 182, 0, 94, 21, 4, 182, 0, 98, 182, 0, 101, 183, 0, 105, 191, 172]
abbrev dktJ16_vectorizedHashCode_6 : List UInt8 := dkwJ16_vectorizedHashCode_6 ++ []
def dkwJ16_vectorizedHashCode_5 : List UInt8 := [167, 0, 44, 29, 42, 192, 0, 82, 27, 28, 184, 0, 84, 167, 0, 31, 187, 0, 87, 89, 187, 0, 89, 89]
abbrev dktJ16_vectorizedHashCode_5 : List UInt8 := dkwJ16_vectorizedHashCode_5 ++ dktJ16_vectorizedHashCode_6
def dkwJ16_vectorizedHashCode_4 : List UInt8 := [29, 42, 192, 0, 60, 27, 28, 184, 0, 75, 167, 0, 57, 29, 42, 192, 0, 77, 27, 28, 184, 0, 79]
abbrev dktJ16_vectorizedHashCode_4 : List UInt8 := dkwJ16_vectorizedHashCode_4 ++ dktJ16_vectorizedHashCode_5
def dkwJ16_vectorizedHashCode_3 : List UInt8 := [192, 0, 60, 27, 28, 184, 0, 66, 167, 0, 83, 29, 42, 192, 0, 69, 27, 28, 184, 0, 71, 167, 0, 70]
abbrev dktJ16_vectorizedHashCode_3 : List UInt8 := dkwJ16_vectorizedHashCode_3 ++ dktJ16_vectorizedHashCode_4
def dkwJ16_vectorizedHashCode_2 : List UInt8 := [29, 42, 192, 0, 60, 27, 28, 184, 0, 62, 167, 0, 103, 42, 193, 0, 60, 153, 0, 16, 29, 42]
abbrev dktJ16_vectorizedHashCode_2 : List UInt8 := dkwJ16_vectorizedHashCode_2 ++ dktJ16_vectorizedHashCode_3
def dkwJ16_vectorizedHashCode_1 : List UInt8 := [170, 0, 0, 0, 0, 127, 0, 0, 0, 4, 0, 0, 0, 10, 0, 0, 0, 42, 0, 0, 0, 55, 0, 0, 0, 127, 0, 0, 0, 127, 0, 0, 0, 88, 0, 0, 0, 101, 0, 0, 0, 114]
abbrev dktJ16_vectorizedHashCode_1 : List UInt8 := dkwJ16_vectorizedHashCode_1 ++ dktJ16_vectorizedHashCode_2
def dkwJ16_vectorizedHashCode_0 : List UInt8 := [21, 4]
abbrev dktJ16_vectorizedHashCode_0 : List UInt8 := dkwJ16_vectorizedHashCode_0 ++ dktJ16_vectorizedHashCode_1
theorem dksJ16_vectorizedHashCode_0 : cJ16_vectorizedHashCode.data.toList.drop 0 = dktJ16_vectorizedHashCode_0 := by decide +kernel
theorem dksJ16_vectorizedHashCode_1 : cJ16_vectorizedHashCode.data.toList.drop 2 = dktJ16_vectorizedHashCode_1 := dk_seg dksJ16_vectorizedHashCode_0 2 rfl rfl
theorem dksJ16_vectorizedHashCode_2 : cJ16_vectorizedHashCode.data.toList.drop 44 = dktJ16_vectorizedHashCode_2 := dk_seg dksJ16_vectorizedHashCode_1 42 rfl rfl
theorem dksJ16_vectorizedHashCode_3 : cJ16_vectorizedHashCode.data.toList.drop 66 = dktJ16_vectorizedHashCode_3 := dk_seg dksJ16_vectorizedHashCode_2 22 rfl rfl
theorem dksJ16_vectorizedHashCode_4 : cJ16_vectorizedHashCode.data.toList.drop 90 = dktJ16_vectorizedHashCode_4 := dk_seg dksJ16_vectorizedHashCode_3 24 rfl rfl
theorem dksJ16_vectorizedHashCode_5 : cJ16_vectorizedHashCode.data.toList.drop 113 = dktJ16_vectorizedHashCode_5 := dk_seg dksJ16_vectorizedHashCode_4 23 rfl rfl
theorem dksJ16_vectorizedHashCode_6 : cJ16_vectorizedHashCode.data.toList.drop 137 = dktJ16_vectorizedHashCode_6 := dk_seg dksJ16_vectorizedHashCode_5 24 rfl rfl
theorem dJ16_vectorizedHashCode_0 : decode cJ16_vectorizedHashCode 0 = .ok (.iload 4, 2) := dk_21 4 (dk_at dksJ16_vectorizedHashCode_0 0 rfl rfl)
theorem dJ16_vectorizedHashCode_2 : decode cJ16_vectorizedHashCode 2 = .ok (.tableswitch 127 4 10 #[42, 55, 127, 127, 88, 101, 114], 42) := by decide +kernel
theorem dJ16_vectorizedHashCode_44 : decode cJ16_vectorizedHashCode 44 = .ok (.iload_n 3, 1) := dk_29 (dk_at dksJ16_vectorizedHashCode_2 0 rfl rfl)
theorem dJ16_vectorizedHashCode_45 : decode cJ16_vectorizedHashCode 45 = .ok (.aload_n 0, 1) := dk_42 (dk_at dksJ16_vectorizedHashCode_2 1 rfl rfl)
theorem dJ16_vectorizedHashCode_46 : decode cJ16_vectorizedHashCode 46 = .ok (.checkcast 60, 3) := dk_192 0 60 (dk_at dksJ16_vectorizedHashCode_2 2 rfl rfl)
theorem dJ16_vectorizedHashCode_49 : decode cJ16_vectorizedHashCode 49 = .ok (.iload_n 1, 1) := dk_27 (dk_at dksJ16_vectorizedHashCode_2 5 rfl rfl)
theorem dJ16_vectorizedHashCode_50 : decode cJ16_vectorizedHashCode 50 = .ok (.iload_n 2, 1) := dk_28 (dk_at dksJ16_vectorizedHashCode_2 6 rfl rfl)
theorem dJ16_vectorizedHashCode_51 : decode cJ16_vectorizedHashCode 51 = .ok (.invokestatic 62, 3) := dk_184 0 62 (dk_at dksJ16_vectorizedHashCode_2 7 rfl rfl)
theorem dJ16_vectorizedHashCode_54 : decode cJ16_vectorizedHashCode 54 = .ok (.goto 103, 3) := dk_167 0 103 (dk_at dksJ16_vectorizedHashCode_2 10 rfl rfl)
theorem dJ16_vectorizedHashCode_57 : decode cJ16_vectorizedHashCode 57 = .ok (.aload_n 0, 1) := dk_42 (dk_at dksJ16_vectorizedHashCode_2 13 rfl rfl)
theorem dJ16_vectorizedHashCode_58 : decode cJ16_vectorizedHashCode 58 = .ok (.instanceof 60, 3) := dk_193 0 60 (dk_at dksJ16_vectorizedHashCode_2 14 rfl rfl)
theorem dJ16_vectorizedHashCode_61 : decode cJ16_vectorizedHashCode 61 = .ok (.ifCond .eq 16, 3) := dk_153 0 16 (dk_at dksJ16_vectorizedHashCode_2 17 rfl rfl)
theorem dJ16_vectorizedHashCode_64 : decode cJ16_vectorizedHashCode 64 = .ok (.iload_n 3, 1) := dk_29 (dk_at dksJ16_vectorizedHashCode_2 20 rfl rfl)
theorem dJ16_vectorizedHashCode_65 : decode cJ16_vectorizedHashCode 65 = .ok (.aload_n 0, 1) := dk_42 (dk_at dksJ16_vectorizedHashCode_2 21 rfl rfl)
theorem dJ16_vectorizedHashCode_66 : decode cJ16_vectorizedHashCode 66 = .ok (.checkcast 60, 3) := dk_192 0 60 (dk_at dksJ16_vectorizedHashCode_3 0 rfl rfl)
theorem dJ16_vectorizedHashCode_69 : decode cJ16_vectorizedHashCode 69 = .ok (.iload_n 1, 1) := dk_27 (dk_at dksJ16_vectorizedHashCode_3 3 rfl rfl)
theorem dJ16_vectorizedHashCode_70 : decode cJ16_vectorizedHashCode 70 = .ok (.iload_n 2, 1) := dk_28 (dk_at dksJ16_vectorizedHashCode_3 4 rfl rfl)
theorem dJ16_vectorizedHashCode_71 : decode cJ16_vectorizedHashCode 71 = .ok (.invokestatic 66, 3) := dk_184 0 66 (dk_at dksJ16_vectorizedHashCode_3 5 rfl rfl)
theorem dJ16_vectorizedHashCode_74 : decode cJ16_vectorizedHashCode 74 = .ok (.goto 83, 3) := dk_167 0 83 (dk_at dksJ16_vectorizedHashCode_3 8 rfl rfl)
theorem dJ16_vectorizedHashCode_77 : decode cJ16_vectorizedHashCode 77 = .ok (.iload_n 3, 1) := dk_29 (dk_at dksJ16_vectorizedHashCode_3 11 rfl rfl)
theorem dJ16_vectorizedHashCode_78 : decode cJ16_vectorizedHashCode 78 = .ok (.aload_n 0, 1) := dk_42 (dk_at dksJ16_vectorizedHashCode_3 12 rfl rfl)
theorem dJ16_vectorizedHashCode_79 : decode cJ16_vectorizedHashCode 79 = .ok (.checkcast 69, 3) := dk_192 0 69 (dk_at dksJ16_vectorizedHashCode_3 13 rfl rfl)
theorem dJ16_vectorizedHashCode_82 : decode cJ16_vectorizedHashCode 82 = .ok (.iload_n 1, 1) := dk_27 (dk_at dksJ16_vectorizedHashCode_3 16 rfl rfl)
theorem dJ16_vectorizedHashCode_83 : decode cJ16_vectorizedHashCode 83 = .ok (.iload_n 2, 1) := dk_28 (dk_at dksJ16_vectorizedHashCode_3 17 rfl rfl)
theorem dJ16_vectorizedHashCode_84 : decode cJ16_vectorizedHashCode 84 = .ok (.invokestatic 71, 3) := dk_184 0 71 (dk_at dksJ16_vectorizedHashCode_3 18 rfl rfl)
theorem dJ16_vectorizedHashCode_87 : decode cJ16_vectorizedHashCode 87 = .ok (.goto 70, 3) := dk_167 0 70 (dk_at dksJ16_vectorizedHashCode_3 21 rfl rfl)
theorem dJ16_vectorizedHashCode_90 : decode cJ16_vectorizedHashCode 90 = .ok (.iload_n 3, 1) := dk_29 (dk_at dksJ16_vectorizedHashCode_4 0 rfl rfl)
theorem dJ16_vectorizedHashCode_91 : decode cJ16_vectorizedHashCode 91 = .ok (.aload_n 0, 1) := dk_42 (dk_at dksJ16_vectorizedHashCode_4 1 rfl rfl)
theorem dJ16_vectorizedHashCode_92 : decode cJ16_vectorizedHashCode 92 = .ok (.checkcast 60, 3) := dk_192 0 60 (dk_at dksJ16_vectorizedHashCode_4 2 rfl rfl)
theorem dJ16_vectorizedHashCode_95 : decode cJ16_vectorizedHashCode 95 = .ok (.iload_n 1, 1) := dk_27 (dk_at dksJ16_vectorizedHashCode_4 5 rfl rfl)
theorem dJ16_vectorizedHashCode_96 : decode cJ16_vectorizedHashCode 96 = .ok (.iload_n 2, 1) := dk_28 (dk_at dksJ16_vectorizedHashCode_4 6 rfl rfl)
theorem dJ16_vectorizedHashCode_97 : decode cJ16_vectorizedHashCode 97 = .ok (.invokestatic 75, 3) := dk_184 0 75 (dk_at dksJ16_vectorizedHashCode_4 7 rfl rfl)
theorem dJ16_vectorizedHashCode_100 : decode cJ16_vectorizedHashCode 100 = .ok (.goto 57, 3) := dk_167 0 57 (dk_at dksJ16_vectorizedHashCode_4 10 rfl rfl)
theorem dJ16_vectorizedHashCode_103 : decode cJ16_vectorizedHashCode 103 = .ok (.iload_n 3, 1) := dk_29 (dk_at dksJ16_vectorizedHashCode_4 13 rfl rfl)
theorem dJ16_vectorizedHashCode_104 : decode cJ16_vectorizedHashCode 104 = .ok (.aload_n 0, 1) := dk_42 (dk_at dksJ16_vectorizedHashCode_4 14 rfl rfl)
theorem dJ16_vectorizedHashCode_105 : decode cJ16_vectorizedHashCode 105 = .ok (.checkcast 77, 3) := dk_192 0 77 (dk_at dksJ16_vectorizedHashCode_4 15 rfl rfl)
theorem dJ16_vectorizedHashCode_108 : decode cJ16_vectorizedHashCode 108 = .ok (.iload_n 1, 1) := dk_27 (dk_at dksJ16_vectorizedHashCode_4 18 rfl rfl)
theorem dJ16_vectorizedHashCode_109 : decode cJ16_vectorizedHashCode 109 = .ok (.iload_n 2, 1) := dk_28 (dk_at dksJ16_vectorizedHashCode_4 19 rfl rfl)
theorem dJ16_vectorizedHashCode_110 : decode cJ16_vectorizedHashCode 110 = .ok (.invokestatic 79, 3) := dk_184 0 79 (dk_at dksJ16_vectorizedHashCode_4 20 rfl rfl)
theorem dJ16_vectorizedHashCode_113 : decode cJ16_vectorizedHashCode 113 = .ok (.goto 44, 3) := dk_167 0 44 (dk_at dksJ16_vectorizedHashCode_5 0 rfl rfl)
theorem dJ16_vectorizedHashCode_116 : decode cJ16_vectorizedHashCode 116 = .ok (.iload_n 3, 1) := dk_29 (dk_at dksJ16_vectorizedHashCode_5 3 rfl rfl)
theorem dJ16_vectorizedHashCode_117 : decode cJ16_vectorizedHashCode 117 = .ok (.aload_n 0, 1) := dk_42 (dk_at dksJ16_vectorizedHashCode_5 4 rfl rfl)
theorem dJ16_vectorizedHashCode_118 : decode cJ16_vectorizedHashCode 118 = .ok (.checkcast 82, 3) := dk_192 0 82 (dk_at dksJ16_vectorizedHashCode_5 5 rfl rfl)
theorem dJ16_vectorizedHashCode_121 : decode cJ16_vectorizedHashCode 121 = .ok (.iload_n 1, 1) := dk_27 (dk_at dksJ16_vectorizedHashCode_5 8 rfl rfl)
theorem dJ16_vectorizedHashCode_122 : decode cJ16_vectorizedHashCode 122 = .ok (.iload_n 2, 1) := dk_28 (dk_at dksJ16_vectorizedHashCode_5 9 rfl rfl)
theorem dJ16_vectorizedHashCode_123 : decode cJ16_vectorizedHashCode 123 = .ok (.invokestatic 84, 3) := dk_184 0 84 (dk_at dksJ16_vectorizedHashCode_5 10 rfl rfl)
theorem dJ16_vectorizedHashCode_126 : decode cJ16_vectorizedHashCode 126 = .ok (.goto 31, 3) := dk_167 0 31 (dk_at dksJ16_vectorizedHashCode_5 13 rfl rfl)
theorem dJ16_vectorizedHashCode_129 : decode cJ16_vectorizedHashCode 129 = .ok (.new 87, 3) := dk_187 0 87 (dk_at dksJ16_vectorizedHashCode_5 16 rfl rfl)
theorem dJ16_vectorizedHashCode_132 : decode cJ16_vectorizedHashCode 132 = .ok (.dup, 1) := dk_89 (dk_at dksJ16_vectorizedHashCode_5 19 rfl rfl)
theorem dJ16_vectorizedHashCode_133 : decode cJ16_vectorizedHashCode 133 = .ok (.new 89, 3) := dk_187 0 89 (dk_at dksJ16_vectorizedHashCode_5 20 rfl rfl)
theorem dJ16_vectorizedHashCode_136 : decode cJ16_vectorizedHashCode 136 = .ok (.dup, 1) := dk_89 (dk_at dksJ16_vectorizedHashCode_5 23 rfl rfl)
theorem dJ16_vectorizedHashCode_137 : decode cJ16_vectorizedHashCode 137 = .ok (.invokespecial 91, 3) := dk_183 0 91 (dk_at dksJ16_vectorizedHashCode_6 0 rfl rfl)
theorem dJ16_vectorizedHashCode_140 : decode cJ16_vectorizedHashCode 140 = .ok (.ldc 92, 2) := dk_18 92 (dk_at dksJ16_vectorizedHashCode_6 3 rfl rfl)
theorem dJ16_vectorizedHashCode_142 : decode cJ16_vectorizedHashCode 142 = .ok (.invokevirtual 94, 3) := dk_182 0 94 (dk_at dksJ16_vectorizedHashCode_6 5 rfl rfl)
theorem dJ16_vectorizedHashCode_145 : decode cJ16_vectorizedHashCode 145 = .ok (.iload 4, 2) := dk_21 4 (dk_at dksJ16_vectorizedHashCode_6 8 rfl rfl)
theorem dJ16_vectorizedHashCode_147 : decode cJ16_vectorizedHashCode 147 = .ok (.invokevirtual 98, 3) := dk_182 0 98 (dk_at dksJ16_vectorizedHashCode_6 10 rfl rfl)
theorem dJ16_vectorizedHashCode_150 : decode cJ16_vectorizedHashCode 150 = .ok (.invokevirtual 101, 3) := dk_182 0 101 (dk_at dksJ16_vectorizedHashCode_6 13 rfl rfl)
theorem dJ16_vectorizedHashCode_153 : decode cJ16_vectorizedHashCode 153 = .ok (.invokespecial 105, 3) := dk_183 0 105 (dk_at dksJ16_vectorizedHashCode_6 16 rfl rfl)
theorem dJ16_vectorizedHashCode_156 : decode cJ16_vectorizedHashCode 156 = .ok (.athrow, 1) := dk_191 (dk_at dksJ16_vectorizedHashCode_6 19 rfl rfl)
theorem dJ16_vectorizedHashCode_157 : decode cJ16_vectorizedHashCode 157 = .ok (.ireturn, 1) := dk_172 (dk_at dksJ16_vectorizedHashCode_6 20 rfl rfl)
theorem md_J16_vectorizedHashCode : xMd yJ16_vectorizedHashCode cJ16_vectorizedHashCode 5 (Option.some Jvm.ClassFile.FieldType.int) 5 := ⟨q751, q144, by decide, by decide +kernel, by decide +kernel, by decide +kernel⟩
def f_J16_vectorizedHashCode_129   (v4 : Int32) (p0 : PH) : Option (xO × PH) :=
  none
def f_J16_vectorizedHashCode (p0 : PH) (a0 : Option Nat) (a1 : Int32) (a2 : Int32) (a3 : Int32) (a4 : Int32) : Option (xO × PH) :=
  (xtab a4 4 [
  (xcsa p0 (a0) 2
  (xcI (f_J16_signedHashCode p0 a3 a0 a1 a2) fun x2 p1 =>
  (rI x2 p1))),
  none,
  (f_J16_vectorizedHashCode_129 a4 p0),
  (f_J16_vectorizedHashCode_129 a4 p0),
  (xcsa p0 (a0) 2
  none),
  none,
  (xcsa p0 (a0) 0
  none)]
  (f_J16_vectorizedHashCode_129 a4 p0))
theorem f_J16_vectorizedHashCode_129_ok {G : xG} (hO : xOK G)   (v4 : Int32) (p0 : PH) : X G "jdk/internal/util/ArraysSupport" "vectorizedHashCode" cJ16_vectorizedHashCode 5 (Option.some Jvm.ClassFile.FieldType.int) 1 129 [(4, .int v4)] [] p0 (f_J16_vectorizedHashCode_129 v4 p0) := by
  unfold f_J16_vectorizedHashCode_129
  exact x_no
theorem f_J16_vectorizedHashCode_ok {G : xG} (hO : xOK G) (p0 : PH) (a0 : Option Nat) (a1 : Int32) (a2 : Int32) (a3 : Int32) (a4 : Int32) : CT G 1 yJ16_vectorizedHashCode cJ16_vectorizedHashCode 5 (Option.some Jvm.ClassFile.FieldType.int) [va_rf a0, .int a1, .int a2, .int a3, .int a4] p0 (f_J16_vectorizedHashCode p0 a0 a1 a2 a3 a4) := by
  refine CT_of hO (by decide +kernel) (by decide +kernel) (lg_slen _ (by simp only [List.map, xcat]; exact Nat.le_of_ble_eq_true rfl)) ?_
  rw [show lv_args 0 [va_rf a0, .int a1, .int a2, .int a3, .int a4] = [(0, va_rf a0), (1, .int a1), (2, .int a2), (3, .int a3), (4, .int a4)] from by simp only [lv_args, xcat] <;> rfl]
  show X G "jdk/internal/util/ArraysSupport" "vectorizedHashCode" cJ16_vectorizedHashCode 5 (Option.some Jvm.ClassFile.FieldType.int) 1 0 [(0, va_rf a0), (1, .int a1), (2, .int a2), (3, .int a3), (4, .int a4)] [] p0 (f_J16_vectorizedHashCode p0 a0 a1 a2 a3 a4)
  refine x_iload 4 dJ16_vectorizedHashCode_0 rfl (n := 2) rfl ?_
  refine x_tab [44, 57, 129, 129, 90, 103, 116] dJ16_vectorizedHashCode_2 rfl rfl (td := 129) (by decide) ?_ ⟨?_, ?_, ?_, ?_, ?_, ?_, ?_, trivial⟩
  · refine x_sub [4] [(4, .int a4)] rfl ?_
    exact f_J16_vectorizedHashCode_129_ok hO a4 p0
  · refine x_iload_n 3 dJ16_vectorizedHashCode_44 rfl rfl (n := 45) rfl ?_
    refine x_aload_n 0 dJ16_vectorizedHashCode_45 rfl rfl (n := 46) rfl ?_
    refine x_casta (x := a0) (t := 2) q752 rfl (by decide) rfl dJ16_vectorizedHashCode_46 (n := 49) rfl ?_
    refine x_iload_n 1 dJ16_vectorizedHashCode_49 rfl rfl (n := 50) rfl ?_
    refine x_iload_n 2 dJ16_vectorizedHashCode_50 rfl rfl (n := 51) rfl ?_
    refine x_callS_I [.int a3, va_rf a0, .int a1, .int a2] [] (f_J16_signedHashCode_ok hO p0 a3 a0 a1 a2) md_J16_signedHashCode q753 q754 dJ16_vectorizedHashCode_51 rfl rfl (by decide) (Nat.le_of_ble_eq_true rfl) (n := 54) rfl (fun x2 p1 => ?_)
    refine x_goto dJ16_vectorizedHashCode_54 (n := 157) (by decide) ?_
    exact x_ireturn dJ16_vectorizedHashCode_157
  · refine x_aload_n 0 dJ16_vectorizedHashCode_57 rfl rfl (n := 58) rfl ?_
    exact x_no
  · refine x_sub [4] [(4, .int a4)] rfl ?_
    exact f_J16_vectorizedHashCode_129_ok hO a4 p0
  · refine x_sub [4] [(4, .int a4)] rfl ?_
    exact f_J16_vectorizedHashCode_129_ok hO a4 p0
  · refine x_iload_n 3 dJ16_vectorizedHashCode_90 rfl rfl (n := 91) rfl ?_
    refine x_aload_n 0 dJ16_vectorizedHashCode_91 rfl rfl (n := 92) rfl ?_
    refine x_casta (x := a0) (t := 2) q752 rfl (by decide) rfl dJ16_vectorizedHashCode_92 (n := 95) rfl ?_
    refine x_iload_n 1 dJ16_vectorizedHashCode_95 rfl rfl (n := 96) rfl ?_
    refine x_iload_n 2 dJ16_vectorizedHashCode_96 rfl rfl (n := 97) rfl ?_
    exact x_no
  · refine x_iload_n 3 dJ16_vectorizedHashCode_103 rfl rfl (n := 104) rfl ?_
    refine x_aload_n 0 dJ16_vectorizedHashCode_104 rfl rfl (n := 105) rfl ?_
    exact x_no
  · refine x_iload_n 3 dJ16_vectorizedHashCode_116 rfl rfl (n := 117) rfl ?_
    refine x_aload_n 0 dJ16_vectorizedHashCode_117 rfl rfl (n := 118) rfl ?_
    refine x_casta (x := a0) (t := 0) q783 rfl (by decide) rfl dJ16_vectorizedHashCode_118 (n := 121) rfl ?_
    refine x_iload_n 1 dJ16_vectorizedHashCode_121 rfl rfl (n := 122) rfl ?_
    refine x_iload_n 2 dJ16_vectorizedHashCode_122 rfl rfl (n := 123) rfl ?_
    exact x_no
abbrev cJ7_hashCode : ByteArray := prog_33_method_21_code
def yJ7_hashCode : MethodName := ⟨RJ7, "hashCode", "([B)I"⟩
def dkwJ7_hashCode_2 : List UInt8 := [3, 167, 0, 22, 42, 3, 51, 17, 0, 255, 126, 167, 0, 12, 42, 3, 42, 190, 3, 7, 184, 0, 84, 172]
abbrev dktJ7_hashCode_2 : List UInt8 := dkwJ7_hashCode_2 ++ []
def dkwJ7_hashCode_1 : List UInt8 := [171, 0, 0, 0, 0, 40, 0, 0, 0, 2, 0, 0, 0, 0, 0, 0, 0, 26, 0, 0, 0, 1, 0, 0, 0, 30]
abbrev dktJ7_hashCode_1 : List UInt8 := dkwJ7_hashCode_1 ++ dktJ7_hashCode_2
def dkwJ7_hashCode_0 : List UInt8 := [42, 190]
abbrev dktJ7_hashCode_0 : List UInt8 := dkwJ7_hashCode_0 ++ dktJ7_hashCode_1
theorem dksJ7_hashCode_0 : cJ7_hashCode.data.toList.drop 0 = dktJ7_hashCode_0 := by decide +kernel
theorem dksJ7_hashCode_1 : cJ7_hashCode.data.toList.drop 2 = dktJ7_hashCode_1 := dk_seg dksJ7_hashCode_0 2 rfl rfl
theorem dksJ7_hashCode_2 : cJ7_hashCode.data.toList.drop 28 = dktJ7_hashCode_2 := dk_seg dksJ7_hashCode_1 26 rfl rfl
theorem dJ7_hashCode_0 : decode cJ7_hashCode 0 = .ok (.aload_n 0, 1) := dk_42 (dk_at dksJ7_hashCode_0 0 rfl rfl)
theorem dJ7_hashCode_1 : decode cJ7_hashCode 1 = .ok (.arraylength, 1) := dk_190 (dk_at dksJ7_hashCode_0 1 rfl rfl)
theorem dJ7_hashCode_2 : decode cJ7_hashCode 2 = .ok (.lookupswitch 40 #[(0, 26), (1, 30)], 26) := by decide +kernel
theorem dJ7_hashCode_28 : decode cJ7_hashCode 28 = .ok (.iconst 0, 1) := dk_3 (dk_at dksJ7_hashCode_2 0 rfl rfl)
theorem dJ7_hashCode_29 : decode cJ7_hashCode 29 = .ok (.goto 22, 3) := dk_167 0 22 (dk_at dksJ7_hashCode_2 1 rfl rfl)
theorem dJ7_hashCode_32 : decode cJ7_hashCode 32 = .ok (.aload_n 0, 1) := dk_42 (dk_at dksJ7_hashCode_2 4 rfl rfl)
theorem dJ7_hashCode_33 : decode cJ7_hashCode 33 = .ok (.iconst 0, 1) := dk_3 (dk_at dksJ7_hashCode_2 5 rfl rfl)
theorem dJ7_hashCode_34 : decode cJ7_hashCode 34 = .ok (.baload, 1) := dk_51 (dk_at dksJ7_hashCode_2 6 rfl rfl)
theorem dJ7_hashCode_35 : decode cJ7_hashCode 35 = .ok (.sipush 255, 3) := dk_17 0 255 (dk_at dksJ7_hashCode_2 7 rfl rfl)
theorem dJ7_hashCode_38 : decode cJ7_hashCode 38 = .ok (.iand, 1) := dk_126 (dk_at dksJ7_hashCode_2 10 rfl rfl)
theorem dJ7_hashCode_39 : decode cJ7_hashCode 39 = .ok (.goto 12, 3) := dk_167 0 12 (dk_at dksJ7_hashCode_2 11 rfl rfl)
theorem dJ7_hashCode_42 : decode cJ7_hashCode 42 = .ok (.aload_n 0, 1) := dk_42 (dk_at dksJ7_hashCode_2 14 rfl rfl)
theorem dJ7_hashCode_43 : decode cJ7_hashCode 43 = .ok (.iconst 0, 1) := dk_3 (dk_at dksJ7_hashCode_2 15 rfl rfl)
theorem dJ7_hashCode_44 : decode cJ7_hashCode 44 = .ok (.aload_n 0, 1) := dk_42 (dk_at dksJ7_hashCode_2 16 rfl rfl)
theorem dJ7_hashCode_45 : decode cJ7_hashCode 45 = .ok (.arraylength, 1) := dk_190 (dk_at dksJ7_hashCode_2 17 rfl rfl)
theorem dJ7_hashCode_46 : decode cJ7_hashCode 46 = .ok (.iconst 0, 1) := dk_3 (dk_at dksJ7_hashCode_2 18 rfl rfl)
theorem dJ7_hashCode_47 : decode cJ7_hashCode 47 = .ok (.iconst 4, 1) := dk_7 (dk_at dksJ7_hashCode_2 19 rfl rfl)
theorem dJ7_hashCode_48 : decode cJ7_hashCode 48 = .ok (.invokestatic 84, 3) := dk_184 0 84 (dk_at dksJ7_hashCode_2 20 rfl rfl)
theorem dJ7_hashCode_51 : decode cJ7_hashCode 51 = .ok (.ireturn, 1) := dk_172 (dk_at dksJ7_hashCode_2 23 rfl rfl)
theorem md_J7_hashCode : xMd yJ7_hashCode cJ7_hashCode 1 (Option.some Jvm.ClassFile.FieldType.int) 1 := ⟨q748, q134, by decide, by decide +kernel, by decide +kernel, by decide +kernel⟩
def f_J7_hashCode (p0 : PH) (a0 : Option Nat) : Option (xO × PH) :=
  (xnul a0 none fun b1 =>
  (xlen p0 b1 fun x2 =>
  (if x2 = 0 then
  (rI 0 p0) else
  (if x2 = 1 then
  (xaI p0 b1 2 0 fun x3 =>
  (rI (x3 &&& 255) p0)) else
  (xlen p0 b1 fun x4 =>
  (xcI (f_J16_vectorizedHashCode p0 (some b1) 0 x4 0 4) fun x6 p5 =>
  (rI x6 p5)))))))
theorem f_J7_hashCode_ok {G : xG} (hO : xOK G) (p0 : PH) (a0 : Option Nat) : CT G 2 yJ7_hashCode cJ7_hashCode 1 (Option.some Jvm.ClassFile.FieldType.int) [va_rf a0] p0 (f_J7_hashCode p0 a0) := by
  refine CT_of hO (by decide +kernel) (by decide +kernel) (lg_slen _ (by simp only [List.map, xcat]; exact Nat.le_of_ble_eq_true rfl)) ?_
  rw [show lv_args 0 [va_rf a0] = [(0, va_rf a0)] from by simp only [lv_args, xcat] <;> rfl]
  show X G "java/lang/StringLatin1" "hashCode" cJ7_hashCode 1 (Option.some Jvm.ClassFile.FieldType.int) 2 0 [(0, va_rf a0)] [] p0 (f_J7_hashCode p0 a0)
  refine x_aload_n 0 dJ7_hashCode_0 rfl rfl (n := 1) rfl ?_
  refine x_sm (fun b1 e => ?_)
  subst e
  refine x_alen dJ7_hashCode_1 (n := 2) rfl (fun x2 => ?_)
  refine x_ite (fun h0 => ?_) (fun h0 => ?_)
  · refine x_lk (n := 28) dJ7_hashCode_2 rfl (by rw [h0] <;> rfl) (by decide) ?_
    refine x_iconst 0 dJ7_hashCode_28 rfl (n := 29) rfl ?_
    refine x_goto dJ7_hashCode_29 (n := 51) (by decide) ?_
    exact x_ireturn dJ7_hashCode_51
  refine x_ite (fun h1 => ?_) (fun h1 => ?_)
  · refine x_lk (n := 32) dJ7_hashCode_2 rfl (by rw [h1] <;> rfl) (by decide) ?_
    refine x_aload_nr 0 dJ7_hashCode_32 rfl rfl (n := 33) rfl ?_
    refine x_iconst 0 dJ7_hashCode_33 rfl (n := 34) rfl ?_
    refine x_bald (t := 2) rfl dJ7_hashCode_34 (n := 35) rfl (fun x3 => ?_)
    refine x_sipush 255 dJ7_hashCode_35 rfl (n := 38) rfl ?_
    refine x_iand dJ7_hashCode_38 (n := 39) rfl ?_
    refine x_goto dJ7_hashCode_39 (n := 51) (by decide) ?_
    exact x_ireturn dJ7_hashCode_51
  refine x_lk (n := 42) dJ7_hashCode_2 rfl (by show Op.lookupswitch.offset [(0, 26), (1, 30)] 40 _ = 40; rw [lv_osw (a := 0) h0 rfl]; rw [lv_osw (a := 1) h1 rfl]; rfl) (by decide) ?_
  refine x_aload_nr 0 dJ7_hashCode_42 rfl rfl (n := 43) rfl ?_
  refine x_iconst 0 dJ7_hashCode_43 rfl (n := 44) rfl ?_
  refine x_aload_nr 0 dJ7_hashCode_44 rfl rfl (n := 45) rfl ?_
  refine x_alen dJ7_hashCode_45 (n := 46) rfl (fun x4 => ?_)
  refine x_iconst 0 dJ7_hashCode_46 rfl (n := 47) rfl ?_
  refine x_iconst 4 dJ7_hashCode_47 rfl (n := 48) rfl ?_
  refine x_callS_I [.ref b1, .int 0, .int x4, .int 0, .int 4] [] (f_J16_vectorizedHashCode_ok hO p0 (some b1) 0 x4 0 4) md_J16_vectorizedHashCode q749 q750 dJ7_hashCode_48 rfl rfl (by decide) (Nat.le_of_ble_eq_true rfl) (n := 51) rfl (fun x6 p5 => ?_)
  exact x_ireturn dJ7_hashCode_51
abbrev cJ6_hashCode : ByteArray := prog_31_method_78_code
def yJ6_hashCode : MethodName := ⟨RJ6, "hashCode", "()I"⟩
def dkwJ6_hashCode_2 : List UInt8 := [181, 0, 23, 167, 0, 8, 42, 27, 181, 0, 19, 27, 172]
abbrev dktJ6_hashCode_2 : List UInt8 := dkwJ6_hashCode_2 ++ []
def dkwJ6_hashCode_1 : List UInt8 := [180, 0, 9, 184, 2, 116, 167, 0, 10, 42, 180, 0, 9, 184, 2, 120, 60, 27, 154, 0, 11, 42, 4]
abbrev dktJ6_hashCode_1 : List UInt8 := dkwJ6_hashCode_1 ++ dktJ6_hashCode_2
def dkwJ6_hashCode_0 : List UInt8 := [42, 180, 0, 19, 60, 27, 154, 0, 52, 42, 180, 0, 23, 154, 0, 45, 42, 182, 1, 236, 153, 0, 13, 42]
abbrev dktJ6_hashCode_0 : List UInt8 := dkwJ6_hashCode_0 ++ dktJ6_hashCode_1
theorem dksJ6_hashCode_0 : cJ6_hashCode.data.toList.drop 0 = dktJ6_hashCode_0 := by decide +kernel
theorem dksJ6_hashCode_1 : cJ6_hashCode.data.toList.drop 24 = dktJ6_hashCode_1 := dk_seg dksJ6_hashCode_0 24 rfl rfl
theorem dksJ6_hashCode_2 : cJ6_hashCode.data.toList.drop 47 = dktJ6_hashCode_2 := dk_seg dksJ6_hashCode_1 23 rfl rfl
theorem dJ6_hashCode_0 : decode cJ6_hashCode 0 = .ok (.aload_n 0, 1) := dk_42 (dk_at dksJ6_hashCode_0 0 rfl rfl)
theorem dJ6_hashCode_1 : decode cJ6_hashCode 1 = .ok (.getfield 19, 3) := dk_180 0 19 (dk_at dksJ6_hashCode_0 1 rfl rfl)
theorem dJ6_hashCode_4 : decode cJ6_hashCode 4 = .ok (.istore_n 1, 1) := dk_60 (dk_at dksJ6_hashCode_0 4 rfl rfl)
theorem dJ6_hashCode_5 : decode cJ6_hashCode 5 = .ok (.iload_n 1, 1) := dk_27 (dk_at dksJ6_hashCode_0 5 rfl rfl)
theorem dJ6_hashCode_6 : decode cJ6_hashCode 6 = .ok (.ifCond .ne 52, 3) := dk_154 0 52 (dk_at dksJ6_hashCode_0 6 rfl rfl)
theorem dJ6_hashCode_9 : decode cJ6_hashCode 9 = .ok (.aload_n 0, 1) := dk_42 (dk_at dksJ6_hashCode_0 9 rfl rfl)
theorem dJ6_hashCode_10 : decode cJ6_hashCode 10 = .ok (.getfield 23, 3) := dk_180 0 23 (dk_at dksJ6_hashCode_0 10 rfl rfl)
theorem dJ6_hashCode_13 : decode cJ6_hashCode 13 = .ok (.ifCond .ne 45, 3) := dk_154 0 45 (dk_at dksJ6_hashCode_0 13 rfl rfl)
theorem dJ6_hashCode_16 : decode cJ6_hashCode 16 = .ok (.aload_n 0, 1) := dk_42 (dk_at dksJ6_hashCode_0 16 rfl rfl)
theorem dJ6_hashCode_17 : decode cJ6_hashCode 17 = .ok (.invokevirtual 492, 3) := dk_182 1 236 (dk_at dksJ6_hashCode_0 17 rfl rfl)
theorem dJ6_hashCode_20 : decode cJ6_hashCode 20 = .ok (.ifCond .eq 13, 3) := dk_153 0 13 (dk_at dksJ6_hashCode_0 20 rfl rfl)
theorem dJ6_hashCode_23 : decode cJ6_hashCode 23 = .ok (.aload_n 0, 1) := dk_42 (dk_at dksJ6_hashCode_0 23 rfl rfl)
theorem dJ6_hashCode_24 : decode cJ6_hashCode 24 = .ok (.getfield 9, 3) := dk_180 0 9 (dk_at dksJ6_hashCode_1 0 rfl rfl)
theorem dJ6_hashCode_27 : decode cJ6_hashCode 27 = .ok (.invokestatic 628, 3) := dk_184 2 116 (dk_at dksJ6_hashCode_1 3 rfl rfl)
theorem dJ6_hashCode_30 : decode cJ6_hashCode 30 = .ok (.goto 10, 3) := dk_167 0 10 (dk_at dksJ6_hashCode_1 6 rfl rfl)
theorem dJ6_hashCode_33 : decode cJ6_hashCode 33 = .ok (.aload_n 0, 1) := dk_42 (dk_at dksJ6_hashCode_1 9 rfl rfl)
theorem dJ6_hashCode_34 : decode cJ6_hashCode 34 = .ok (.getfield 9, 3) := dk_180 0 9 (dk_at dksJ6_hashCode_1 10 rfl rfl)
theorem dJ6_hashCode_37 : decode cJ6_hashCode 37 = .ok (.invokestatic 632, 3) := dk_184 2 120 (dk_at dksJ6_hashCode_1 13 rfl rfl)
theorem dJ6_hashCode_40 : decode cJ6_hashCode 40 = .ok (.istore_n 1, 1) := dk_60 (dk_at dksJ6_hashCode_1 16 rfl rfl)
theorem dJ6_hashCode_41 : decode cJ6_hashCode 41 = .ok (.iload_n 1, 1) := dk_27 (dk_at dksJ6_hashCode_1 17 rfl rfl)
theorem dJ6_hashCode_42 : decode cJ6_hashCode 42 = .ok (.ifCond .ne 11, 3) := dk_154 0 11 (dk_at dksJ6_hashCode_1 18 rfl rfl)
theorem dJ6_hashCode_45 : decode cJ6_hashCode 45 = .ok (.aload_n 0, 1) := dk_42 (dk_at dksJ6_hashCode_1 21 rfl rfl)
theorem dJ6_hashCode_46 : decode cJ6_hashCode 46 = .ok (.iconst 1, 1) := dk_4 (dk_at dksJ6_hashCode_1 22 rfl rfl)
theorem dJ6_hashCode_47 : decode cJ6_hashCode 47 = .ok (.putfield 23, 3) := dk_181 0 23 (dk_at dksJ6_hashCode_2 0 rfl rfl)
theorem dJ6_hashCode_50 : decode cJ6_hashCode 50 = .ok (.goto 8, 3) := dk_167 0 8 (dk_at dksJ6_hashCode_2 3 rfl rfl)
theorem dJ6_hashCode_53 : decode cJ6_hashCode 53 = .ok (.aload_n 0, 1) := dk_42 (dk_at dksJ6_hashCode_2 6 rfl rfl)
theorem dJ6_hashCode_54 : decode cJ6_hashCode 54 = .ok (.iload_n 1, 1) := dk_27 (dk_at dksJ6_hashCode_2 7 rfl rfl)
theorem dJ6_hashCode_55 : decode cJ6_hashCode 55 = .ok (.putfield 19, 3) := dk_181 0 19 (dk_at dksJ6_hashCode_2 8 rfl rfl)
theorem dJ6_hashCode_58 : decode cJ6_hashCode 58 = .ok (.iload_n 1, 1) := dk_27 (dk_at dksJ6_hashCode_2 11 rfl rfl)
theorem dJ6_hashCode_59 : decode cJ6_hashCode 59 = .ok (.ireturn, 1) := dk_172 (dk_at dksJ6_hashCode_2 12 rfl rfl)
theorem md_J6_hashCode : xMd yJ6_hashCode cJ6_hashCode 2 (Option.some Jvm.ClassFile.FieldType.int) 0 := ⟨q745, q133, by decide, by decide +kernel, by decide +kernel, by decide +kernel⟩
def f_J6_hashCode_40 (a0 : Nat)  (w0 : Int32) (p0 : PH) : Option (xO × PH) :=
  (if w0 = 0 then
  (xpF p0 a0 16 3 (.int 1) fun p10 =>
  (rI w0 p10)) else
  (xpF p0 a0 16 2 (.int w0) fun p9 =>
  (rI w0 p9)))
def f_J6_hashCode (p0 : PH) (a0 : Nat) : Option (xO × PH) :=
  (xcl1 p0 a0 16 (xgI p0 a0 16 2 fun x1 =>
  (if x1 = 0 then
  (xgI p0 a0 16 3 fun x2 =>
  (if x2 = 0 then
  (xcI (f_J6_isLatin1 p0 a0 ) fun x4 p3 =>
  (if x4 = 0 then
  (xgR p3 a0 16 0 fun x5 =>
  none) else
  (xgR p3 a0 16 0 fun x6 =>
  (xcI (f_J7_hashCode p3 x6) fun x8 p7 =>
  (f_J6_hashCode_40 a0 x8 p7))))) else
  (rI x1 p0))) else
  (rI x1 p0))))
theorem rc_J6_hashCode {p0 : PH} {a0 : Nat} : ∀ z, f_J6_hashCode p0 a0 = some z → xco p0 a0 = some 16 := fun z h => xcl1_some h
theorem f_J6_hashCode_40_ok {G : xG} (hO : xOK G) (a0 : Nat)  (w0 : Int32) (p0 : PH) : X G "java/lang/String" "hashCode" cJ6_hashCode 2 (Option.some Jvm.ClassFile.FieldType.int) 3 40 [(0, .ref a0)] [.int w0] p0 (f_J6_hashCode_40 a0 w0 p0) := by
  unfold f_J6_hashCode_40
  refine x_istore_n [(1, .int w0), (0, .ref a0)] dJ6_hashCode_40 rfl (by decide) rfl (n := 41) rfl ?_
  refine x_iload_n 0 dJ6_hashCode_41 rfl rfl (n := 42) rfl ?_
  refine x_if_ne dJ6_hashCode_42 (t := 53) (by decide) (n := 45) rfl (fun _ => ?_) (fun _ => ?_)
  · refine x_aload_nr 1 dJ6_hashCode_53 rfl rfl (n := 54) rfl ?_
    refine x_iload_n 0 dJ6_hashCode_54 rfl rfl (n := 55) rfl ?_
    refine x_pF (pl_J6_19 _ _ ⟨rfl, rfl⟩) dJ6_hashCode_55 (n := 58) rfl (fun p9 => ?_)
    refine x_iload_n 0 dJ6_hashCode_58 rfl rfl (n := 59) rfl ?_
    exact x_ireturn dJ6_hashCode_59
  · refine x_aload_nr 1 dJ6_hashCode_45 rfl rfl (n := 46) rfl ?_
    refine x_iconst 1 dJ6_hashCode_46 rfl (n := 47) rfl ?_
    refine x_pF (pl_J6_23 _ _ ⟨rfl, rfl⟩) dJ6_hashCode_47 (n := 50) rfl (fun p10 => ?_)
    refine x_goto dJ6_hashCode_50 (n := 58) (by decide) ?_
    refine x_iload_n 0 dJ6_hashCode_58 rfl rfl (n := 59) rfl ?_
    exact x_ireturn dJ6_hashCode_59
theorem f_J6_hashCode_ok {G : xG} (hO : xOK G) (p0 : PH) (a0 : Nat) : CT G 3 yJ6_hashCode cJ6_hashCode 2 (Option.some Jvm.ClassFile.FieldType.int) [.ref a0] p0 (f_J6_hashCode p0 a0) := by
  refine CT_of hO (by decide +kernel) (by decide +kernel) (Nat.le_of_ble_eq_true rfl) ?_
  show X G "java/lang/String" "hashCode" cJ6_hashCode 2 (Option.some Jvm.ClassFile.FieldType.int) 3 0 [(0, .ref a0)] [] p0 (f_J6_hashCode p0 a0)
  refine x_cl1 (fun e0 => ?_)
  refine x_aload_nr 0 dJ6_hashCode_0 rfl rfl (n := 1) rfl ?_
  refine x_getI fl_J6_19 dJ6_hashCode_1 (n := 4) rfl (fun x1 => ?_)
  refine x_istore_n [(1, .int x1), (0, .ref a0)] dJ6_hashCode_4 rfl (by decide) rfl (n := 5) rfl ?_
  refine x_iload_n 0 dJ6_hashCode_5 rfl rfl (n := 6) rfl ?_
  refine x_if_ne dJ6_hashCode_6 (t := 58) (by decide) (n := 9) rfl (fun _ => ?_) (fun _ => ?_)
  · refine x_iload_n 0 dJ6_hashCode_58 rfl rfl (n := 59) rfl ?_
    exact x_ireturn dJ6_hashCode_59
  · refine x_aload_nr 1 dJ6_hashCode_9 rfl rfl (n := 10) rfl ?_
    refine x_getI fl_J6_23 dJ6_hashCode_10 (n := 13) rfl (fun x2 => ?_)
    refine x_if_ne dJ6_hashCode_13 (t := 58) (by decide) (n := 16) rfl (fun _ => ?_) (fun _ => ?_)
    · refine x_iload_n 0 dJ6_hashCode_58 rfl rfl (n := 59) rfl ?_
      exact x_ireturn dJ6_hashCode_59
    · refine x_aload_nr 1 dJ6_hashCode_16 rfl rfl (n := 17) rfl ?_
      refine x_callV_I [] [] (f_J6_isLatin1_ok hO p0 a0 ) rc_J6_isLatin1 md_J6_isLatin1 rfl q413 q414 q415 dJ6_hashCode_17 rfl rfl (by decide) (Nat.le_of_ble_eq_true rfl) (n := 20) rfl (fun x4 p3 => ?_)
      refine x_if_eq dJ6_hashCode_20 (t := 33) (by decide) (n := 23) rfl (fun _ => ?_) (fun _ => ?_)
      · refine x_aload_nr 1 dJ6_hashCode_33 rfl rfl (n := 34) rfl ?_
        refine x_getR fl_J6_9 dJ6_hashCode_34 (n := 37) rfl (fun x5 => ?_)
        exact x_no
      · refine x_aload_nr 1 dJ6_hashCode_23 rfl rfl (n := 24) rfl ?_
        refine x_getR fl_J6_9 dJ6_hashCode_24 (n := 27) rfl (fun x6 => ?_)
        refine x_callS_I [va_rf x6] [] (f_J7_hashCode_ok hO p3 x6) md_J7_hashCode q746 q747 dJ6_hashCode_27 rfl rfl (by decide) (Nat.le_of_ble_eq_true rfl) (n := 30) rfl (fun x8 p7 => ?_)
        refine x_goto dJ6_hashCode_30 (n := 40) (by decide) ?_
        refine x_sub [1] [(0, .ref a0)] rfl ?_
        exact f_J6_hashCode_40_ok hO a0 x8 p7
abbrev cJ7_equals : ByteArray := prog_33_method_13_code
def yJ7_equals : MethodName := ⟨RJ7, "equals", "([B[B)Z"⟩
def dkwJ7_equals_1 : List UInt8 := [3, 172, 132, 2, 1, 167, 255, 236, 4, 172, 3, 172]
abbrev dktJ7_equals_1 : List UInt8 := dkwJ7_equals_1 ++ []
def dkwJ7_equals_0 : List UInt8 := [42, 190, 43, 190, 160, 0, 30, 3, 61, 28, 42, 190, 162, 0, 20, 42, 28, 51, 43, 28, 51, 159, 0, 5]
abbrev dktJ7_equals_0 : List UInt8 := dkwJ7_equals_0 ++ dktJ7_equals_1
theorem dksJ7_equals_0 : cJ7_equals.data.toList.drop 0 = dktJ7_equals_0 := by decide +kernel
theorem dksJ7_equals_1 : cJ7_equals.data.toList.drop 24 = dktJ7_equals_1 := dk_seg dksJ7_equals_0 24 rfl rfl
theorem dJ7_equals_0 : decode cJ7_equals 0 = .ok (.aload_n 0, 1) := dk_42 (dk_at dksJ7_equals_0 0 rfl rfl)
theorem dJ7_equals_1 : decode cJ7_equals 1 = .ok (.arraylength, 1) := dk_190 (dk_at dksJ7_equals_0 1 rfl rfl)
theorem dJ7_equals_2 : decode cJ7_equals 2 = .ok (.aload_n 1, 1) := dk_43 (dk_at dksJ7_equals_0 2 rfl rfl)
theorem dJ7_equals_3 : decode cJ7_equals 3 = .ok (.arraylength, 1) := dk_190 (dk_at dksJ7_equals_0 3 rfl rfl)
theorem dJ7_equals_4 : decode cJ7_equals 4 = .ok (.if_icmp .ne 30, 3) := dk_160 0 30 (dk_at dksJ7_equals_0 4 rfl rfl)
theorem dJ7_equals_7 : decode cJ7_equals 7 = .ok (.iconst 0, 1) := dk_3 (dk_at dksJ7_equals_0 7 rfl rfl)
theorem dJ7_equals_8 : decode cJ7_equals 8 = .ok (.istore_n 2, 1) := dk_61 (dk_at dksJ7_equals_0 8 rfl rfl)
theorem dJ7_equals_9 : decode cJ7_equals 9 = .ok (.iload_n 2, 1) := dk_28 (dk_at dksJ7_equals_0 9 rfl rfl)
theorem dJ7_equals_10 : decode cJ7_equals 10 = .ok (.aload_n 0, 1) := dk_42 (dk_at dksJ7_equals_0 10 rfl rfl)
theorem dJ7_equals_11 : decode cJ7_equals 11 = .ok (.arraylength, 1) := dk_190 (dk_at dksJ7_equals_0 11 rfl rfl)
theorem dJ7_equals_12 : decode cJ7_equals 12 = .ok (.if_icmp .ge 20, 3) := dk_162 0 20 (dk_at dksJ7_equals_0 12 rfl rfl)
theorem dJ7_equals_15 : decode cJ7_equals 15 = .ok (.aload_n 0, 1) := dk_42 (dk_at dksJ7_equals_0 15 rfl rfl)
theorem dJ7_equals_16 : decode cJ7_equals 16 = .ok (.iload_n 2, 1) := dk_28 (dk_at dksJ7_equals_0 16 rfl rfl)
theorem dJ7_equals_17 : decode cJ7_equals 17 = .ok (.baload, 1) := dk_51 (dk_at dksJ7_equals_0 17 rfl rfl)
theorem dJ7_equals_18 : decode cJ7_equals 18 = .ok (.aload_n 1, 1) := dk_43 (dk_at dksJ7_equals_0 18 rfl rfl)
theorem dJ7_equals_19 : decode cJ7_equals 19 = .ok (.iload_n 2, 1) := dk_28 (dk_at dksJ7_equals_0 19 rfl rfl)
theorem dJ7_equals_20 : decode cJ7_equals 20 = .ok (.baload, 1) := dk_51 (dk_at dksJ7_equals_0 20 rfl rfl)
theorem dJ7_equals_21 : decode cJ7_equals 21 = .ok (.if_icmp .eq 5, 3) := dk_159 0 5 (dk_at dksJ7_equals_0 21 rfl rfl)
theorem dJ7_equals_24 : decode cJ7_equals 24 = .ok (.iconst 0, 1) := dk_3 (dk_at dksJ7_equals_1 0 rfl rfl)
theorem dJ7_equals_25 : decode cJ7_equals 25 = .ok (.ireturn, 1) := dk_172 (dk_at dksJ7_equals_1 1 rfl rfl)
theorem dJ7_equals_26 : decode cJ7_equals 26 = .ok (.iinc 2 1, 3) := dk_132 2 1 (dk_at dksJ7_equals_1 2 rfl rfl)
theorem dJ7_equals_29 : decode cJ7_equals 29 = .ok (.goto (-20), 3) := dk_167 255 236 (dk_at dksJ7_equals_1 5 rfl rfl)
theorem dJ7_equals_32 : decode cJ7_equals 32 = .ok (.iconst 1, 1) := dk_4 (dk_at dksJ7_equals_1 8 rfl rfl)
theorem dJ7_equals_33 : decode cJ7_equals 33 = .ok (.ireturn, 1) := dk_172 (dk_at dksJ7_equals_1 9 rfl rfl)
theorem dJ7_equals_34 : decode cJ7_equals 34 = .ok (.iconst 0, 1) := dk_3 (dk_at dksJ7_equals_1 10 rfl rfl)
theorem dJ7_equals_35 : decode cJ7_equals 35 = .ok (.ireturn, 1) := dk_172 (dk_at dksJ7_equals_1 11 rfl rfl)
theorem md_J7_equals : xMd yJ7_equals cJ7_equals 3 (Option.some Jvm.ClassFile.FieldType.boolean) 2 := ⟨q799, q134, by decide, by decide +kernel, by decide +kernel, by decide +kernel⟩
def f_J7_equals_9F   (k9 : Option Nat × Option Nat × Int32 × PH → Option (xO × PH)) (p : Option Nat × Option Nat × Int32 × PH) : Option (xO × PH) := match p with
  | (v0, v1, v2, p0) => (xnul v0 none fun b5 =>
  (xlen p0 b5 fun x6 =>
  (if x6 ≤ v2 then
  (if vp_nar .boolean 1 = 1 then rI 1 p0 else none) else
  (xaI p0 b5 2 v2 fun x7 =>
  (xnul v1 none fun b8 =>
  (xaI p0 b8 2 v2 fun x9 =>
  (if x7 = x9 then
  (bnd (v2 + 1) fun x10 =>
  (k9 (((some b5)), ((some b8)), x10, p0))) else
  (if vp_nar .boolean 0 = 0 then rI 0 p0 else none))))))))
def f_J7_equals (p0 : PH) (a0 : Option Nat) (a1 : Option Nat) : Option (xO × PH) :=
  (xnul a0 none fun b1 =>
  (xlen p0 b1 fun x2 =>
  (xnul a1 none fun b3 =>
  (xlen p0 b3 fun x4 =>
  (if x2 = x4 then
  (lp (f_J7_equals_9F) FU (((some b1)), ((some b3)), 0, p0)) else
  (if vp_nar .boolean 0 = 0 then rI 0 p0 else none))))))
theorem f_J7_equals_9F_ok {G : xG} (hO : xOK G)   {k9 : Option Nat × Option Nat × Int32 × PH → Option (xO × PH)} (hk9 : ∀ (v0 : Option Nat) (v1 : Option Nat) (v2 : Int32) (p0 : PH), X G "java/lang/StringLatin1" "equals" cJ7_equals 3 (Option.some Jvm.ClassFile.FieldType.boolean) 0 9 [(0, va_rf v0), (1, va_rf v1), (2, .int v2)] [] p0 (k9 (v0, v1, v2, p0))) (v0 : Option Nat) (v1 : Option Nat) (v2 : Int32) (p0 : PH) : X G "java/lang/StringLatin1" "equals" cJ7_equals 3 (Option.some Jvm.ClassFile.FieldType.boolean) 0 9 [(0, va_rf v0), (1, va_rf v1), (2, .int v2)] [] p0 (f_J7_equals_9F k9 (v0, v1, v2, p0)) := by
  unfold f_J7_equals_9F
  refine x_iload_n 2 dJ7_equals_9 rfl rfl (n := 10) rfl ?_
  refine x_aload_n 0 dJ7_equals_10 rfl rfl (n := 11) rfl ?_
  refine x_sm (fun b5 e => ?_)
  subst e
  refine x_alen dJ7_equals_11 (n := 12) rfl (fun x6 => ?_)
  refine x_icmp_ge dJ7_equals_12 (t := 32) (by decide) (n := 15) rfl (fun _ => ?_) (fun _ => ?_)
  · refine x_iconst 1 dJ7_equals_32 rfl (n := 33) rfl ?_
    exact x_nreturn rfl dJ7_equals_33
  · refine x_aload_nr 0 dJ7_equals_15 rfl rfl (n := 16) rfl ?_
    refine x_iload_n 2 dJ7_equals_16 rfl rfl (n := 17) rfl ?_
    refine x_bald (t := 2) rfl dJ7_equals_17 (n := 18) rfl (fun x7 => ?_)
    refine x_aload_n 1 dJ7_equals_18 rfl rfl (n := 19) rfl ?_
    refine x_iload_n 2 dJ7_equals_19 rfl rfl (n := 20) rfl ?_
    refine x_sm (fun b8 e => ?_)
    subst e
    refine x_bald (t := 2) rfl dJ7_equals_20 (n := 21) rfl (fun x9 => ?_)
    refine x_icmp_eq dJ7_equals_21 (t := 26) (by decide) (n := 24) rfl (fun _ => ?_) (fun _ => ?_)
    · refine x_iincB 2 (fun x10 => [(2, .int x10), (0, .ref b5), (1, .ref b8)]) dJ7_equals_26 rfl rfl (by decide) (fun _ => rfl) (n := 29) rfl (fun x10 => ?_)
      refine x_goto dJ7_equals_29 (n := 9) (by decide) ?_
      refine x_sub [1, 2, 0] [(0, .ref b5), (1, .ref b8), (2, .int x10)] rfl ?_
      exact hk9 ((some b5)) ((some b8)) x10 p0
    · refine x_iconst 0 dJ7_equals_24 rfl (n := 25) rfl ?_
      exact x_nreturn rfl dJ7_equals_25
theorem f_J7_equals_9_lp {G : xG} (hO : xOK G)   (n : Nat) (v0 : Option Nat) (v1 : Option Nat) (v2 : Int32) (p0 : PH) : X G "java/lang/StringLatin1" "equals" cJ7_equals 3 (Option.some Jvm.ClassFile.FieldType.boolean) 0 9 [(0, va_rf v0), (1, va_rf v1), (2, .int v2)] [] p0 (lp (f_J7_equals_9F) n (v0, v1, v2, p0)) :=
  lp_ok (W := fun p K => X G "java/lang/StringLatin1" "equals" cJ7_equals 3 (Option.some Jvm.ClassFile.FieldType.boolean) 0 9 [(0, va_rf p.1), (1, va_rf p.2.1), (2, .int p.2.2.1)] [] p.2.2.2 K) (fun _ => x_no) (fun k hk => fun (v0, v1, v2, p0) => f_J7_equals_9F_ok hO (fun v0 v1 v2 p0 => hk (v0, v1, v2, p0)) v0 v1 v2 p0) n (v0, v1, v2, p0)
theorem f_J7_equals_ok {G : xG} (hO : xOK G) (p0 : PH) (a0 : Option Nat) (a1 : Option Nat) : CT G 0 yJ7_equals cJ7_equals 3 (Option.some Jvm.ClassFile.FieldType.boolean) [va_rf a0, va_rf a1] p0 (f_J7_equals p0 a0 a1) := by
  refine CT_of hO (by decide +kernel) (by decide +kernel) (lg_slen _ (by simp only [List.map, xcat]; exact Nat.le_of_ble_eq_true rfl)) ?_
  rw [show lv_args 0 [va_rf a0, va_rf a1] = [(0, va_rf a0), (1, va_rf a1)] from by simp only [lv_args, xcat] <;> rfl]
  show X G "java/lang/StringLatin1" "equals" cJ7_equals 3 (Option.some Jvm.ClassFile.FieldType.boolean) 0 0 [(0, va_rf a0), (1, va_rf a1)] [] p0 (f_J7_equals p0 a0 a1)
  refine x_aload_n 0 dJ7_equals_0 rfl rfl (n := 1) rfl ?_
  refine x_sm (fun b1 e => ?_)
  subst e
  refine x_alen dJ7_equals_1 (n := 2) rfl (fun x2 => ?_)
  refine x_aload_n 1 dJ7_equals_2 rfl rfl (n := 3) rfl ?_
  refine x_sm (fun b3 e => ?_)
  subst e
  refine x_alen dJ7_equals_3 (n := 4) rfl (fun x4 => ?_)
  refine x_icmp_ne dJ7_equals_4 (t := 34) (by decide) (n := 7) rfl (fun _ => ?_) (fun _ => ?_)
  · refine x_iconst 0 dJ7_equals_34 rfl (n := 35) rfl ?_
    exact x_nreturn rfl dJ7_equals_35
  · refine x_iconst 0 dJ7_equals_7 rfl (n := 8) rfl ?_
    refine x_istore_n [(2, .int 0), (0, .ref b1), (1, .ref b3)] dJ7_equals_8 rfl (by decide) rfl (n := 9) rfl ?_
    refine x_sub [1, 2, 0] [(0, .ref b1), (1, .ref b3), (2, .int 0)] rfl ?_
    exact f_J7_equals_9_lp hO FU ((some b1)) ((some b3)) 0 p0
abbrev cJ6_equals : ByteArray := prog_31_method_66_code
def yJ6_equals : MethodName := ⟨RJ6, "equals", "(Ljava/lang/Object;)Z"⟩
def dkwJ6_equals_2 : List UInt8 := [184, 2, 29, 153, 0, 7, 4, 167, 0, 4, 3, 172]
abbrev dktJ6_equals_2 : List UInt8 := dkwJ6_equals_2 ++ []
def dkwJ6_equals_1 : List UInt8 := [153, 0, 14, 42, 180, 0, 15, 44, 180, 0, 15, 160, 0, 21, 42, 180, 0, 9, 44, 180, 0, 9]
abbrev dktJ6_equals_1 : List UInt8 := dkwJ6_equals_1 ++ dktJ6_equals_2
def dkwJ6_equals_0 : List UInt8 := [42, 43, 166, 0, 5, 4, 172, 43, 193, 0, 10, 153, 0, 43, 43, 192, 0, 10, 77, 178, 0, 38]
abbrev dktJ6_equals_0 : List UInt8 := dkwJ6_equals_0 ++ dktJ6_equals_1
theorem dksJ6_equals_0 : cJ6_equals.data.toList.drop 0 = dktJ6_equals_0 := by decide +kernel
theorem dksJ6_equals_1 : cJ6_equals.data.toList.drop 22 = dktJ6_equals_1 := dk_seg dksJ6_equals_0 22 rfl rfl
theorem dksJ6_equals_2 : cJ6_equals.data.toList.drop 44 = dktJ6_equals_2 := dk_seg dksJ6_equals_1 22 rfl rfl
theorem dJ6_equals_0 : decode cJ6_equals 0 = .ok (.aload_n 0, 1) := dk_42 (dk_at dksJ6_equals_0 0 rfl rfl)
theorem dJ6_equals_1 : decode cJ6_equals 1 = .ok (.aload_n 1, 1) := dk_43 (dk_at dksJ6_equals_0 1 rfl rfl)
theorem dJ6_equals_2 : decode cJ6_equals 2 = .ok (.if_acmp .ne 5, 3) := dk_166 0 5 (dk_at dksJ6_equals_0 2 rfl rfl)
theorem dJ6_equals_5 : decode cJ6_equals 5 = .ok (.iconst 1, 1) := dk_4 (dk_at dksJ6_equals_0 5 rfl rfl)
theorem dJ6_equals_6 : decode cJ6_equals 6 = .ok (.ireturn, 1) := dk_172 (dk_at dksJ6_equals_0 6 rfl rfl)
theorem dJ6_equals_7 : decode cJ6_equals 7 = .ok (.aload_n 1, 1) := dk_43 (dk_at dksJ6_equals_0 7 rfl rfl)
theorem dJ6_equals_8 : decode cJ6_equals 8 = .ok (.instanceof 10, 3) := dk_193 0 10 (dk_at dksJ6_equals_0 8 rfl rfl)
theorem dJ6_equals_11 : decode cJ6_equals 11 = .ok (.ifCond .eq 43, 3) := dk_153 0 43 (dk_at dksJ6_equals_0 11 rfl rfl)
theorem dJ6_equals_14 : decode cJ6_equals 14 = .ok (.aload_n 1, 1) := dk_43 (dk_at dksJ6_equals_0 14 rfl rfl)
theorem dJ6_equals_15 : decode cJ6_equals 15 = .ok (.checkcast 10, 3) := dk_192 0 10 (dk_at dksJ6_equals_0 15 rfl rfl)
theorem dJ6_equals_18 : decode cJ6_equals 18 = .ok (.astore_n 2, 1) := dk_77 (dk_at dksJ6_equals_0 18 rfl rfl)
theorem dJ6_equals_19 : decode cJ6_equals 19 = .ok (.getstatic 38, 3) := dk_178 0 38 (dk_at dksJ6_equals_0 19 rfl rfl)
theorem dJ6_equals_22 : decode cJ6_equals 22 = .ok (.ifCond .eq 14, 3) := dk_153 0 14 (dk_at dksJ6_equals_1 0 rfl rfl)
theorem dJ6_equals_25 : decode cJ6_equals 25 = .ok (.aload_n 0, 1) := dk_42 (dk_at dksJ6_equals_1 3 rfl rfl)
theorem dJ6_equals_26 : decode cJ6_equals 26 = .ok (.getfield 15, 3) := dk_180 0 15 (dk_at dksJ6_equals_1 4 rfl rfl)
theorem dJ6_equals_29 : decode cJ6_equals 29 = .ok (.aload_n 2, 1) := dk_44 (dk_at dksJ6_equals_1 7 rfl rfl)
theorem dJ6_equals_30 : decode cJ6_equals 30 = .ok (.getfield 15, 3) := dk_180 0 15 (dk_at dksJ6_equals_1 8 rfl rfl)
theorem dJ6_equals_33 : decode cJ6_equals 33 = .ok (.if_icmp .ne 21, 3) := dk_160 0 21 (dk_at dksJ6_equals_1 11 rfl rfl)
theorem dJ6_equals_36 : decode cJ6_equals 36 = .ok (.aload_n 0, 1) := dk_42 (dk_at dksJ6_equals_1 14 rfl rfl)
theorem dJ6_equals_37 : decode cJ6_equals 37 = .ok (.getfield 9, 3) := dk_180 0 9 (dk_at dksJ6_equals_1 15 rfl rfl)
theorem dJ6_equals_40 : decode cJ6_equals 40 = .ok (.aload_n 2, 1) := dk_44 (dk_at dksJ6_equals_1 18 rfl rfl)
theorem dJ6_equals_41 : decode cJ6_equals 41 = .ok (.getfield 9, 3) := dk_180 0 9 (dk_at dksJ6_equals_1 19 rfl rfl)
theorem dJ6_equals_44 : decode cJ6_equals 44 = .ok (.invokestatic 541, 3) := dk_184 2 29 (dk_at dksJ6_equals_2 0 rfl rfl)
theorem dJ6_equals_47 : decode cJ6_equals 47 = .ok (.ifCond .eq 7, 3) := dk_153 0 7 (dk_at dksJ6_equals_2 3 rfl rfl)
theorem dJ6_equals_50 : decode cJ6_equals 50 = .ok (.iconst 1, 1) := dk_4 (dk_at dksJ6_equals_2 6 rfl rfl)
theorem dJ6_equals_51 : decode cJ6_equals 51 = .ok (.goto 4, 3) := dk_167 0 4 (dk_at dksJ6_equals_2 7 rfl rfl)
theorem dJ6_equals_54 : decode cJ6_equals 54 = .ok (.iconst 0, 1) := dk_3 (dk_at dksJ6_equals_2 10 rfl rfl)
theorem dJ6_equals_55 : decode cJ6_equals 55 = .ok (.ireturn, 1) := dk_172 (dk_at dksJ6_equals_2 11 rfl rfl)
theorem md_J6_equals : xMd yJ6_equals cJ6_equals 3 (Option.some Jvm.ClassFile.FieldType.boolean) 1 := ⟨q795, q133, by decide, by decide +kernel, by decide +kernel, by decide +kernel⟩
def f_J6_equals_36 (a0 : Nat)  (v2 : Option Nat) (p0 : PH) : Option (xO × PH) :=
  (xgR p0 a0 16 0 fun x2 =>
  (xnul v2 none fun b3 =>
  (xgR p0 b3 16 0 fun x4 =>
  (xcI (f_J7_equals p0 x2 x4) fun x6 p5 =>
  (if x6 = 0 then
  (if vp_nar .boolean 0 = 0 then rI 0 p5 else none) else
  (if vp_nar .boolean 1 = 1 then rI 1 p5 else none))))))
def f_J6_equals (p0 : PH) (a0 : Nat) (a1 : Option Nat) : Option (xO × PH) :=
  (xcl1 p0 a0 16 (if (some a0) = a1 then
  (if vp_nar .boolean 1 = 1 then rI 1 p0 else none) else
  (xins p0 (a1) [16] fun x1 =>
  (if x1 = 0 then
  (if vp_nar .boolean 0 = 0 then rI 0 p0 else none) else
  (xcst p0 (a1) [16]
  (if (1 : Int32) = 0 then
  (f_J6_equals_36 a0 a1 p0) else
  (xgI p0 a0 16 1 fun x7 =>
  (xnul a1 none fun b8 =>
  (xgI p0 b8 16 1 fun x9 =>
  (if x7 = x9 then
  (f_J6_equals_36 a0 ((some b8)) p0) else
  (if vp_nar .boolean 0 = 0 then rI 0 p0 else none)))))))))))
theorem rc_J6_equals {p0 : PH} {a0 : Nat} {a1 : Option Nat} : ∀ z, f_J6_equals p0 a0 a1 = some z → xco p0 a0 = some 16 := fun z h => xcl1_some h
theorem f_J6_equals_36_ok {G : xG} (hO : xOK G) (a0 : Nat)  (v2 : Option Nat) (p0 : PH) : X G "java/lang/String" "equals" cJ6_equals 3 (Option.some Jvm.ClassFile.FieldType.boolean) 1 36 [(0, .ref a0), (2, va_rf v2)] [] p0 (f_J6_equals_36 a0 v2 p0) := by
  unfold f_J6_equals_36
  refine x_aload_nr 0 dJ6_equals_36 rfl rfl (n := 37) rfl ?_
  refine x_getR fl_J6_9 dJ6_equals_37 (n := 40) rfl (fun x2 => ?_)
  refine x_aload_n 1 dJ6_equals_40 rfl rfl (n := 41) rfl ?_
  refine x_sm (fun b3 e => ?_)
  subst e
  refine x_getR fl_J6_9 dJ6_equals_41 (n := 44) rfl (fun x4 => ?_)
  refine x_callS_I [va_rf x2, va_rf x4] [] (f_J7_equals_ok hO p0 x2 x4) md_J7_equals q797 q798 dJ6_equals_44 rfl rfl (by decide) (Nat.le_of_ble_eq_true rfl) (n := 47) rfl (fun x6 p5 => ?_)
  refine x_if_eq dJ6_equals_47 (t := 54) (by decide) (n := 50) rfl (fun _ => ?_) (fun _ => ?_)
  · refine x_iconst 0 dJ6_equals_54 rfl (n := 55) rfl ?_
    exact x_nreturn rfl dJ6_equals_55
  · refine x_iconst 1 dJ6_equals_50 rfl (n := 51) rfl ?_
    refine x_goto dJ6_equals_51 (n := 55) (by decide) ?_
    exact x_nreturn rfl dJ6_equals_55
theorem f_J6_equals_ok {G : xG} (hO : xOK G) (p0 : PH) (a0 : Nat) (a1 : Option Nat) : CT G 1 yJ6_equals cJ6_equals 3 (Option.some Jvm.ClassFile.FieldType.boolean) [.ref a0, va_rf a1] p0 (f_J6_equals p0 a0 a1) := by
  refine CT_of hO (by decide +kernel) (by decide +kernel) (lg_slen _ (by simp only [List.map, xcat]; exact Nat.le_of_ble_eq_true rfl)) ?_
  rw [show lv_args 0 [.ref a0, va_rf a1] = [(0, .ref a0), (1, va_rf a1)] from by simp only [lv_args, xcat] <;> rfl]
  show X G "java/lang/String" "equals" cJ6_equals 3 (Option.some Jvm.ClassFile.FieldType.boolean) 1 0 [(0, .ref a0), (1, va_rf a1)] [] p0 (f_J6_equals p0 a0 a1)
  refine x_cl1 (fun e0 => ?_)
  refine x_aload_nr 0 dJ6_equals_0 rfl rfl (n := 1) rfl ?_
  refine x_aload_n 1 dJ6_equals_1 rfl rfl (n := 2) rfl ?_
  refine x_acmp_ne (x := some a0) (y := a1) dJ6_equals_2 (t := 7) (by decide) (n := 5) rfl (fun _ => ?_) (fun _ => ?_)
  · refine x_aload_n 1 dJ6_equals_7 rfl rfl (n := 8) rfl ?_
    refine x_inst (x := a1) (cs := [16]) q796 cst_java_lang_String dJ6_equals_8 (n := 11) rfl (fun x1 => ?_)
    refine x_if_eq dJ6_equals_11 (t := 54) (by decide) (n := 14) rfl (fun _ => ?_) (fun _ => ?_)
    · refine x_iconst 0 dJ6_equals_54 rfl (n := 55) rfl ?_
      exact x_nreturn rfl dJ6_equals_55
    · refine x_aload_n 1 dJ6_equals_14 rfl rfl (n := 15) rfl ?_
      refine x_cast (x := a1) (cs := [16]) q796 cst_java_lang_String dJ6_equals_15 (n := 18) rfl ?_
      refine x_astore_n [(2, va_rf a1), (0, .ref a0), (1, va_rf a1)] dJ6_equals_18 rfl (by decide) (by simp only [xst, List.filter_cons, List.filter_nil, xcat] <;> rfl) (n := 19) rfl ?_
      refine x_getsI (j := 3) rfl (Or.inl q417) dJ6_equals_19 (n := 22) rfl ?_
      refine x_if_eq dJ6_equals_22 (t := 36) (by decide) (n := 25) rfl (fun _ => ?_) (fun _ => ?_)
      · refine x_sub [1, 0] [(0, .ref a0), (2, va_rf a1)] rfl ?_
        exact f_J6_equals_36_ok hO a0 a1 p0
      · refine x_aload_nr 1 dJ6_equals_25 rfl rfl (n := 26) rfl ?_
        refine x_getI fl_J6_15 dJ6_equals_26 (n := 29) rfl (fun x7 => ?_)
        refine x_aload_n 0 dJ6_equals_29 rfl rfl (n := 30) rfl ?_
        refine x_sm (fun b8 e => ?_)
        subst e
        refine x_getI fl_J6_15 dJ6_equals_30 (n := 33) rfl (fun x9 => ?_)
        refine x_icmp_ne dJ6_equals_33 (t := 54) (by decide) (n := 36) rfl (fun _ => ?_) (fun _ => ?_)
        · refine x_iconst 0 dJ6_equals_54 rfl (n := 55) rfl ?_
          exact x_nreturn rfl dJ6_equals_55
        · refine x_sub [1, 0] [(0, .ref a0), (2, .ref b8)] rfl ?_
          exact f_J6_equals_36_ok hO a0 ((some b8)) p0
  · refine x_iconst 1 dJ6_equals_5 rfl (n := 6) rfl ?_
    exact x_nreturn rfl dJ6_equals_6
abbrev cJ3_size : ByteArray := prog_47_method_8_code
def yJ3_size : MethodName := ⟨RJ3, "size", "()I"⟩
theorem dJ3_size_0 : decode cJ3_size 0 = .ok (.aload_n 0, 1) := by decide +kernel
theorem dJ3_size_1 : decode cJ3_size 1 = .ok (.getfield 48, 3) := by decide +kernel
theorem dJ3_size_4 : decode cJ3_size 4 = .ok (.ireturn, 1) := by decide +kernel
theorem md_J3_size : xMd yJ3_size cJ3_size 1 (Option.some Jvm.ClassFile.FieldType.int) 0 := ⟨q816, q130, by decide, by decide +kernel, by decide +kernel, by decide +kernel⟩
def f_J3_size (p0 : PH) (a0 : Nat) : Option (xO × PH) :=
  (xcl1 p0 a0 14 (xgI p0 a0 14 2 fun x1 =>
  (rI x1 p0)))
theorem rc_J3_size {p0 : PH} {a0 : Nat} : ∀ z, f_J3_size p0 a0 = some z → xco p0 a0 = some 14 := fun z h => xcl1_some h
theorem f_J3_size_ok {G : xG} (hO : xOK G) (p0 : PH) (a0 : Nat) : CT G 0 yJ3_size cJ3_size 1 (Option.some Jvm.ClassFile.FieldType.int) [.ref a0] p0 (f_J3_size p0 a0) := by
  refine CT_of hO (by decide +kernel) (by decide +kernel) (Nat.le_of_ble_eq_true rfl) ?_
  show X G "java/util/ArrayList" "size" cJ3_size 1 (Option.some Jvm.ClassFile.FieldType.int) 0 0 [(0, .ref a0)] [] p0 (f_J3_size p0 a0)
  refine x_cl1 (fun e0 => ?_)
  refine x_aload_nr 0 dJ3_size_0 rfl rfl (n := 1) rfl ?_
  refine x_getI fl_J3_48 dJ3_size_1 (n := 4) rfl (fun x1 => ?_)
  exact x_ireturn dJ3_size_4
abbrev cJ14_inflateIfNeededFor : ByteArray := prog_16_method_71_code
def yJ14_inflateIfNeededFor : MethodName := ⟨RJ14, "inflateIfNeededFor", "(Ljava/lang/String;)V"⟩
def dkwJ14_inflateIfNeededFor_0 : List UInt8 := [178, 0, 18, 153, 0, 18, 42, 180, 0, 22, 43, 182, 0, 40, 159, 0, 7, 42, 182, 0, 195, 177]
abbrev dktJ14_inflateIfNeededFor_0 : List UInt8 := dkwJ14_inflateIfNeededFor_0 ++ []
theorem dksJ14_inflateIfNeededFor_0 : cJ14_inflateIfNeededFor.data.toList.drop 0 = dktJ14_inflateIfNeededFor_0 := by decide +kernel
theorem dJ14_inflateIfNeededFor_0 : decode cJ14_inflateIfNeededFor 0 = .ok (.getstatic 18, 3) := dk_178 0 18 (dk_at dksJ14_inflateIfNeededFor_0 0 rfl rfl)
theorem dJ14_inflateIfNeededFor_3 : decode cJ14_inflateIfNeededFor 3 = .ok (.ifCond .eq 18, 3) := dk_153 0 18 (dk_at dksJ14_inflateIfNeededFor_0 3 rfl rfl)
theorem dJ14_inflateIfNeededFor_6 : decode cJ14_inflateIfNeededFor 6 = .ok (.aload_n 0, 1) := dk_42 (dk_at dksJ14_inflateIfNeededFor_0 6 rfl rfl)
theorem dJ14_inflateIfNeededFor_7 : decode cJ14_inflateIfNeededFor 7 = .ok (.getfield 22, 3) := dk_180 0 22 (dk_at dksJ14_inflateIfNeededFor_0 7 rfl rfl)
theorem dJ14_inflateIfNeededFor_10 : decode cJ14_inflateIfNeededFor 10 = .ok (.aload_n 1, 1) := dk_43 (dk_at dksJ14_inflateIfNeededFor_0 10 rfl rfl)
theorem dJ14_inflateIfNeededFor_11 : decode cJ14_inflateIfNeededFor 11 = .ok (.invokevirtual 40, 3) := dk_182 0 40 (dk_at dksJ14_inflateIfNeededFor_0 11 rfl rfl)
theorem dJ14_inflateIfNeededFor_14 : decode cJ14_inflateIfNeededFor 14 = .ok (.if_icmp .eq 7, 3) := dk_159 0 7 (dk_at dksJ14_inflateIfNeededFor_0 14 rfl rfl)
theorem dJ14_inflateIfNeededFor_17 : decode cJ14_inflateIfNeededFor 17 = .ok (.aload_n 0, 1) := dk_42 (dk_at dksJ14_inflateIfNeededFor_0 17 rfl rfl)
theorem dJ14_inflateIfNeededFor_18 : decode cJ14_inflateIfNeededFor 18 = .ok (.invokevirtual 195, 3) := dk_182 0 195 (dk_at dksJ14_inflateIfNeededFor_0 18 rfl rfl)
theorem dJ14_inflateIfNeededFor_21 : decode cJ14_inflateIfNeededFor 21 = .ok (.return_, 1) := dk_177 (dk_at dksJ14_inflateIfNeededFor_0 21 rfl rfl)
theorem md_J14_inflateIfNeededFor : xMd yJ14_inflateIfNeededFor cJ14_inflateIfNeededFor 2 (Option.none : Option Jvm.ClassFile.FieldType) 1 := ⟨q851, q142, by decide, by decide +kernel, by decide +kernel, by decide +kernel⟩
def f_J14_inflateIfNeededFor (p0 : PH) (a0 : Nat) (a1 : Option Nat) : Option (xO × PH) :=
  (xcl1 p0 a0 17 (if (1 : Int32) = 0 then
  (rV p0) else
  (xgI p0 a0 17 1 fun x1 =>
  (xnul a1 none fun b2 =>
  (xcI (f_J6_coder p0 b2 ) fun x4 p3 =>
  (if x1 = x4 then
  (rV p3) else
  none))))))
theorem rc_J14_inflateIfNeededFor {p0 : PH} {a0 : Nat} {a1 : Option Nat} : ∀ z, f_J14_inflateIfNeededFor p0 a0 a1 = some z → xco p0 a0 = some 17 := fun z h => xcl1_some h
theorem f_J14_inflateIfNeededFor_ok {G : xG} (hO : xOK G) (p0 : PH) (a0 : Nat) (a1 : Option Nat) : CT G 1 yJ14_inflateIfNeededFor cJ14_inflateIfNeededFor 2 (Option.none : Option Jvm.ClassFile.FieldType) [.ref a0, va_rf a1] p0 (f_J14_inflateIfNeededFor p0 a0 a1) := by
  refine CT_of hO (by decide +kernel) (by decide +kernel) (lg_slen _ (by simp only [List.map, xcat]; exact Nat.le_of_ble_eq_true rfl)) ?_
  rw [show lv_args 0 [.ref a0, va_rf a1] = [(0, .ref a0), (1, va_rf a1)] from by simp only [lv_args, xcat] <;> rfl]
  show X G "java/lang/AbstractStringBuilder" "inflateIfNeededFor" cJ14_inflateIfNeededFor 2 (Option.none : Option Jvm.ClassFile.FieldType) 1 0 [(0, .ref a0), (1, va_rf a1)] [] p0 (f_J14_inflateIfNeededFor p0 a0 a1)
  refine x_cl1 (fun e0 => ?_)
  refine x_getsI (j := 3) rfl (Or.inl q582) dJ14_inflateIfNeededFor_0 (n := 3) rfl ?_
  refine x_if_eq dJ14_inflateIfNeededFor_3 (t := 21) (by decide) (n := 6) rfl (fun _ => ?_) (fun _ => ?_)
  · exact x_return dJ14_inflateIfNeededFor_21
  · refine x_aload_nr 0 dJ14_inflateIfNeededFor_6 rfl rfl (n := 7) rfl ?_
    refine x_getI fl_J14_22 dJ14_inflateIfNeededFor_7 (n := 10) rfl (fun x1 => ?_)
    refine x_aload_n 1 dJ14_inflateIfNeededFor_10 rfl rfl (n := 11) rfl ?_
    refine x_sm (fun b2 e => ?_)
    subst e
    refine x_callV_I [] [.int x1] (f_J6_coder_ok hO p0 b2 ) rc_J6_coder md_J6_coder rfl q852 q424 q425 dJ14_inflateIfNeededFor_11 rfl rfl (by decide) (Nat.le_of_ble_eq_true rfl) (n := 14) rfl (fun x4 p3 => ?_)
    refine x_icmp_eq dJ14_inflateIfNeededFor_14 (t := 21) (by decide) (n := 17) rfl (fun _ => ?_) (fun _ => ?_)
    · exact x_return dJ14_inflateIfNeededFor_21
    · refine x_aload_nr 0 dJ14_inflateIfNeededFor_17 rfl rfl (n := 18) rfl ?_
      exact x_no
abbrev cJ6_getBytes : ByteArray := prog_31_method_147_code
def yJ6_getBytes : MethodName := ⟨RJ6, "getBytes", "([BIB)V"⟩
def dkwJ6_getBytes_1 : List UInt8 := [184, 0, 212, 167, 0, 18, 42, 180, 0, 9, 3, 43, 28, 42, 180, 0, 9, 190, 184, 0, 106, 177]
abbrev dktJ6_getBytes_1 : List UInt8 := dkwJ6_getBytes_1 ++ []
def dkwJ6_getBytes_0 : List UInt8 := [42, 182, 1, 79, 29, 160, 0, 23, 42, 180, 0, 9, 3, 43, 28, 29, 120, 42, 180, 0, 9, 190]
abbrev dktJ6_getBytes_0 : List UInt8 := dkwJ6_getBytes_0 ++ dktJ6_getBytes_1
theorem dksJ6_getBytes_0 : cJ6_getBytes.data.toList.drop 0 = dktJ6_getBytes_0 := by decide +kernel
theorem dksJ6_getBytes_1 : cJ6_getBytes.data.toList.drop 22 = dktJ6_getBytes_1 := dk_seg dksJ6_getBytes_0 22 rfl rfl
theorem dJ6_getBytes_0 : decode cJ6_getBytes 0 = .ok (.aload_n 0, 1) := dk_42 (dk_at dksJ6_getBytes_0 0 rfl rfl)
theorem dJ6_getBytes_1 : decode cJ6_getBytes 1 = .ok (.invokevirtual 335, 3) := dk_182 1 79 (dk_at dksJ6_getBytes_0 1 rfl rfl)
theorem dJ6_getBytes_4 : decode cJ6_getBytes 4 = .ok (.iload_n 3, 1) := dk_29 (dk_at dksJ6_getBytes_0 4 rfl rfl)
theorem dJ6_getBytes_5 : decode cJ6_getBytes 5 = .ok (.if_icmp .ne 23, 3) := dk_160 0 23 (dk_at dksJ6_getBytes_0 5 rfl rfl)
theorem dJ6_getBytes_8 : decode cJ6_getBytes 8 = .ok (.aload_n 0, 1) := dk_42 (dk_at dksJ6_getBytes_0 8 rfl rfl)
theorem dJ6_getBytes_9 : decode cJ6_getBytes 9 = .ok (.getfield 9, 3) := dk_180 0 9 (dk_at dksJ6_getBytes_0 9 rfl rfl)
theorem dJ6_getBytes_12 : decode cJ6_getBytes 12 = .ok (.iconst 0, 1) := dk_3 (dk_at dksJ6_getBytes_0 12 rfl rfl)
theorem dJ6_getBytes_13 : decode cJ6_getBytes 13 = .ok (.aload_n 1, 1) := dk_43 (dk_at dksJ6_getBytes_0 13 rfl rfl)
theorem dJ6_getBytes_14 : decode cJ6_getBytes 14 = .ok (.iload_n 2, 1) := dk_28 (dk_at dksJ6_getBytes_0 14 rfl rfl)
theorem dJ6_getBytes_15 : decode cJ6_getBytes 15 = .ok (.iload_n 3, 1) := dk_29 (dk_at dksJ6_getBytes_0 15 rfl rfl)
theorem dJ6_getBytes_16 : decode cJ6_getBytes 16 = .ok (.ishl, 1) := dk_120 (dk_at dksJ6_getBytes_0 16 rfl rfl)
theorem dJ6_getBytes_17 : decode cJ6_getBytes 17 = .ok (.aload_n 0, 1) := dk_42 (dk_at dksJ6_getBytes_0 17 rfl rfl)
theorem dJ6_getBytes_18 : decode cJ6_getBytes 18 = .ok (.getfield 9, 3) := dk_180 0 9 (dk_at dksJ6_getBytes_0 18 rfl rfl)
theorem dJ6_getBytes_21 : decode cJ6_getBytes 21 = .ok (.arraylength, 1) := dk_190 (dk_at dksJ6_getBytes_0 21 rfl rfl)
theorem dJ6_getBytes_22 : decode cJ6_getBytes 22 = .ok (.invokestatic 212, 3) := dk_184 0 212 (dk_at dksJ6_getBytes_1 0 rfl rfl)
theorem dJ6_getBytes_25 : decode cJ6_getBytes 25 = .ok (.goto 18, 3) := dk_167 0 18 (dk_at dksJ6_getBytes_1 3 rfl rfl)
theorem dJ6_getBytes_28 : decode cJ6_getBytes 28 = .ok (.aload_n 0, 1) := dk_42 (dk_at dksJ6_getBytes_1 6 rfl rfl)
theorem dJ6_getBytes_29 : decode cJ6_getBytes 29 = .ok (.getfield 9, 3) := dk_180 0 9 (dk_at dksJ6_getBytes_1 7 rfl rfl)
theorem dJ6_getBytes_32 : decode cJ6_getBytes 32 = .ok (.iconst 0, 1) := dk_3 (dk_at dksJ6_getBytes_1 10 rfl rfl)
theorem dJ6_getBytes_33 : decode cJ6_getBytes 33 = .ok (.aload_n 1, 1) := dk_43 (dk_at dksJ6_getBytes_1 11 rfl rfl)
theorem dJ6_getBytes_34 : decode cJ6_getBytes 34 = .ok (.iload_n 2, 1) := dk_28 (dk_at dksJ6_getBytes_1 12 rfl rfl)
theorem dJ6_getBytes_35 : decode cJ6_getBytes 35 = .ok (.aload_n 0, 1) := dk_42 (dk_at dksJ6_getBytes_1 13 rfl rfl)
theorem dJ6_getBytes_36 : decode cJ6_getBytes 36 = .ok (.getfield 9, 3) := dk_180 0 9 (dk_at dksJ6_getBytes_1 14 rfl rfl)
theorem dJ6_getBytes_39 : decode cJ6_getBytes 39 = .ok (.arraylength, 1) := dk_190 (dk_at dksJ6_getBytes_1 17 rfl rfl)
theorem dJ6_getBytes_40 : decode cJ6_getBytes 40 = .ok (.invokestatic 106, 3) := dk_184 0 106 (dk_at dksJ6_getBytes_1 18 rfl rfl)
theorem dJ6_getBytes_43 : decode cJ6_getBytes 43 = .ok (.return_, 1) := dk_177 (dk_at dksJ6_getBytes_1 21 rfl rfl)
theorem md_J6_getBytes : xMd yJ6_getBytes cJ6_getBytes 4 (Option.none : Option Jvm.ClassFile.FieldType) 3 := ⟨q856, q133, by decide, by decide +kernel, by decide +kernel, by decide +kernel⟩
def f_J6_getBytes (p0 : PH) (a0 : Nat) (a1 : Option Nat) (a2 : Int32) (a3 : Int32) : Option (xO × PH) :=
  (xcl1 p0 a0 16 (xcI (f_J6_coder p0 a0 ) fun x2 p1 =>
  (if x2 = a3 then
  (xgR p1 a0 16 0 fun x7 =>
  (xgR p1 a0 16 0 fun x8 =>
  (xnul x8 none fun b9 =>
  (xlen p1 b9 fun x10 =>
  (xnul x7 none fun b11 =>
  (xnul a1 none fun b12 =>
  (xcpB p1 b11 b12 0 (a2 <<< (a3 &&& 31)) x10 fun p13 =>
  (rV p13)))))))) else
  (xgR p1 a0 16 0 fun x3 =>
  (xgR p1 a0 16 0 fun x4 =>
  (xnul x4 none fun b5 =>
  (xlen p1 b5 fun x6 =>
  none)))))))
theorem rc_J6_getBytes {p0 : PH} {a0 : Nat} {a1 : Option Nat} {a2 : Int32} {a3 : Int32} : ∀ z, f_J6_getBytes p0 a0 a1 a2 a3 = some z → xco p0 a0 = some 16 := fun z h => xcl1_some h
theorem f_J6_getBytes_ok {G : xG} (hO : xOK G) (p0 : PH) (a0 : Nat) (a1 : Option Nat) (a2 : Int32) (a3 : Int32) : CT G 1 yJ6_getBytes cJ6_getBytes 4 (Option.none : Option Jvm.ClassFile.FieldType) [.ref a0, va_rf a1, .int a2, .int a3] p0 (f_J6_getBytes p0 a0 a1 a2 a3) := by
  refine CT_of hO (by decide +kernel) (by decide +kernel) (lg_slen _ (by simp only [List.map, xcat]; exact Nat.le_of_ble_eq_true rfl)) ?_
  rw [show lv_args 0 [.ref a0, va_rf a1, .int a2, .int a3] = [(0, .ref a0), (1, va_rf a1), (2, .int a2), (3, .int a3)] from by simp only [lv_args, xcat] <;> rfl]
  show X G "java/lang/String" "getBytes" cJ6_getBytes 4 (Option.none : Option Jvm.ClassFile.FieldType) 1 0 [(0, .ref a0), (1, va_rf a1), (2, .int a2), (3, .int a3)] [] p0 (f_J6_getBytes p0 a0 a1 a2 a3)
  refine x_cl1 (fun e0 => ?_)
  refine x_aload_nr 0 dJ6_getBytes_0 rfl rfl (n := 1) rfl ?_
  refine x_callV_I [] [] (f_J6_coder_ok hO p0 a0 ) rc_J6_coder md_J6_coder rfl q423 q424 q425 dJ6_getBytes_1 rfl rfl (by decide) (Nat.le_of_ble_eq_true rfl) (n := 4) rfl (fun x2 p1 => ?_)
  refine x_iload_n 3 dJ6_getBytes_4 rfl rfl (n := 5) rfl ?_
  refine x_icmp_ne dJ6_getBytes_5 (t := 28) (by decide) (n := 8) rfl (fun _ => ?_) (fun _ => ?_)
  · refine x_aload_nr 0 dJ6_getBytes_28 rfl rfl (n := 29) rfl ?_
    refine x_getR fl_J6_9 dJ6_getBytes_29 (n := 32) rfl (fun x3 => ?_)
    refine x_iconst 0 dJ6_getBytes_32 rfl (n := 33) rfl ?_
    refine x_aload_n 1 dJ6_getBytes_33 rfl rfl (n := 34) rfl ?_
    refine x_iload_n 2 dJ6_getBytes_34 rfl rfl (n := 35) rfl ?_
    refine x_aload_nr 0 dJ6_getBytes_35 rfl rfl (n := 36) rfl ?_
    refine x_getR fl_J6_9 dJ6_getBytes_36 (n := 39) rfl (fun x4 => ?_)
    refine x_sm (fun b5 e => ?_)
    subst e
    refine x_alen dJ6_getBytes_39 (n := 40) rfl (fun x6 => ?_)
    exact x_no
  · refine x_aload_nr 0 dJ6_getBytes_8 rfl rfl (n := 9) rfl ?_
    refine x_getR fl_J6_9 dJ6_getBytes_9 (n := 12) rfl (fun x7 => ?_)
    refine x_iconst 0 dJ6_getBytes_12 rfl (n := 13) rfl ?_
    refine x_aload_n 1 dJ6_getBytes_13 rfl rfl (n := 14) rfl ?_
    refine x_iload_n 2 dJ6_getBytes_14 rfl rfl (n := 15) rfl ?_
    refine x_iload_n 3 dJ6_getBytes_15 rfl rfl (n := 16) rfl ?_
    refine x_ishl dJ6_getBytes_16 (n := 17) rfl ?_
    refine x_aload_nr 0 dJ6_getBytes_17 rfl rfl (n := 18) rfl ?_
    refine x_getR fl_J6_9 dJ6_getBytes_18 (n := 21) rfl (fun x8 => ?_)
    refine x_sm (fun b9 e => ?_)
    subst e
    refine x_alen dJ6_getBytes_21 (n := 22) rfl (fun x10 => ?_)
    refine x_sm (fun b11 e => ?_)
    subst e
    refine x_sm (fun b12 e => ?_)
    subst e
    refine x_cpB arc_J6_212 dJ6_getBytes_22 (by decide) (Nat.le_of_ble_eq_true rfl) (n := 25) rfl (fun p13 => ?_)
    refine x_goto dJ6_getBytes_25 (n := 43) (by decide) ?_
    exact x_return dJ6_getBytes_43
abbrev cJ14_putStringAt : ByteArray := prog_16_method_73_code
def yJ14_putStringAt : MethodName := ⟨RJ14, "putStringAt", "(ILjava/lang/String;)V"⟩
def dkwJ14_putStringAt_0 : List UInt8 := [42, 44, 182, 1, 141, 44, 42, 180, 0, 15, 27, 42, 180, 0, 22, 182, 1, 143, 177]
abbrev dktJ14_putStringAt_0 : List UInt8 := dkwJ14_putStringAt_0 ++ []
theorem dksJ14_putStringAt_0 : cJ14_putStringAt.data.toList.drop 0 = dktJ14_putStringAt_0 := by decide +kernel
theorem dJ14_putStringAt_0 : decode cJ14_putStringAt 0 = .ok (.aload_n 0, 1) := dk_42 (dk_at dksJ14_putStringAt_0 0 rfl rfl)
theorem dJ14_putStringAt_1 : decode cJ14_putStringAt 1 = .ok (.aload_n 2, 1) := dk_44 (dk_at dksJ14_putStringAt_0 1 rfl rfl)
theorem dJ14_putStringAt_2 : decode cJ14_putStringAt 2 = .ok (.invokevirtual 397, 3) := dk_182 1 141 (dk_at dksJ14_putStringAt_0 2 rfl rfl)
theorem dJ14_putStringAt_5 : decode cJ14_putStringAt 5 = .ok (.aload_n 2, 1) := dk_44 (dk_at dksJ14_putStringAt_0 5 rfl rfl)
theorem dJ14_putStringAt_6 : decode cJ14_putStringAt 6 = .ok (.aload_n 0, 1) := dk_42 (dk_at dksJ14_putStringAt_0 6 rfl rfl)
theorem dJ14_putStringAt_7 : decode cJ14_putStringAt 7 = .ok (.getfield 15, 3) := dk_180 0 15 (dk_at dksJ14_putStringAt_0 7 rfl rfl)
theorem dJ14_putStringAt_10 : decode cJ14_putStringAt 10 = .ok (.iload_n 1, 1) := dk_27 (dk_at dksJ14_putStringAt_0 10 rfl rfl)
theorem dJ14_putStringAt_11 : decode cJ14_putStringAt 11 = .ok (.aload_n 0, 1) := dk_42 (dk_at dksJ14_putStringAt_0 11 rfl rfl)
theorem dJ14_putStringAt_12 : decode cJ14_putStringAt 12 = .ok (.getfield 22, 3) := dk_180 0 22 (dk_at dksJ14_putStringAt_0 12 rfl rfl)
theorem dJ14_putStringAt_15 : decode cJ14_putStringAt 15 = .ok (.invokevirtual 399, 3) := dk_182 1 143 (dk_at dksJ14_putStringAt_0 15 rfl rfl)
theorem dJ14_putStringAt_18 : decode cJ14_putStringAt 18 = .ok (.return_, 1) := dk_177 (dk_at dksJ14_putStringAt_0 18 rfl rfl)
theorem md_J14_putStringAt : xMd yJ14_putStringAt cJ14_putStringAt 3 (Option.none : Option Jvm.ClassFile.FieldType) 2 := ⟨q847, q142, by decide, by decide +kernel, by decide +kernel, by decide +kernel⟩
def f_J14_putStringAt (p0 : PH) (a0 : Nat) (a1 : Int32) (a2 : Option Nat) : Option (xO × PH) :=
  (xcl1 p0 a0 17 (xcV (f_J14_inflateIfNeededFor p0 a0 a2) fun p1 =>
  (xgR p1 a0 17 0 fun x2 =>
  (xgI p1 a0 17 1 fun x3 =>
  (xnul a2 none fun b4 =>
  (xcV (f_J6_getBytes p1 b4 x2 a1 x3) fun p5 =>
  (rV p5)))))))
theorem rc_J14_putStringAt {p0 : PH} {a0 : Nat} {a1 : Int32} {a2 : Option Nat} : ∀ z, f_J14_putStringAt p0 a0 a1 a2 = some z → xco p0 a0 = some 17 := fun z h => xcl1_some h
theorem f_J14_putStringAt_ok {G : xG} (hO : xOK G) (p0 : PH) (a0 : Nat) (a1 : Int32) (a2 : Option Nat) : CT G 2 yJ14_putStringAt cJ14_putStringAt 3 (Option.none : Option Jvm.ClassFile.FieldType) [.ref a0, .int a1, va_rf a2] p0 (f_J14_putStringAt p0 a0 a1 a2) := by
  refine CT_of hO (by decide +kernel) (by decide +kernel) (lg_slen _ (by simp only [List.map, xcat]; exact Nat.le_of_ble_eq_true rfl)) ?_
  rw [show lv_args 0 [.ref a0, .int a1, va_rf a2] = [(0, .ref a0), (1, .int a1), (2, va_rf a2)] from by simp only [lv_args, xcat] <;> rfl]
  show X G "java/lang/AbstractStringBuilder" "putStringAt" cJ14_putStringAt 3 (Option.none : Option Jvm.ClassFile.FieldType) 2 0 [(0, .ref a0), (1, .int a1), (2, va_rf a2)] [] p0 (f_J14_putStringAt p0 a0 a1 a2)
  refine x_cl1 (fun e0 => ?_)
  refine x_aload_nr 0 dJ14_putStringAt_0 rfl rfl (n := 1) rfl ?_
  refine x_aload_n 2 dJ14_putStringAt_1 rfl rfl (n := 2) rfl ?_
  refine x_callP_V [va_rf a2] [] (f_J14_inflateIfNeededFor_ok hO p0 a0 a2) rc_J14_inflateIfNeededFor md_J14_inflateIfNeededFor rfl q848 q3483 q849 q850 dJ14_putStringAt_2 rfl rfl (by decide) (Nat.le_of_ble_eq_true rfl) (n := 5) rfl (fun p1 => ?_)
  refine x_aload_n 2 dJ14_putStringAt_5 rfl rfl (n := 6) rfl ?_
  refine x_aload_nr 0 dJ14_putStringAt_6 rfl rfl (n := 7) rfl ?_
  refine x_getR fl_J14_15 dJ14_putStringAt_7 (n := 10) rfl (fun x2 => ?_)
  refine x_iload_n 1 dJ14_putStringAt_10 rfl rfl (n := 11) rfl ?_
  refine x_aload_nr 0 dJ14_putStringAt_11 rfl rfl (n := 12) rfl ?_
  refine x_getI fl_J14_22 dJ14_putStringAt_12 (n := 15) rfl (fun x3 => ?_)
  refine x_sm (fun b4 e => ?_)
  subst e
  refine x_callV_V [va_rf x2, .int a1, .int x3] [] (f_J6_getBytes_ok hO p1 b4 x2 a1 x3) rc_J6_getBytes md_J6_getBytes rfl q853 q854 q855 dJ14_putStringAt_15 rfl rfl (by decide) (Nat.le_of_ble_eq_true rfl) (n := 18) rfl (fun p5 => ?_)
  exact x_return dJ14_putStringAt_18
abbrev cJ14_append_2 : ByteArray := prog_16_method_22_code
def yJ14_append_2 : MethodName := ⟨RJ14, "append", "(Ljava/lang/String;)Ljava/lang/AbstractStringBuilder;"⟩
def dkwJ14_append_2_1 : List UInt8 := [42, 42, 180, 0, 79, 43, 182, 0, 208, 42, 89, 180, 0, 79, 28, 96, 181, 0, 79, 42, 176]
abbrev dktJ14_append_2_1 : List UInt8 := dkwJ14_append_2_1 ++ []
def dkwJ14_append_2_0 : List UInt8 := [43, 199, 0, 8, 42, 182, 0, 204, 176, 43, 182, 0, 32, 61, 42, 42, 180, 0, 79, 28, 96, 182, 0, 100]
abbrev dktJ14_append_2_0 : List UInt8 := dkwJ14_append_2_0 ++ dktJ14_append_2_1
theorem dksJ14_append_2_0 : cJ14_append_2.data.toList.drop 0 = dktJ14_append_2_0 := by decide +kernel
theorem dksJ14_append_2_1 : cJ14_append_2.data.toList.drop 24 = dktJ14_append_2_1 := dk_seg dksJ14_append_2_0 24 rfl rfl
theorem dJ14_append_2_0 : decode cJ14_append_2 0 = .ok (.aload_n 1, 1) := dk_43 (dk_at dksJ14_append_2_0 0 rfl rfl)
theorem dJ14_append_2_1 : decode cJ14_append_2 1 = .ok (.ifnonnull 8, 3) := dk_199 0 8 (dk_at dksJ14_append_2_0 1 rfl rfl)
theorem dJ14_append_2_4 : decode cJ14_append_2 4 = .ok (.aload_n 0, 1) := dk_42 (dk_at dksJ14_append_2_0 4 rfl rfl)
theorem dJ14_append_2_5 : decode cJ14_append_2 5 = .ok (.invokevirtual 204, 3) := dk_182 0 204 (dk_at dksJ14_append_2_0 5 rfl rfl)
theorem dJ14_append_2_8 : decode cJ14_append_2 8 = .ok (.areturn, 1) := dk_176 (dk_at dksJ14_append_2_0 8 rfl rfl)
theorem dJ14_append_2_9 : decode cJ14_append_2 9 = .ok (.aload_n 1, 1) := dk_43 (dk_at dksJ14_append_2_0 9 rfl rfl)
theorem dJ14_append_2_10 : decode cJ14_append_2 10 = .ok (.invokevirtual 32, 3) := dk_182 0 32 (dk_at dksJ14_append_2_0 10 rfl rfl)
theorem dJ14_append_2_13 : decode cJ14_append_2 13 = .ok (.istore_n 2, 1) := dk_61 (dk_at dksJ14_append_2_0 13 rfl rfl)
theorem dJ14_append_2_14 : decode cJ14_append_2 14 = .ok (.aload_n 0, 1) := dk_42 (dk_at dksJ14_append_2_0 14 rfl rfl)
theorem dJ14_append_2_15 : decode cJ14_append_2 15 = .ok (.aload_n 0, 1) := dk_42 (dk_at dksJ14_append_2_0 15 rfl rfl)
theorem dJ14_append_2_16 : decode cJ14_append_2 16 = .ok (.getfield 79, 3) := dk_180 0 79 (dk_at dksJ14_append_2_0 16 rfl rfl)
theorem dJ14_append_2_19 : decode cJ14_append_2 19 = .ok (.iload_n 2, 1) := dk_28 (dk_at dksJ14_append_2_0 19 rfl rfl)
theorem dJ14_append_2_20 : decode cJ14_append_2 20 = .ok (.iadd, 1) := dk_96 (dk_at dksJ14_append_2_0 20 rfl rfl)
theorem dJ14_append_2_21 : decode cJ14_append_2 21 = .ok (.invokevirtual 100, 3) := dk_182 0 100 (dk_at dksJ14_append_2_0 21 rfl rfl)
theorem dJ14_append_2_24 : decode cJ14_append_2 24 = .ok (.aload_n 0, 1) := dk_42 (dk_at dksJ14_append_2_1 0 rfl rfl)
theorem dJ14_append_2_25 : decode cJ14_append_2 25 = .ok (.aload_n 0, 1) := dk_42 (dk_at dksJ14_append_2_1 1 rfl rfl)
theorem dJ14_append_2_26 : decode cJ14_append_2 26 = .ok (.getfield 79, 3) := dk_180 0 79 (dk_at dksJ14_append_2_1 2 rfl rfl)
theorem dJ14_append_2_29 : decode cJ14_append_2 29 = .ok (.aload_n 1, 1) := dk_43 (dk_at dksJ14_append_2_1 5 rfl rfl)
theorem dJ14_append_2_30 : decode cJ14_append_2 30 = .ok (.invokevirtual 208, 3) := dk_182 0 208 (dk_at dksJ14_append_2_1 6 rfl rfl)
theorem dJ14_append_2_33 : decode cJ14_append_2 33 = .ok (.aload_n 0, 1) := dk_42 (dk_at dksJ14_append_2_1 9 rfl rfl)
theorem dJ14_append_2_34 : decode cJ14_append_2 34 = .ok (.dup, 1) := dk_89 (dk_at dksJ14_append_2_1 10 rfl rfl)
theorem dJ14_append_2_35 : decode cJ14_append_2 35 = .ok (.getfield 79, 3) := dk_180 0 79 (dk_at dksJ14_append_2_1 11 rfl rfl)
theorem dJ14_append_2_38 : decode cJ14_append_2 38 = .ok (.iload_n 2, 1) := dk_28 (dk_at dksJ14_append_2_1 14 rfl rfl)
theorem dJ14_append_2_39 : decode cJ14_append_2 39 = .ok (.iadd, 1) := dk_96 (dk_at dksJ14_append_2_1 15 rfl rfl)
theorem dJ14_append_2_40 : decode cJ14_append_2 40 = .ok (.putfield 79, 3) := dk_181 0 79 (dk_at dksJ14_append_2_1 16 rfl rfl)
theorem dJ14_append_2_43 : decode cJ14_append_2 43 = .ok (.aload_n 0, 1) := dk_42 (dk_at dksJ14_append_2_1 19 rfl rfl)
theorem dJ14_append_2_44 : decode cJ14_append_2 44 = .ok (.areturn, 1) := dk_176 (dk_at dksJ14_append_2_1 20 rfl rfl)
theorem md_J14_append_2 : xMd yJ14_append_2 cJ14_append_2 3 (Option.some (Jvm.ClassFile.FieldType.object "java/lang/AbstractStringBuilder")) 1 := ⟨q835, q142, by decide, by decide +kernel, by decide +kernel, by decide +kernel⟩
def f_J14_append_2 (p0 : PH) (a0 : Nat) (a1 : Option Nat) : Option (xO × PH) :=
  (xcl1 p0 a0 17 (xnul a1 none fun b1 =>
  (xcI (f_J6_length p0 b1 ) fun x3 p2 =>
  (xgI p2 a0 17 3 fun x4 =>
  (xcV (f_J14_ensureCapacityInternal p2 a0 (x4 + x3)) fun p5 =>
  (xgI p5 a0 17 3 fun x6 =>
  (xcV (f_J14_putStringAt p5 a0 x6 (some b1)) fun p7 =>
  (xgI p7 a0 17 3 fun x8 =>
  (xpF p7 a0 17 3 (.int (x8 + x3)) fun p9 =>
  (rR (some a0) p9))))))))))
theorem rc_J14_append_2 {p0 : PH} {a0 : Nat} {a1 : Option Nat} : ∀ z, f_J14_append_2 p0 a0 a1 = some z → xco p0 a0 = some 17 := fun z h => xcl1_some h
theorem f_J14_append_2_ok {G : xG} (hO : xOK G) (p0 : PH) (a0 : Nat) (a1 : Option Nat) : CT G 4 yJ14_append_2 cJ14_append_2 3 (Option.some (Jvm.ClassFile.FieldType.object "java/lang/AbstractStringBuilder")) [.ref a0, va_rf a1] p0 (f_J14_append_2 p0 a0 a1) := by
  refine CT_of hO (by decide +kernel) (by decide +kernel) (lg_slen _ (by simp only [List.map, xcat]; exact Nat.le_of_ble_eq_true rfl)) ?_
  rw [show lv_args 0 [.ref a0, va_rf a1] = [(0, .ref a0), (1, va_rf a1)] from by simp only [lv_args, xcat] <;> rfl]
  show X G "java/lang/AbstractStringBuilder" "append" cJ14_append_2 3 (Option.some (Jvm.ClassFile.FieldType.object "java/lang/AbstractStringBuilder")) 4 0 [(0, .ref a0), (1, va_rf a1)] [] p0 (f_J14_append_2 p0 a0 a1)
  refine x_cl1 (fun e0 => ?_)
  refine x_aload_n 1 dJ14_append_2_0 rfl rfl (n := 1) rfl ?_
  refine x_ifnonnull dJ14_append_2_1 (t := 9) (by decide) (n := 4) rfl (fun e => ?_) (fun b1 e => ?_)
  · subst e
    refine x_aload_nr 0 dJ14_append_2_4 rfl rfl (n := 5) rfl ?_
    exact x_no
  · subst e
    refine x_aload_nr 1 dJ14_append_2_9 rfl rfl (n := 10) rfl ?_
    refine x_callV_I [] [] (f_J6_length_ok hO p0 b1 ) rc_J6_length md_J6_length rfl q843 q420 q421 dJ14_append_2_10 rfl rfl (by decide) (Nat.le_of_ble_eq_true rfl) (n := 13) rfl (fun x3 p2 => ?_)
    refine x_istore_n [(2, .int x3), (0, .ref a0), (1, .ref b1)] dJ14_append_2_13 rfl (by decide) rfl (n := 14) rfl ?_
    refine x_aload_nr 1 dJ14_append_2_14 rfl rfl (n := 15) rfl ?_
    refine x_aload_nr 1 dJ14_append_2_15 rfl rfl (n := 16) rfl ?_
    refine x_getI fl_J14_79 dJ14_append_2_16 (n := 19) rfl (fun x4 => ?_)
    refine x_iload_n 0 dJ14_append_2_19 rfl rfl (n := 20) rfl ?_
    refine x_iadd dJ14_append_2_20 (n := 21) rfl ?_
    refine x_callP_V [.int (x4 + x3)] [] (f_J14_ensureCapacityInternal_ok hO p2 a0 (x4 + x3)) rc_J14_ensureCapacityInternal md_J14_ensureCapacityInternal rfl q610 q3477 q611 q612 dJ14_append_2_21 rfl rfl (by decide) (Nat.le_of_ble_eq_true rfl) (n := 24) rfl (fun p5 => ?_)
    refine x_aload_nr 1 dJ14_append_2_24 rfl rfl (n := 25) rfl ?_
    refine x_aload_nr 1 dJ14_append_2_25 rfl rfl (n := 26) rfl ?_
    refine x_getI fl_J14_79 dJ14_append_2_26 (n := 29) rfl (fun x6 => ?_)
    refine x_aload_nr 2 dJ14_append_2_29 rfl rfl (n := 30) rfl ?_
    refine x_callP_V [.int x6, .ref b1] [] (f_J14_putStringAt_ok hO p5 a0 x6 (some b1)) rc_J14_putStringAt md_J14_putStringAt rfl q844 q3482 q845 q846 dJ14_append_2_30 rfl rfl (by decide) (Nat.le_of_ble_eq_true rfl) (n := 33) rfl (fun p7 => ?_)
    refine x_aload_nr 1 dJ14_append_2_33 rfl rfl (n := 34) rfl ?_
    refine x_dup dJ14_append_2_34 rfl (n := 35) rfl ?_
    refine x_getI fl_J14_79 dJ14_append_2_35 (n := 38) rfl (fun x8 => ?_)
    refine x_iload_n 0 dJ14_append_2_38 rfl rfl (n := 39) rfl ?_
    refine x_iadd dJ14_append_2_39 (n := 40) rfl ?_
    refine x_pF (pl_J14_79 _ _ ⟨rfl, rfl⟩) dJ14_append_2_40 (n := 43) rfl (fun p9 => ?_)
    refine x_aload_nr 1 dJ14_append_2_43 rfl rfl (n := 44) rfl ?_
    exact x_areturn (x := some a0) (Or.inl ⟨_, rfl⟩) dJ14_append_2_44
abbrev cJ15_append_2 : ByteArray := prog_32_method_7_code
def yJ15_append_2 : MethodName := ⟨RJ15, "append", "(Ljava/lang/String;)Ljava/lang/StringBuilder;"⟩
def dkwJ15_append_2_0 : List UInt8 := [42, 43, 183, 0, 29, 87, 42, 176]
abbrev dktJ15_append_2_0 : List UInt8 := dkwJ15_append_2_0 ++ []
theorem dksJ15_append_2_0 : cJ15_append_2.data.toList.drop 0 = dktJ15_append_2_0 := by decide +kernel
theorem dJ15_append_2_0 : decode cJ15_append_2 0 = .ok (.aload_n 0, 1) := dk_42 (dk_at dksJ15_append_2_0 0 rfl rfl)
theorem dJ15_append_2_1 : decode cJ15_append_2 1 = .ok (.aload_n 1, 1) := dk_43 (dk_at dksJ15_append_2_0 1 rfl rfl)
theorem dJ15_append_2_2 : decode cJ15_append_2 2 = .ok (.invokespecial 29, 3) := dk_183 0 29 (dk_at dksJ15_append_2_0 2 rfl rfl)
theorem dJ15_append_2_5 : decode cJ15_append_2 5 = .ok (.pop, 1) := dk_87 (dk_at dksJ15_append_2_0 5 rfl rfl)
theorem dJ15_append_2_6 : decode cJ15_append_2 6 = .ok (.aload_n 0, 1) := dk_42 (dk_at dksJ15_append_2_0 6 rfl rfl)
theorem dJ15_append_2_7 : decode cJ15_append_2 7 = .ok (.areturn, 1) := dk_176 (dk_at dksJ15_append_2_0 7 rfl rfl)
theorem md_J15_append_2 : xMd yJ15_append_2 cJ15_append_2 2 (Option.some (Jvm.ClassFile.FieldType.object "java/lang/StringBuilder")) 1 := ⟨q832, q143, by decide, by decide +kernel, by decide +kernel, by decide +kernel⟩
def f_J15_append_2 (p0 : PH) (a0 : Nat) (a1 : Option Nat) : Option (xO × PH) :=
  (xcl1 p0 a0 17 (xcR (f_J14_append_2 p0 a0 a1) fun x2 p1 =>
  (rR (some a0) p1)))
theorem rc_J15_append_2 {p0 : PH} {a0 : Nat} {a1 : Option Nat} : ∀ z, f_J15_append_2 p0 a0 a1 = some z → xco p0 a0 = some 17 := fun z h => xcl1_some h
theorem f_J15_append_2_ok {G : xG} (hO : xOK G) (p0 : PH) (a0 : Nat) (a1 : Option Nat) : CT G 5 yJ15_append_2 cJ15_append_2 2 (Option.some (Jvm.ClassFile.FieldType.object "java/lang/StringBuilder")) [.ref a0, va_rf a1] p0 (f_J15_append_2 p0 a0 a1) := by
  refine CT_of hO (by decide +kernel) (by decide +kernel) (lg_slen _ (by simp only [List.map, xcat]; exact Nat.le_of_ble_eq_true rfl)) ?_
  rw [show lv_args 0 [.ref a0, va_rf a1] = [(0, .ref a0), (1, va_rf a1)] from by simp only [lv_args, xcat] <;> rfl]
  show X G "java/lang/StringBuilder" "append" cJ15_append_2 2 (Option.some (Jvm.ClassFile.FieldType.object "java/lang/StringBuilder")) 5 0 [(0, .ref a0), (1, va_rf a1)] [] p0 (f_J15_append_2 p0 a0 a1)
  refine x_cl1 (fun e0 => ?_)
  refine x_aload_nr 0 dJ15_append_2_0 rfl rfl (n := 1) rfl ?_
  refine x_aload_n 1 dJ15_append_2_1 rfl rfl (n := 2) rfl ?_
  refine x_callSU_R [va_rf a1] [] (f_J14_append_2_ok hO p0 a0 a1) rc_J14_append_2 md_J14_append_2 rfl q833 q3480 q602 (by decide) q834 dJ15_append_2_2 rfl rfl (by decide) (Nat.le_of_ble_eq_true rfl) (n := 5) rfl (fun x2 p1 => ?_)
  refine x_pop dJ15_append_2_5 (xcat _) (n := 6) rfl ?_
  refine x_aload_nr 0 dJ15_append_2_6 rfl rfl (n := 7) rfl ?_
  exact x_areturn (x := some a0) (Or.inl ⟨_, rfl⟩) dJ15_append_2_7
abbrev cJ6_toString : ByteArray := prog_31_method_126_code
def yJ6_toString : MethodName := ⟨RJ6, "toString", "()Ljava/lang/String;"⟩
theorem dJ6_toString_0 : decode cJ6_toString 0 = .ok (.aload_n 0, 1) := by decide +kernel
theorem dJ6_toString_1 : decode cJ6_toString 1 = .ok (.areturn, 1) := by decide +kernel
theorem md_J6_toString : xMd yJ6_toString cJ6_toString 1 (Option.some (Jvm.ClassFile.FieldType.object "java/lang/String")) 0 := ⟨q872, q133, by decide, by decide +kernel, by decide +kernel, by decide +kernel⟩
def f_J6_toString (p0 : PH) (a0 : Nat) : Option (xO × PH) :=
  (xcl1 p0 a0 16 (rR (some a0) p0))
theorem rc_J6_toString {p0 : PH} {a0 : Nat} : ∀ z, f_J6_toString p0 a0 = some z → xco p0 a0 = some 16 := fun z h => xcl1_some h
theorem f_J6_toString_ok {G : xG} (hO : xOK G) (p0 : PH) (a0 : Nat) : CT G 0 yJ6_toString cJ6_toString 1 (Option.some (Jvm.ClassFile.FieldType.object "java/lang/String")) [.ref a0] p0 (f_J6_toString p0 a0) := by
  refine CT_of hO (by decide +kernel) (by decide +kernel) (Nat.le_of_ble_eq_true rfl) ?_
  show X G "java/lang/String" "toString" cJ6_toString 1 (Option.some (Jvm.ClassFile.FieldType.object "java/lang/String")) 0 0 [(0, .ref a0)] [] p0 (f_J6_toString p0 a0)
  refine x_cl1 (fun e0 => ?_)
  refine x_aload_nr 0 dJ6_toString_0 rfl rfl (n := 1) rfl ?_
  exact x_areturn (x := some a0) (Or.inl ⟨_, rfl⟩) dJ6_toString_1
abbrev cJ7_indexOf_3 : ByteArray := prog_33_method_25_code
def yJ7_indexOf_3 : MethodName := ⟨RJ7, "indexOf", "([BI[BII)I"⟩
def dkwJ7_indexOf_3_5 : List UInt8 := [167, 255, 154, 2, 172]
abbrev dktJ7_indexOf_3_5 : List UInt8 := dkwJ7_indexOf_3_5 ++ []
def dkwJ7_indexOf_3_4 : List UInt8 := [132, 8, 1, 132, 10, 1, 167, 255, 232, 21, 8, 21, 9, 160, 0, 6, 21, 7, 172, 132, 7, 1]
abbrev dktJ7_indexOf_3_4 : List UInt8 := dkwJ7_indexOf_3_4 ++ dktJ7_indexOf_3_5
def dkwJ7_indexOf_3_3 : List UInt8 := [100, 54, 9, 4, 54, 10, 21, 8, 21, 9, 162, 0, 23, 42, 21, 8, 51, 44, 21, 10, 51, 160, 0, 12]
abbrev dktJ7_indexOf_3_3 : List UInt8 := dkwJ7_indexOf_3_3 ++ dktJ7_indexOf_3_4
def dkwJ7_indexOf_3_2 : List UInt8 := [159, 0, 6, 167, 255, 237, 21, 7, 21, 6, 163, 0, 57, 21, 7, 4, 96, 54, 8, 21, 8, 29, 96, 4]
abbrev dktJ7_indexOf_3_2 : List UInt8 := dkwJ7_indexOf_3_2 ++ dktJ7_indexOf_3_3
def dkwJ7_indexOf_3_1 : List UInt8 := [51, 21, 5, 159, 0, 25, 132, 7, 1, 21, 7, 21, 6, 163, 0, 15, 42, 21, 7, 51, 21, 5]
abbrev dktJ7_indexOf_3_1 : List UInt8 := dkwJ7_indexOf_3_1 ++ dktJ7_indexOf_3_2
def dkwJ7_indexOf_3_0 : List UInt8 := [44, 3, 51, 54, 5, 27, 29, 100, 54, 6, 21, 4, 54, 7, 21, 7, 21, 6, 163, 0, 101, 42, 21, 7]
abbrev dktJ7_indexOf_3_0 : List UInt8 := dkwJ7_indexOf_3_0 ++ dktJ7_indexOf_3_1
theorem dksJ7_indexOf_3_0 : cJ7_indexOf_3.data.toList.drop 0 = dktJ7_indexOf_3_0 := by decide +kernel
theorem dksJ7_indexOf_3_1 : cJ7_indexOf_3.data.toList.drop 24 = dktJ7_indexOf_3_1 := dk_seg dksJ7_indexOf_3_0 24 rfl rfl
theorem dksJ7_indexOf_3_2 : cJ7_indexOf_3.data.toList.drop 46 = dktJ7_indexOf_3_2 := dk_seg dksJ7_indexOf_3_1 22 rfl rfl
theorem dksJ7_indexOf_3_3 : cJ7_indexOf_3.data.toList.drop 70 = dktJ7_indexOf_3_3 := dk_seg dksJ7_indexOf_3_2 24 rfl rfl
theorem dksJ7_indexOf_3_4 : cJ7_indexOf_3.data.toList.drop 94 = dktJ7_indexOf_3_4 := dk_seg dksJ7_indexOf_3_3 24 rfl rfl
theorem dksJ7_indexOf_3_5 : cJ7_indexOf_3.data.toList.drop 116 = dktJ7_indexOf_3_5 := dk_seg dksJ7_indexOf_3_4 22 rfl rfl
theorem dJ7_indexOf_3_0 : decode cJ7_indexOf_3 0 = .ok (.aload_n 2, 1) := dk_44 (dk_at dksJ7_indexOf_3_0 0 rfl rfl)
theorem dJ7_indexOf_3_1 : decode cJ7_indexOf_3 1 = .ok (.iconst 0, 1) := dk_3 (dk_at dksJ7_indexOf_3_0 1 rfl rfl)
theorem dJ7_indexOf_3_2 : decode cJ7_indexOf_3 2 = .ok (.baload, 1) := dk_51 (dk_at dksJ7_indexOf_3_0 2 rfl rfl)
theorem dJ7_indexOf_3_3 : decode cJ7_indexOf_3 3 = .ok (.istore 5, 2) := dk_54 5 (dk_at dksJ7_indexOf_3_0 3 rfl rfl)
theorem dJ7_indexOf_3_5 : decode cJ7_indexOf_3 5 = .ok (.iload_n 1, 1) := dk_27 (dk_at dksJ7_indexOf_3_0 5 rfl rfl)
theorem dJ7_indexOf_3_6 : decode cJ7_indexOf_3 6 = .ok (.iload_n 3, 1) := dk_29 (dk_at dksJ7_indexOf_3_0 6 rfl rfl)
theorem dJ7_indexOf_3_7 : decode cJ7_indexOf_3 7 = .ok (.isub, 1) := dk_100 (dk_at dksJ7_indexOf_3_0 7 rfl rfl)
theorem dJ7_indexOf_3_8 : decode cJ7_indexOf_3 8 = .ok (.istore 6, 2) := dk_54 6 (dk_at dksJ7_indexOf_3_0 8 rfl rfl)
theorem dJ7_indexOf_3_10 : decode cJ7_indexOf_3 10 = .ok (.iload 4, 2) := dk_21 4 (dk_at dksJ7_indexOf_3_0 10 rfl rfl)
theorem dJ7_indexOf_3_12 : decode cJ7_indexOf_3 12 = .ok (.istore 7, 2) := dk_54 7 (dk_at dksJ7_indexOf_3_0 12 rfl rfl)
theorem dJ7_indexOf_3_14 : decode cJ7_indexOf_3 14 = .ok (.iload 7, 2) := dk_21 7 (dk_at dksJ7_indexOf_3_0 14 rfl rfl)
theorem dJ7_indexOf_3_16 : decode cJ7_indexOf_3 16 = .ok (.iload 6, 2) := dk_21 6 (dk_at dksJ7_indexOf_3_0 16 rfl rfl)
theorem dJ7_indexOf_3_18 : decode cJ7_indexOf_3 18 = .ok (.if_icmp .gt 101, 3) := dk_163 0 101 (dk_at dksJ7_indexOf_3_0 18 rfl rfl)
theorem dJ7_indexOf_3_21 : decode cJ7_indexOf_3 21 = .ok (.aload_n 0, 1) := dk_42 (dk_at dksJ7_indexOf_3_0 21 rfl rfl)
theorem dJ7_indexOf_3_22 : decode cJ7_indexOf_3 22 = .ok (.iload 7, 2) := dk_21 7 (dk_at dksJ7_indexOf_3_0 22 rfl rfl)
theorem dJ7_indexOf_3_24 : decode cJ7_indexOf_3 24 = .ok (.baload, 1) := dk_51 (dk_at dksJ7_indexOf_3_1 0 rfl rfl)
theorem dJ7_indexOf_3_25 : decode cJ7_indexOf_3 25 = .ok (.iload 5, 2) := dk_21 5 (dk_at dksJ7_indexOf_3_1 1 rfl rfl)
theorem dJ7_indexOf_3_27 : decode cJ7_indexOf_3 27 = .ok (.if_icmp .eq 25, 3) := dk_159 0 25 (dk_at dksJ7_indexOf_3_1 3 rfl rfl)
theorem dJ7_indexOf_3_30 : decode cJ7_indexOf_3 30 = .ok (.iinc 7 1, 3) := dk_132 7 1 (dk_at dksJ7_indexOf_3_1 6 rfl rfl)
theorem dJ7_indexOf_3_33 : decode cJ7_indexOf_3 33 = .ok (.iload 7, 2) := dk_21 7 (dk_at dksJ7_indexOf_3_1 9 rfl rfl)
theorem dJ7_indexOf_3_35 : decode cJ7_indexOf_3 35 = .ok (.iload 6, 2) := dk_21 6 (dk_at dksJ7_indexOf_3_1 11 rfl rfl)
theorem dJ7_indexOf_3_37 : decode cJ7_indexOf_3 37 = .ok (.if_icmp .gt 15, 3) := dk_163 0 15 (dk_at dksJ7_indexOf_3_1 13 rfl rfl)
theorem dJ7_indexOf_3_40 : decode cJ7_indexOf_3 40 = .ok (.aload_n 0, 1) := dk_42 (dk_at dksJ7_indexOf_3_1 16 rfl rfl)
theorem dJ7_indexOf_3_41 : decode cJ7_indexOf_3 41 = .ok (.iload 7, 2) := dk_21 7 (dk_at dksJ7_indexOf_3_1 17 rfl rfl)
theorem dJ7_indexOf_3_43 : decode cJ7_indexOf_3 43 = .ok (.baload, 1) := dk_51 (dk_at dksJ7_indexOf_3_1 19 rfl rfl)
theorem dJ7_indexOf_3_44 : decode cJ7_indexOf_3 44 = .ok (.iload 5, 2) := dk_21 5 (dk_at dksJ7_indexOf_3_1 20 rfl rfl)
theorem dJ7_indexOf_3_46 : decode cJ7_indexOf_3 46 = .ok (.if_icmp .eq 6, 3) := dk_159 0 6 (dk_at dksJ7_indexOf_3_2 0 rfl rfl)
theorem dJ7_indexOf_3_49 : decode cJ7_indexOf_3 49 = .ok (.goto (-19), 3) := dk_167 255 237 (dk_at dksJ7_indexOf_3_2 3 rfl rfl)
theorem dJ7_indexOf_3_52 : decode cJ7_indexOf_3 52 = .ok (.iload 7, 2) := dk_21 7 (dk_at dksJ7_indexOf_3_2 6 rfl rfl)
theorem dJ7_indexOf_3_54 : decode cJ7_indexOf_3 54 = .ok (.iload 6, 2) := dk_21 6 (dk_at dksJ7_indexOf_3_2 8 rfl rfl)
theorem dJ7_indexOf_3_56 : decode cJ7_indexOf_3 56 = .ok (.if_icmp .gt 57, 3) := dk_163 0 57 (dk_at dksJ7_indexOf_3_2 10 rfl rfl)
theorem dJ7_indexOf_3_59 : decode cJ7_indexOf_3 59 = .ok (.iload 7, 2) := dk_21 7 (dk_at dksJ7_indexOf_3_2 13 rfl rfl)
theorem dJ7_indexOf_3_61 : decode cJ7_indexOf_3 61 = .ok (.iconst 1, 1) := dk_4 (dk_at dksJ7_indexOf_3_2 15 rfl rfl)
theorem dJ7_indexOf_3_62 : decode cJ7_indexOf_3 62 = .ok (.iadd, 1) := dk_96 (dk_at dksJ7_indexOf_3_2 16 rfl rfl)
theorem dJ7_indexOf_3_63 : decode cJ7_indexOf_3 63 = .ok (.istore 8, 2) := dk_54 8 (dk_at dksJ7_indexOf_3_2 17 rfl rfl)
theorem dJ7_indexOf_3_65 : decode cJ7_indexOf_3 65 = .ok (.iload 8, 2) := dk_21 8 (dk_at dksJ7_indexOf_3_2 19 rfl rfl)
theorem dJ7_indexOf_3_67 : decode cJ7_indexOf_3 67 = .ok (.iload_n 3, 1) := dk_29 (dk_at dksJ7_indexOf_3_2 21 rfl rfl)
theorem dJ7_indexOf_3_68 : decode cJ7_indexOf_3 68 = .ok (.iadd, 1) := dk_96 (dk_at dksJ7_indexOf_3_2 22 rfl rfl)
theorem dJ7_indexOf_3_69 : decode cJ7_indexOf_3 69 = .ok (.iconst 1, 1) := dk_4 (dk_at dksJ7_indexOf_3_2 23 rfl rfl)
theorem dJ7_indexOf_3_70 : decode cJ7_indexOf_3 70 = .ok (.isub, 1) := dk_100 (dk_at dksJ7_indexOf_3_3 0 rfl rfl)
theorem dJ7_indexOf_3_71 : decode cJ7_indexOf_3 71 = .ok (.istore 9, 2) := dk_54 9 (dk_at dksJ7_indexOf_3_3 1 rfl rfl)
theorem dJ7_indexOf_3_73 : decode cJ7_indexOf_3 73 = .ok (.iconst 1, 1) := dk_4 (dk_at dksJ7_indexOf_3_3 3 rfl rfl)
theorem dJ7_indexOf_3_74 : decode cJ7_indexOf_3 74 = .ok (.istore 10, 2) := dk_54 10 (dk_at dksJ7_indexOf_3_3 4 rfl rfl)
theorem dJ7_indexOf_3_76 : decode cJ7_indexOf_3 76 = .ok (.iload 8, 2) := dk_21 8 (dk_at dksJ7_indexOf_3_3 6 rfl rfl)
theorem dJ7_indexOf_3_78 : decode cJ7_indexOf_3 78 = .ok (.iload 9, 2) := dk_21 9 (dk_at dksJ7_indexOf_3_3 8 rfl rfl)
theorem dJ7_indexOf_3_80 : decode cJ7_indexOf_3 80 = .ok (.if_icmp .ge 23, 3) := dk_162 0 23 (dk_at dksJ7_indexOf_3_3 10 rfl rfl)
theorem dJ7_indexOf_3_83 : decode cJ7_indexOf_3 83 = .ok (.aload_n 0, 1) := dk_42 (dk_at dksJ7_indexOf_3_3 13 rfl rfl)
theorem dJ7_indexOf_3_84 : decode cJ7_indexOf_3 84 = .ok (.iload 8, 2) := dk_21 8 (dk_at dksJ7_indexOf_3_3 14 rfl rfl)
theorem dJ7_indexOf_3_86 : decode cJ7_indexOf_3 86 = .ok (.baload, 1) := dk_51 (dk_at dksJ7_indexOf_3_3 16 rfl rfl)
theorem dJ7_indexOf_3_87 : decode cJ7_indexOf_3 87 = .ok (.aload_n 2, 1) := dk_44 (dk_at dksJ7_indexOf_3_3 17 rfl rfl)
theorem dJ7_indexOf_3_88 : decode cJ7_indexOf_3 88 = .ok (.iload 10, 2) := dk_21 10 (dk_at dksJ7_indexOf_3_3 18 rfl rfl)
theorem dJ7_indexOf_3_90 : decode cJ7_indexOf_3 90 = .ok (.baload, 1) := dk_51 (dk_at dksJ7_indexOf_3_3 20 rfl rfl)
theorem dJ7_indexOf_3_91 : decode cJ7_indexOf_3 91 = .ok (.if_icmp .ne 12, 3) := dk_160 0 12 (dk_at dksJ7_indexOf_3_3 21 rfl rfl)
theorem dJ7_indexOf_3_94 : decode cJ7_indexOf_3 94 = .ok (.iinc 8 1, 3) := dk_132 8 1 (dk_at dksJ7_indexOf_3_4 0 rfl rfl)
theorem dJ7_indexOf_3_97 : decode cJ7_indexOf_3 97 = .ok (.iinc 10 1, 3) := dk_132 10 1 (dk_at dksJ7_indexOf_3_4 3 rfl rfl)
theorem dJ7_indexOf_3_100 : decode cJ7_indexOf_3 100 = .ok (.goto (-24), 3) := dk_167 255 232 (dk_at dksJ7_indexOf_3_4 6 rfl rfl)
theorem dJ7_indexOf_3_103 : decode cJ7_indexOf_3 103 = .ok (.iload 8, 2) := dk_21 8 (dk_at dksJ7_indexOf_3_4 9 rfl rfl)
theorem dJ7_indexOf_3_105 : decode cJ7_indexOf_3 105 = .ok (.iload 9, 2) := dk_21 9 (dk_at dksJ7_indexOf_3_4 11 rfl rfl)
theorem dJ7_indexOf_3_107 : decode cJ7_indexOf_3 107 = .ok (.if_icmp .ne 6, 3) := dk_160 0 6 (dk_at dksJ7_indexOf_3_4 13 rfl rfl)
theorem dJ7_indexOf_3_110 : decode cJ7_indexOf_3 110 = .ok (.iload 7, 2) := dk_21 7 (dk_at dksJ7_indexOf_3_4 16 rfl rfl)
theorem dJ7_indexOf_3_112 : decode cJ7_indexOf_3 112 = .ok (.ireturn, 1) := dk_172 (dk_at dksJ7_indexOf_3_4 18 rfl rfl)
theorem dJ7_indexOf_3_113 : decode cJ7_indexOf_3 113 = .ok (.iinc 7 1, 3) := dk_132 7 1 (dk_at dksJ7_indexOf_3_4 19 rfl rfl)
theorem dJ7_indexOf_3_116 : decode cJ7_indexOf_3 116 = .ok (.goto (-102), 3) := dk_167 255 154 (dk_at dksJ7_indexOf_3_5 0 rfl rfl)
theorem dJ7_indexOf_3_119 : decode cJ7_indexOf_3 119 = .ok (.iconst (-1), 1) := dk_2 (dk_at dksJ7_indexOf_3_5 3 rfl rfl)
theorem dJ7_indexOf_3_120 : decode cJ7_indexOf_3 120 = .ok (.ireturn, 1) := dk_172 (dk_at dksJ7_indexOf_3_5 4 rfl rfl)
theorem md_J7_indexOf_3 : xMd yJ7_indexOf_3 cJ7_indexOf_3 11 (Option.some Jvm.ClassFile.FieldType.int) 5 := ⟨q886, q134, by decide, by decide +kernel, by decide +kernel, by decide +kernel⟩
def f_J7_indexOf_3_113  (k14 : Option Nat × Option Nat × Int32 × Int32 × Int32 × Int32 × PH → Option (xO × PH)) (v0 : Option Nat) (v2 : Option Nat) (v3 : Int32) (v5 : Int32) (v6 : Int32) (v7 : Int32) (p0 : PH) : Option (xO × PH) :=
  (bnd (v7 + 1) fun x6 =>
  (k14 (v0, v2, v3, v5, v6, x6, p0)))
def f_J7_indexOf_3_103  (k14 : Option Nat × Option Nat × Int32 × Int32 × Int32 × Int32 × PH → Option (xO × PH)) (v0 : Option Nat) (v2 : Option Nat) (v3 : Int32) (v5 : Int32) (v6 : Int32) (v7 : Int32) (v8 : Int32) (v9 : Int32) (p0 : PH) : Option (xO × PH) :=
  (if v8 = v9 then
  (rI v7 p0) else
  (f_J7_indexOf_3_113 k14 v0 v2 v3 v5 v6 v7 p0))
def f_J7_indexOf_3_76F  (k14 : Option Nat × Option Nat × Int32 × Int32 × Int32 × Int32 × PH → Option (xO × PH)) (k76 : Option Nat × Option Nat × Int32 × Int32 × Int32 × Int32 × Int32 × Int32 × Int32 × PH → Option (xO × PH)) (p : Option Nat × Option Nat × Int32 × Int32 × Int32 × Int32 × Int32 × Int32 × Int32 × PH) : Option (xO × PH) := match p with
  | (v0, v2, v3, v5, v6, v7, v8, v9, v10, p0) => (if v9 ≤ v8 then
  (f_J7_indexOf_3_103 k14 v0 v2 v3 v5 v6 v7 v8 v9 p0) else
  (xnul v0 none fun b9 =>
  (xaI p0 b9 2 v8 fun x10 =>
  (xnul v2 none fun b11 =>
  (xaI p0 b11 2 v10 fun x12 =>
  (if x10 = x12 then
  (bnd (v8 + 1) fun x13 =>
  (bnd (v10 + 1) fun x14 =>
  (k76 (((some b9)), ((some b11)), v3, v5, v6, v7, x13, v9, x14, p0)))) else
  (f_J7_indexOf_3_103 k14 ((some b9)) ((some b11)) v3 v5 v6 v7 v8 v9 p0)))))))
def f_J7_indexOf_3_52  (k14 : Option Nat × Option Nat × Int32 × Int32 × Int32 × Int32 × PH → Option (xO × PH)) (v0 : Option Nat) (v2 : Option Nat) (v3 : Int32) (v5 : Int32) (v6 : Int32) (v7 : Int32) (p0 : PH) : Option (xO × PH) :=
  (if v6 < v7 then
  (f_J7_indexOf_3_113 k14 v0 v2 v3 v5 v6 v7 p0) else
  (bnd (v7 + 1) fun x7 =>
  (bnd ((x7 + v3) - 1) fun x8 =>
  (lp (f_J7_indexOf_3_76F k14) FU (v0, v2, v3, v5, v6, v7, x7, x8, 1, p0)))))
def f_J7_indexOf_3_30F  (k14 : Option Nat × Option Nat × Int32 × Int32 × Int32 × Int32 × PH → Option (xO × PH)) (k30 : Option Nat × Option Nat × Int32 × Int32 × Int32 × Int32 × PH → Option (xO × PH)) (p : Option Nat × Option Nat × Int32 × Int32 × Int32 × Int32 × PH) : Option (xO × PH) := match p with
  | (v0, v2, v3, v5, v6, v7, p0) => (bnd (v7 + 1) fun x15 =>
  (if v6 < x15 then
  (f_J7_indexOf_3_52 k14 v0 v2 v3 v5 v6 x15 p0) else
  (xnul v0 none fun b16 =>
  (xaI p0 b16 2 x15 fun x17 =>
  (if x17 = v5 then
  (f_J7_indexOf_3_52 k14 ((some b16)) v2 v3 v5 v6 x15 p0) else
  (k30 (((some b16)), v2, v3, v5, v6, x15, p0)))))))
def f_J7_indexOf_3_14F   (k14 : Option Nat × Option Nat × Int32 × Int32 × Int32 × Int32 × PH → Option (xO × PH)) (p : Option Nat × Option Nat × Int32 × Int32 × Int32 × Int32 × PH) : Option (xO × PH) := match p with
  | (v0, v2, v3, v5, v6, v7, p0) => (if v6 < v7 then
  (rI (-1) p0) else
  (xnul v0 none fun b4 =>
  (xaI p0 b4 2 v7 fun x5 =>
  (if x5 = v5 then
  (f_J7_indexOf_3_52 k14 ((some b4)) v2 v3 v5 v6 v7 p0) else
  (lp (f_J7_indexOf_3_30F k14) FU (((some b4)), v2, v3, v5, v6, v7, p0))))))
def f_J7_indexOf_3 (p0 : PH) (a0 : Option Nat) (a1 : Int32) (a2 : Option Nat) (a3 : Int32) (a4 : Int32) : Option (xO × PH) :=
  (xnul a2 none fun b1 =>
  (xaI p0 b1 2 0 fun x2 =>
  (bnd (a1 - a3) fun x3 =>
  (lp (f_J7_indexOf_3_14F) FU (a0, ((some b1)), a3, x2, x3, a4, p0)))))
theorem f_J7_indexOf_3_113_ok {G : xG} (hO : xOK G)  {k14 : Option Nat × Option Nat × Int32 × Int32 × Int32 × Int32 × PH → Option (xO × PH)} (hk14 : ∀ (v0 : Option Nat) (v2 : Option Nat) (v3 : Int32) (v5 : Int32) (v6 : Int32) (v7 : Int32) (p0 : PH), X G "java/lang/StringLatin1" "indexOf" cJ7_indexOf_3 11 (Option.some Jvm.ClassFile.FieldType.int) 0 14 [(0, va_rf v0), (2, va_rf v2), (3, .int v3), (5, .int v5), (6, .int v6), (7, .int v7)] [] p0 (k14 (v0, v2, v3, v5, v6, v7, p0))) (v0 : Option Nat) (v2 : Option Nat) (v3 : Int32) (v5 : Int32) (v6 : Int32) (v7 : Int32) (p0 : PH) : X G "java/lang/StringLatin1" "indexOf" cJ7_indexOf_3 11 (Option.some Jvm.ClassFile.FieldType.int) 0 113 [(0, va_rf v0), (2, va_rf v2), (3, .int v3), (5, .int v5), (6, .int v6), (7, .int v7)] [] p0 (f_J7_indexOf_3_113 k14 v0 v2 v3 v5 v6 v7 p0) := by
  unfold f_J7_indexOf_3_113
  refine x_iincB 5 (fun x6 => [(7, .int x6), (0, va_rf v0), (2, va_rf v2), (3, .int v3), (5, .int v5), (6, .int v6)]) dJ7_indexOf_3_113 rfl rfl (by decide) (fun _ => rfl) (n := 116) rfl (fun x6 => ?_)
  refine x_goto dJ7_indexOf_3_116 (n := 14) (by decide) ?_
  refine x_sub [1, 2, 3, 4, 5, 0] [(0, va_rf v0), (2, va_rf v2), (3, .int v3), (5, .int v5), (6, .int v6), (7, .int x6)] rfl ?_
  exact hk14 v0 v2 v3 v5 v6 x6 p0
theorem f_J7_indexOf_3_103_ok {G : xG} (hO : xOK G)  {k14 : Option Nat × Option Nat × Int32 × Int32 × Int32 × Int32 × PH → Option (xO × PH)} (hk14 : ∀ (v0 : Option Nat) (v2 : Option Nat) (v3 : Int32) (v5 : Int32) (v6 : Int32) (v7 : Int32) (p0 : PH), X G "java/lang/StringLatin1" "indexOf" cJ7_indexOf_3 11 (Option.some Jvm.ClassFile.FieldType.int) 0 14 [(0, va_rf v0), (2, va_rf v2), (3, .int v3), (5, .int v5), (6, .int v6), (7, .int v7)] [] p0 (k14 (v0, v2, v3, v5, v6, v7, p0))) (v0 : Option Nat) (v2 : Option Nat) (v3 : Int32) (v5 : Int32) (v6 : Int32) (v7 : Int32) (v8 : Int32) (v9 : Int32) (p0 : PH) : X G "java/lang/StringLatin1" "indexOf" cJ7_indexOf_3 11 (Option.some Jvm.ClassFile.FieldType.int) 0 103 [(0, va_rf v0), (2, va_rf v2), (3, .int v3), (5, .int v5), (6, .int v6), (7, .int v7), (8, .int v8), (9, .int v9)] [] p0 (f_J7_indexOf_3_103 k14 v0 v2 v3 v5 v6 v7 v8 v9 p0) := by
  unfold f_J7_indexOf_3_103
  refine x_iload 6 dJ7_indexOf_3_103 rfl (n := 105) rfl ?_
  refine x_iload 7 dJ7_indexOf_3_105 rfl (n := 107) rfl ?_
  refine x_icmp_ne dJ7_indexOf_3_107 (t := 113) (by decide) (n := 110) rfl (fun _ => ?_) (fun _ => ?_)
  · refine x_sub [0, 1, 2, 3, 4, 5] [(0, va_rf v0), (2, va_rf v2), (3, .int v3), (5, .int v5), (6, .int v6), (7, .int v7)] rfl ?_
    exact f_J7_indexOf_3_113_ok hO hk14 v0 v2 v3 v5 v6 v7 p0
  · refine x_iload 5 dJ7_indexOf_3_110 rfl (n := 112) rfl ?_
    exact x_ireturn dJ7_indexOf_3_112
theorem f_J7_indexOf_3_76F_ok {G : xG} (hO : xOK G)  {k14 : Option Nat × Option Nat × Int32 × Int32 × Int32 × Int32 × PH → Option (xO × PH)} (hk14 : ∀ (v0 : Option Nat) (v2 : Option Nat) (v3 : Int32) (v5 : Int32) (v6 : Int32) (v7 : Int32) (p0 : PH), X G "java/lang/StringLatin1" "indexOf" cJ7_indexOf_3 11 (Option.some Jvm.ClassFile.FieldType.int) 0 14 [(0, va_rf v0), (2, va_rf v2), (3, .int v3), (5, .int v5), (6, .int v6), (7, .int v7)] [] p0 (k14 (v0, v2, v3, v5, v6, v7, p0))) {k76 : Option Nat × Option Nat × Int32 × Int32 × Int32 × Int32 × Int32 × Int32 × Int32 × PH → Option (xO × PH)} (hk76 : ∀ (v0 : Option Nat) (v2 : Option Nat) (v3 : Int32) (v5 : Int32) (v6 : Int32) (v7 : Int32) (v8 : Int32) (v9 : Int32) (v10 : Int32) (p0 : PH), X G "java/lang/StringLatin1" "indexOf" cJ7_indexOf_3 11 (Option.some Jvm.ClassFile.FieldType.int) 0 76 [(0, va_rf v0), (2, va_rf v2), (3, .int v3), (5, .int v5), (6, .int v6), (7, .int v7), (8, .int v8), (9, .int v9), (10, .int v10)] [] p0 (k76 (v0, v2, v3, v5, v6, v7, v8, v9, v10, p0))) (v0 : Option Nat) (v2 : Option Nat) (v3 : Int32) (v5 : Int32) (v6 : Int32) (v7 : Int32) (v8 : Int32) (v9 : Int32) (v10 : Int32) (p0 : PH) : X G "java/lang/StringLatin1" "indexOf" cJ7_indexOf_3 11 (Option.some Jvm.ClassFile.FieldType.int) 0 76 [(0, va_rf v0), (2, va_rf v2), (3, .int v3), (5, .int v5), (6, .int v6), (7, .int v7), (8, .int v8), (9, .int v9), (10, .int v10)] [] p0 (f_J7_indexOf_3_76F k14 k76 (v0, v2, v3, v5, v6, v7, v8, v9, v10, p0)) := by
  unfold f_J7_indexOf_3_76F
  refine x_iload 6 dJ7_indexOf_3_76 rfl (n := 78) rfl ?_
  refine x_iload 7 dJ7_indexOf_3_78 rfl (n := 80) rfl ?_
  refine x_icmp_ge dJ7_indexOf_3_80 (t := 103) (by decide) (n := 83) rfl (fun _ => ?_) (fun _ => ?_)
  · refine x_sub [0, 1, 2, 3, 4, 5, 6, 7] [(0, va_rf v0), (2, va_rf v2), (3, .int v3), (5, .int v5), (6, .int v6), (7, .int v7), (8, .int v8), (9, .int v9)] rfl ?_
    exact f_J7_indexOf_3_103_ok hO hk14 v0 v2 v3 v5 v6 v7 v8 v9 p0
  · refine x_aload_n 0 dJ7_indexOf_3_83 rfl rfl (n := 84) rfl ?_
    refine x_iload 6 dJ7_indexOf_3_84 rfl (n := 86) rfl ?_
    refine x_sm (fun b9 e => ?_)
    subst e
    refine x_bald (t := 2) rfl dJ7_indexOf_3_86 (n := 87) rfl (fun x10 => ?_)
    refine x_aload_n 1 dJ7_indexOf_3_87 rfl rfl (n := 88) rfl ?_
    refine x_iload 8 dJ7_indexOf_3_88 rfl (n := 90) rfl ?_
    refine x_sm (fun b11 e => ?_)
    subst e
    refine x_bald (t := 2) rfl dJ7_indexOf_3_90 (n := 91) rfl (fun x12 => ?_)
    refine x_icmp_ne dJ7_indexOf_3_91 (t := 103) (by decide) (n := 94) rfl (fun _ => ?_) (fun _ => ?_)
    · refine x_sub [0, 1, 2, 3, 4, 5, 6, 7] [(0, .ref b9), (2, .ref b11), (3, .int v3), (5, .int v5), (6, .int v6), (7, .int v7), (8, .int v8), (9, .int v9)] rfl ?_
      exact f_J7_indexOf_3_103_ok hO hk14 ((some b9)) ((some b11)) v3 v5 v6 v7 v8 v9 p0
    · refine x_iincB 6 (fun x13 => [(8, .int x13), (0, .ref b9), (2, .ref b11), (3, .int v3), (5, .int v5), (6, .int v6), (7, .int v7), (9, .int v9), (10, .int v10)]) dJ7_indexOf_3_94 rfl rfl (by decide) (fun _ => rfl) (n := 97) rfl (fun x13 => ?_)
      refine x_iincB 8 (fun x14 => [(10, .int x14), (8, .int x13), (0, .ref b9), (2, .ref b11), (3, .int v3), (5, .int v5), (6, .int v6), (7, .int v7), (9, .int v9)]) dJ7_indexOf_3_97 rfl rfl (by decide) (fun _ => rfl) (n := 100) rfl (fun x14 => ?_)
      refine x_goto dJ7_indexOf_3_100 (n := 76) (by decide) ?_
      refine x_sub [2, 3, 4, 5, 6, 7, 1, 8, 0] [(0, .ref b9), (2, .ref b11), (3, .int v3), (5, .int v5), (6, .int v6), (7, .int v7), (8, .int x13), (9, .int v9), (10, .int x14)] rfl ?_
      exact hk76 ((some b9)) ((some b11)) v3 v5 v6 v7 x13 v9 x14 p0
theorem f_J7_indexOf_3_76_lp {G : xG} (hO : xOK G)  {k14 : Option Nat × Option Nat × Int32 × Int32 × Int32 × Int32 × PH → Option (xO × PH)} (hk14 : ∀ (v0 : Option Nat) (v2 : Option Nat) (v3 : Int32) (v5 : Int32) (v6 : Int32) (v7 : Int32) (p0 : PH), X G "java/lang/StringLatin1" "indexOf" cJ7_indexOf_3 11 (Option.some Jvm.ClassFile.FieldType.int) 0 14 [(0, va_rf v0), (2, va_rf v2), (3, .int v3), (5, .int v5), (6, .int v6), (7, .int v7)] [] p0 (k14 (v0, v2, v3, v5, v6, v7, p0))) (n : Nat) (v0 : Option Nat) (v2 : Option Nat) (v3 : Int32) (v5 : Int32) (v6 : Int32) (v7 : Int32) (v8 : Int32) (v9 : Int32) (v10 : Int32) (p0 : PH) : X G "java/lang/StringLatin1" "indexOf" cJ7_indexOf_3 11 (Option.some Jvm.ClassFile.FieldType.int) 0 76 [(0, va_rf v0), (2, va_rf v2), (3, .int v3), (5, .int v5), (6, .int v6), (7, .int v7), (8, .int v8), (9, .int v9), (10, .int v10)] [] p0 (lp (f_J7_indexOf_3_76F k14) n (v0, v2, v3, v5, v6, v7, v8, v9, v10, p0)) :=
  lp_ok (W := fun p K => X G "java/lang/StringLatin1" "indexOf" cJ7_indexOf_3 11 (Option.some Jvm.ClassFile.FieldType.int) 0 76 [(0, va_rf p.1), (2, va_rf p.2.1), (3, .int p.2.2.1), (5, .int p.2.2.2.1), (6, .int p.2.2.2.2.1), (7, .int p.2.2.2.2.2.1), (8, .int p.2.2.2.2.2.2.1), (9, .int p.2.2.2.2.2.2.2.1), (10, .int p.2.2.2.2.2.2.2.2.1)] [] p.2.2.2.2.2.2.2.2.2 K) (fun _ => x_no) (fun k hk => fun (v0, v2, v3, v5, v6, v7, v8, v9, v10, p0) => f_J7_indexOf_3_76F_ok hO hk14 (fun v0 v2 v3 v5 v6 v7 v8 v9 v10 p0 => hk (v0, v2, v3, v5, v6, v7, v8, v9, v10, p0)) v0 v2 v3 v5 v6 v7 v8 v9 v10 p0) n (v0, v2, v3, v5, v6, v7, v8, v9, v10, p0)
theorem f_J7_indexOf_3_52_ok {G : xG} (hO : xOK G)  {k14 : Option Nat × Option Nat × Int32 × Int32 × Int32 × Int32 × PH → Option (xO × PH)} (hk14 : ∀ (v0 : Option Nat) (v2 : Option Nat) (v3 : Int32) (v5 : Int32) (v6 : Int32) (v7 : Int32) (p0 : PH), X G "java/lang/StringLatin1" "indexOf" cJ7_indexOf_3 11 (Option.some Jvm.ClassFile.FieldType.int) 0 14 [(0, va_rf v0), (2, va_rf v2), (3, .int v3), (5, .int v5), (6, .int v6), (7, .int v7)] [] p0 (k14 (v0, v2, v3, v5, v6, v7, p0))) (v0 : Option Nat) (v2 : Option Nat) (v3 : Int32) (v5 : Int32) (v6 : Int32) (v7 : Int32) (p0 : PH) : X G "java/lang/StringLatin1" "indexOf" cJ7_indexOf_3 11 (Option.some Jvm.ClassFile.FieldType.int) 0 52 [(0, va_rf v0), (2, va_rf v2), (3, .int v3), (5, .int v5), (6, .int v6), (7, .int v7)] [] p0 (f_J7_indexOf_3_52 k14 v0 v2 v3 v5 v6 v7 p0) := by
  unfold f_J7_indexOf_3_52
  refine x_iload 5 dJ7_indexOf_3_52 rfl (n := 54) rfl ?_
  refine x_iload 4 dJ7_indexOf_3_54 rfl (n := 56) rfl ?_
  refine x_icmp_gt dJ7_indexOf_3_56 (t := 113) (by decide) (n := 59) rfl (fun _ => ?_) (fun _ => ?_)
  · exact f_J7_indexOf_3_113_ok hO hk14 v0 v2 v3 v5 v6 v7 p0
  · refine x_iload 5 dJ7_indexOf_3_59 rfl (n := 61) rfl ?_
    refine x_iconst 1 dJ7_indexOf_3_61 rfl (n := 62) rfl ?_
    refine x_iadd dJ7_indexOf_3_62 (n := 63) rfl ?_
    refine x_nm (fun x7 => ?_)
    refine x_istore [(8, .int x7), (0, va_rf v0), (2, va_rf v2), (3, .int v3), (5, .int v5), (6, .int v6), (7, .int v7)] dJ7_indexOf_3_63 (by decide) rfl (n := 65) rfl ?_
    refine x_iload 0 dJ7_indexOf_3_65 rfl (n := 67) rfl ?_
    refine x_iload_n 3 dJ7_indexOf_3_67 rfl rfl (n := 68) rfl ?_
    refine x_iadd dJ7_indexOf_3_68 (n := 69) rfl ?_
    refine x_iconst 1 dJ7_indexOf_3_69 rfl (n := 70) rfl ?_
    refine x_isub dJ7_indexOf_3_70 (n := 71) rfl ?_
    refine x_nm (fun x8 => ?_)
    refine x_istore [(9, .int x8), (8, .int x7), (0, va_rf v0), (2, va_rf v2), (3, .int v3), (5, .int v5), (6, .int v6), (7, .int v7)] dJ7_indexOf_3_71 (by decide) rfl (n := 73) rfl ?_
    refine x_iconst 1 dJ7_indexOf_3_73 rfl (n := 74) rfl ?_
    refine x_istore [(10, .int 1), (9, .int x8), (8, .int x7), (0, va_rf v0), (2, va_rf v2), (3, .int v3), (5, .int v5), (6, .int v6), (7, .int v7)] dJ7_indexOf_3_74 (by decide) rfl (n := 76) rfl ?_
    refine x_sub [3, 4, 5, 6, 7, 8, 2, 1, 0] [(0, va_rf v0), (2, va_rf v2), (3, .int v3), (5, .int v5), (6, .int v6), (7, .int v7), (8, .int x7), (9, .int x8), (10, .int 1)] rfl ?_
    exact f_J7_indexOf_3_76_lp hO hk14 FU v0 v2 v3 v5 v6 v7 x7 x8 1 p0
theorem f_J7_indexOf_3_30F_ok {G : xG} (hO : xOK G)  {k14 : Option Nat × Option Nat × Int32 × Int32 × Int32 × Int32 × PH → Option (xO × PH)} (hk14 : ∀ (v0 : Option Nat) (v2 : Option Nat) (v3 : Int32) (v5 : Int32) (v6 : Int32) (v7 : Int32) (p0 : PH), X G "java/lang/StringLatin1" "indexOf" cJ7_indexOf_3 11 (Option.some Jvm.ClassFile.FieldType.int) 0 14 [(0, va_rf v0), (2, va_rf v2), (3, .int v3), (5, .int v5), (6, .int v6), (7, .int v7)] [] p0 (k14 (v0, v2, v3, v5, v6, v7, p0))) {k30 : Option Nat × Option Nat × Int32 × Int32 × Int32 × Int32 × PH → Option (xO × PH)} (hk30 : ∀ (v0 : Option Nat) (v2 : Option Nat) (v3 : Int32) (v5 : Int32) (v6 : Int32) (v7 : Int32) (p0 : PH), X G "java/lang/StringLatin1" "indexOf" cJ7_indexOf_3 11 (Option.some Jvm.ClassFile.FieldType.int) 0 30 [(0, va_rf v0), (2, va_rf v2), (3, .int v3), (5, .int v5), (6, .int v6), (7, .int v7)] [] p0 (k30 (v0, v2, v3, v5, v6, v7, p0))) (v0 : Option Nat) (v2 : Option Nat) (v3 : Int32) (v5 : Int32) (v6 : Int32) (v7 : Int32) (p0 : PH) : X G "java/lang/StringLatin1" "indexOf" cJ7_indexOf_3 11 (Option.some Jvm.ClassFile.FieldType.int) 0 30 [(0, va_rf v0), (2, va_rf v2), (3, .int v3), (5, .int v5), (6, .int v6), (7, .int v7)] [] p0 (f_J7_indexOf_3_30F k14 k30 (v0, v2, v3, v5, v6, v7, p0)) := by
  unfold f_J7_indexOf_3_30F
  refine x_iincB 5 (fun x15 => [(7, .int x15), (0, va_rf v0), (2, va_rf v2), (3, .int v3), (5, .int v5), (6, .int v6)]) dJ7_indexOf_3_30 rfl rfl (by decide) (fun _ => rfl) (n := 33) rfl (fun x15 => ?_)
  refine x_iload 0 dJ7_indexOf_3_33 rfl (n := 35) rfl ?_
  refine x_iload 5 dJ7_indexOf_3_35 rfl (n := 37) rfl ?_
  refine x_icmp_gt dJ7_indexOf_3_37 (t := 52) (by decide) (n := 40) rfl (fun _ => ?_) (fun _ => ?_)
  · refine x_sub [1, 2, 3, 4, 5, 0] [(0, va_rf v0), (2, va_rf v2), (3, .int v3), (5, .int v5), (6, .int v6), (7, .int x15)] rfl ?_
    exact f_J7_indexOf_3_52_ok hO hk14 v0 v2 v3 v5 v6 x15 p0
  · refine x_aload_n 1 dJ7_indexOf_3_40 rfl rfl (n := 41) rfl ?_
    refine x_iload 0 dJ7_indexOf_3_41 rfl (n := 43) rfl ?_
    refine x_sm (fun b16 e => ?_)
    subst e
    refine x_bald (t := 2) rfl dJ7_indexOf_3_43 (n := 44) rfl (fun x17 => ?_)
    refine x_iload 4 dJ7_indexOf_3_44 rfl (n := 46) rfl ?_
    refine x_icmp_eq dJ7_indexOf_3_46 (t := 52) (by decide) (n := 49) rfl (fun _ => ?_) (fun _ => ?_)
    · refine x_sub [1, 2, 3, 4, 5, 0] [(0, .ref b16), (2, va_rf v2), (3, .int v3), (5, .int v5), (6, .int v6), (7, .int x15)] rfl ?_
      exact f_J7_indexOf_3_52_ok hO hk14 ((some b16)) v2 v3 v5 v6 x15 p0
    · refine x_goto dJ7_indexOf_3_49 (n := 30) (by decide) ?_
      refine x_sub [1, 2, 3, 4, 5, 0] [(0, .ref b16), (2, va_rf v2), (3, .int v3), (5, .int v5), (6, .int v6), (7, .int x15)] rfl ?_
      exact hk30 ((some b16)) v2 v3 v5 v6 x15 p0
theorem f_J7_indexOf_3_30_lp {G : xG} (hO : xOK G)  {k14 : Option Nat × Option Nat × Int32 × Int32 × Int32 × Int32 × PH → Option (xO × PH)} (hk14 : ∀ (v0 : Option Nat) (v2 : Option Nat) (v3 : Int32) (v5 : Int32) (v6 : Int32) (v7 : Int32) (p0 : PH), X G "java/lang/StringLatin1" "indexOf" cJ7_indexOf_3 11 (Option.some Jvm.ClassFile.FieldType.int) 0 14 [(0, va_rf v0), (2, va_rf v2), (3, .int v3), (5, .int v5), (6, .int v6), (7, .int v7)] [] p0 (k14 (v0, v2, v3, v5, v6, v7, p0))) (n : Nat) (v0 : Option Nat) (v2 : Option Nat) (v3 : Int32) (v5 : Int32) (v6 : Int32) (v7 : Int32) (p0 : PH) : X G "java/lang/StringLatin1" "indexOf" cJ7_indexOf_3 11 (Option.some Jvm.ClassFile.FieldType.int) 0 30 [(0, va_rf v0), (2, va_rf v2), (3, .int v3), (5, .int v5), (6, .int v6), (7, .int v7)] [] p0 (lp (f_J7_indexOf_3_30F k14) n (v0, v2, v3, v5, v6, v7, p0)) :=
  lp_ok (W := fun p K => X G "java/lang/StringLatin1" "indexOf" cJ7_indexOf_3 11 (Option.some Jvm.ClassFile.FieldType.int) 0 30 [(0, va_rf p.1), (2, va_rf p.2.1), (3, .int p.2.2.1), (5, .int p.2.2.2.1), (6, .int p.2.2.2.2.1), (7, .int p.2.2.2.2.2.1)] [] p.2.2.2.2.2.2 K) (fun _ => x_no) (fun k hk => fun (v0, v2, v3, v5, v6, v7, p0) => f_J7_indexOf_3_30F_ok hO hk14 (fun v0 v2 v3 v5 v6 v7 p0 => hk (v0, v2, v3, v5, v6, v7, p0)) v0 v2 v3 v5 v6 v7 p0) n (v0, v2, v3, v5, v6, v7, p0)
theorem f_J7_indexOf_3_14F_ok {G : xG} (hO : xOK G)   {k14 : Option Nat × Option Nat × Int32 × Int32 × Int32 × Int32 × PH → Option (xO × PH)} (hk14 : ∀ (v0 : Option Nat) (v2 : Option Nat) (v3 : Int32) (v5 : Int32) (v6 : Int32) (v7 : Int32) (p0 : PH), X G "java/lang/StringLatin1" "indexOf" cJ7_indexOf_3 11 (Option.some Jvm.ClassFile.FieldType.int) 0 14 [(0, va_rf v0), (2, va_rf v2), (3, .int v3), (5, .int v5), (6, .int v6), (7, .int v7)] [] p0 (k14 (v0, v2, v3, v5, v6, v7, p0))) (v0 : Option Nat) (v2 : Option Nat) (v3 : Int32) (v5 : Int32) (v6 : Int32) (v7 : Int32) (p0 : PH) : X G "java/lang/StringLatin1" "indexOf" cJ7_indexOf_3 11 (Option.some Jvm.ClassFile.FieldType.int) 0 14 [(0, va_rf v0), (2, va_rf v2), (3, .int v3), (5, .int v5), (6, .int v6), (7, .int v7)] [] p0 (f_J7_indexOf_3_14F k14 (v0, v2, v3, v5, v6, v7, p0)) := by
  unfold f_J7_indexOf_3_14F
  refine x_iload 5 dJ7_indexOf_3_14 rfl (n := 16) rfl ?_
  refine x_iload 4 dJ7_indexOf_3_16 rfl (n := 18) rfl ?_
  refine x_icmp_gt dJ7_indexOf_3_18 (t := 119) (by decide) (n := 21) rfl (fun _ => ?_) (fun _ => ?_)
  · refine x_iconst (-1) dJ7_indexOf_3_119 rfl (n := 120) rfl ?_
    exact x_ireturn dJ7_indexOf_3_120
  · refine x_aload_n 0 dJ7_indexOf_3_21 rfl rfl (n := 22) rfl ?_
    refine x_iload 5 dJ7_indexOf_3_22 rfl (n := 24) rfl ?_
    refine x_sm (fun b4 e => ?_)
    subst e
    refine x_bald (t := 2) rfl dJ7_indexOf_3_24 (n := 25) rfl (fun x5 => ?_)
    refine x_iload 3 dJ7_indexOf_3_25 rfl (n := 27) rfl ?_
    refine x_icmp_eq dJ7_indexOf_3_27 (t := 52) (by decide) (n := 30) rfl (fun _ => ?_) (fun _ => ?_)
    · exact f_J7_indexOf_3_52_ok hO hk14 ((some b4)) v2 v3 v5 v6 v7 p0
    · exact f_J7_indexOf_3_30_lp hO hk14 FU ((some b4)) v2 v3 v5 v6 v7 p0
theorem f_J7_indexOf_3_14_lp {G : xG} (hO : xOK G)   (n : Nat) (v0 : Option Nat) (v2 : Option Nat) (v3 : Int32) (v5 : Int32) (v6 : Int32) (v7 : Int32) (p0 : PH) : X G "java/lang/StringLatin1" "indexOf" cJ7_indexOf_3 11 (Option.some Jvm.ClassFile.FieldType.int) 0 14 [(0, va_rf v0), (2, va_rf v2), (3, .int v3), (5, .int v5), (6, .int v6), (7, .int v7)] [] p0 (lp (f_J7_indexOf_3_14F) n (v0, v2, v3, v5, v6, v7, p0)) :=
  lp_ok (W := fun p K => X G "java/lang/StringLatin1" "indexOf" cJ7_indexOf_3 11 (Option.some Jvm.ClassFile.FieldType.int) 0 14 [(0, va_rf p.1), (2, va_rf p.2.1), (3, .int p.2.2.1), (5, .int p.2.2.2.1), (6, .int p.2.2.2.2.1), (7, .int p.2.2.2.2.2.1)] [] p.2.2.2.2.2.2 K) (fun _ => x_no) (fun k hk => fun (v0, v2, v3, v5, v6, v7, p0) => f_J7_indexOf_3_14F_ok hO (fun v0 v2 v3 v5 v6 v7 p0 => hk (v0, v2, v3, v5, v6, v7, p0)) v0 v2 v3 v5 v6 v7 p0) n (v0, v2, v3, v5, v6, v7, p0)
theorem f_J7_indexOf_3_ok {G : xG} (hO : xOK G) (p0 : PH) (a0 : Option Nat) (a1 : Int32) (a2 : Option Nat) (a3 : Int32) (a4 : Int32) : CT G 0 yJ7_indexOf_3 cJ7_indexOf_3 11 (Option.some Jvm.ClassFile.FieldType.int) [va_rf a0, .int a1, va_rf a2, .int a3, .int a4] p0 (f_J7_indexOf_3 p0 a0 a1 a2 a3 a4) := by
  refine CT_of hO (by decide +kernel) (by decide +kernel) (lg_slen _ (by simp only [List.map, xcat]; exact Nat.le_of_ble_eq_true rfl)) ?_
  rw [show lv_args 0 [va_rf a0, .int a1, va_rf a2, .int a3, .int a4] = [(0, va_rf a0), (1, .int a1), (2, va_rf a2), (3, .int a3), (4, .int a4)] from by simp only [lv_args, xcat] <;> rfl]
  show X G "java/lang/StringLatin1" "indexOf" cJ7_indexOf_3 11 (Option.some Jvm.ClassFile.FieldType.int) 0 0 [(0, va_rf a0), (1, .int a1), (2, va_rf a2), (3, .int a3), (4, .int a4)] [] p0 (f_J7_indexOf_3 p0 a0 a1 a2 a3 a4)
  refine x_aload_n 2 dJ7_indexOf_3_0 rfl rfl (n := 1) rfl ?_
  refine x_iconst 0 dJ7_indexOf_3_1 rfl (n := 2) rfl ?_
  refine x_sm (fun b1 e => ?_)
  subst e
  refine x_bald (t := 2) rfl dJ7_indexOf_3_2 (n := 3) rfl (fun x2 => ?_)
  refine x_istore [(5, .int x2), (0, va_rf a0), (1, .int a1), (2, .ref b1), (3, .int a3), (4, .int a4)] dJ7_indexOf_3_3 (by decide) rfl (n := 5) rfl ?_
  refine x_iload_n 2 dJ7_indexOf_3_5 rfl rfl (n := 6) rfl ?_
  refine x_iload_n 4 dJ7_indexOf_3_6 rfl rfl (n := 7) rfl ?_
  refine x_isub dJ7_indexOf_3_7 (n := 8) rfl ?_
  refine x_nm (fun x3 => ?_)
  refine x_istore [(6, .int x3), (5, .int x2), (0, va_rf a0), (1, .int a1), (2, .ref b1), (3, .int a3), (4, .int a4)] dJ7_indexOf_3_8 (by decide) rfl (n := 10) rfl ?_
  refine x_iload 6 dJ7_indexOf_3_10 rfl (n := 12) rfl ?_
  refine x_istore [(7, .int a4), (6, .int x3), (5, .int x2), (0, va_rf a0), (1, .int a1), (2, .ref b1), (3, .int a3), (4, .int a4)] dJ7_indexOf_3_12 (by decide) rfl (n := 14) rfl ?_
  refine x_sub [3, 5, 6, 2, 1, 0] [(0, va_rf a0), (2, .ref b1), (3, .int a3), (5, .int x2), (6, .int x3), (7, .int a4)] rfl ?_
  exact f_J7_indexOf_3_14_lp hO FU a0 ((some b1)) a3 x2 x3 a4 p0
abbrev cJ7_indexOf_2 : ByteArray := prog_33_method_24_code
def yJ7_indexOf_2 : MethodName := ⟨RJ7, "indexOf", "([B[B)I"⟩
def dkwJ7_indexOf_2_1 : List UInt8 := [172]
abbrev dktJ7_indexOf_2_1 : List UInt8 := dkwJ7_indexOf_2_1 ++ []
def dkwJ7_indexOf_2_0 : List UInt8 := [43, 190, 154, 0, 5, 3, 172, 42, 190, 154, 0, 5, 2, 172, 42, 42, 190, 43, 43, 190, 3, 184, 0, 99]
abbrev dktJ7_indexOf_2_0 : List UInt8 := dkwJ7_indexOf_2_0 ++ dktJ7_indexOf_2_1
theorem dksJ7_indexOf_2_0 : cJ7_indexOf_2.data.toList.drop 0 = dktJ7_indexOf_2_0 := by decide +kernel
theorem dksJ7_indexOf_2_1 : cJ7_indexOf_2.data.toList.drop 24 = dktJ7_indexOf_2_1 := dk_seg dksJ7_indexOf_2_0 24 rfl rfl
theorem dJ7_indexOf_2_0 : decode cJ7_indexOf_2 0 = .ok (.aload_n 1, 1) := dk_43 (dk_at dksJ7_indexOf_2_0 0 rfl rfl)
theorem dJ7_indexOf_2_1 : decode cJ7_indexOf_2 1 = .ok (.arraylength, 1) := dk_190 (dk_at dksJ7_indexOf_2_0 1 rfl rfl)
theorem dJ7_indexOf_2_2 : decode cJ7_indexOf_2 2 = .ok (.ifCond .ne 5, 3) := dk_154 0 5 (dk_at dksJ7_indexOf_2_0 2 rfl rfl)
theorem dJ7_indexOf_2_5 : decode cJ7_indexOf_2 5 = .ok (.iconst 0, 1) := dk_3 (dk_at dksJ7_indexOf_2_0 5 rfl rfl)
theorem dJ7_indexOf_2_6 : decode cJ7_indexOf_2 6 = .ok (.ireturn, 1) := dk_172 (dk_at dksJ7_indexOf_2_0 6 rfl rfl)
theorem dJ7_indexOf_2_7 : decode cJ7_indexOf_2 7 = .ok (.aload_n 0, 1) := dk_42 (dk_at dksJ7_indexOf_2_0 7 rfl rfl)
theorem dJ7_indexOf_2_8 : decode cJ7_indexOf_2 8 = .ok (.arraylength, 1) := dk_190 (dk_at dksJ7_indexOf_2_0 8 rfl rfl)
theorem dJ7_indexOf_2_9 : decode cJ7_indexOf_2 9 = .ok (.ifCond .ne 5, 3) := dk_154 0 5 (dk_at dksJ7_indexOf_2_0 9 rfl rfl)
theorem dJ7_indexOf_2_12 : decode cJ7_indexOf_2 12 = .ok (.iconst (-1), 1) := dk_2 (dk_at dksJ7_indexOf_2_0 12 rfl rfl)
theorem dJ7_indexOf_2_13 : decode cJ7_indexOf_2 13 = .ok (.ireturn, 1) := dk_172 (dk_at dksJ7_indexOf_2_0 13 rfl rfl)
theorem dJ7_indexOf_2_14 : decode cJ7_indexOf_2 14 = .ok (.aload_n 0, 1) := dk_42 (dk_at dksJ7_indexOf_2_0 14 rfl rfl)
theorem dJ7_indexOf_2_15 : decode cJ7_indexOf_2 15 = .ok (.aload_n 0, 1) := dk_42 (dk_at dksJ7_indexOf_2_0 15 rfl rfl)
theorem dJ7_indexOf_2_16 : decode cJ7_indexOf_2 16 = .ok (.arraylength, 1) := dk_190 (dk_at dksJ7_indexOf_2_0 16 rfl rfl)
theorem dJ7_indexOf_2_17 : decode cJ7_indexOf_2 17 = .ok (.aload_n 1, 1) := dk_43 (dk_at dksJ7_indexOf_2_0 17 rfl rfl)
theorem dJ7_indexOf_2_18 : decode cJ7_indexOf_2 18 = .ok (.aload_n 1, 1) := dk_43 (dk_at dksJ7_indexOf_2_0 18 rfl rfl)
theorem dJ7_indexOf_2_19 : decode cJ7_indexOf_2 19 = .ok (.arraylength, 1) := dk_190 (dk_at dksJ7_indexOf_2_0 19 rfl rfl)
theorem dJ7_indexOf_2_20 : decode cJ7_indexOf_2 20 = .ok (.iconst 0, 1) := dk_3 (dk_at dksJ7_indexOf_2_0 20 rfl rfl)
theorem dJ7_indexOf_2_21 : decode cJ7_indexOf_2 21 = .ok (.invokestatic 99, 3) := dk_184 0 99 (dk_at dksJ7_indexOf_2_0 21 rfl rfl)
theorem dJ7_indexOf_2_24 : decode cJ7_indexOf_2 24 = .ok (.ireturn, 1) := dk_172 (dk_at dksJ7_indexOf_2_1 0 rfl rfl)
theorem md_J7_indexOf_2 : xMd yJ7_indexOf_2 cJ7_indexOf_2 2 (Option.some Jvm.ClassFile.FieldType.int) 2 := ⟨q883, q134, by decide, by decide +kernel, by decide +kernel, by decide +kernel⟩
def f_J7_indexOf_2 (p0 : PH) (a0 : Option Nat) (a1 : Option Nat) : Option (xO × PH) :=
  (xnul a1 none fun b1 =>
  (xlen p0 b1 fun x2 =>
  (if x2 = 0 then
  (rI 0 p0) else
  (xnul a0 none fun b3 =>
  (xlen p0 b3 fun x4 =>
  (if x4 = 0 then
  (rI (-1) p0) else
  (xlen p0 b3 fun x5 =>
  (xlen p0 b1 fun x6 =>
  (xcI (f_J7_indexOf_3 p0 (some b3) x5 (some b1) x6 0) fun x8 p7 =>
  (rI x8 p7))))))))))
theorem f_J7_indexOf_2_ok {G : xG} (hO : xOK G) (p0 : PH) (a0 : Option Nat) (a1 : Option Nat) : CT G 1 yJ7_indexOf_2 cJ7_indexOf_2 2 (Option.some Jvm.ClassFile.FieldType.int) [va_rf a0, va_rf a1] p0 (f_J7_indexOf_2 p0 a0 a1) := by
  refine CT_of hO (by decide +kernel) (by decide +kernel) (lg_slen _ (by simp only [List.map, xcat]; exact Nat.le_of_ble_eq_true rfl)) ?_
  rw [show lv_args 0 [va_rf a0, va_rf a1] = [(0, va_rf a0), (1, va_rf a1)] from by simp only [lv_args, xcat] <;> rfl]
  show X G "java/lang/StringLatin1" "indexOf" cJ7_indexOf_2 2 (Option.some Jvm.ClassFile.FieldType.int) 1 0 [(0, va_rf a0), (1, va_rf a1)] [] p0 (f_J7_indexOf_2 p0 a0 a1)
  refine x_aload_n 1 dJ7_indexOf_2_0 rfl rfl (n := 1) rfl ?_
  refine x_sm (fun b1 e => ?_)
  subst e
  refine x_alen dJ7_indexOf_2_1 (n := 2) rfl (fun x2 => ?_)
  refine x_if_ne dJ7_indexOf_2_2 (t := 7) (by decide) (n := 5) rfl (fun _ => ?_) (fun _ => ?_)
  · refine x_aload_n 0 dJ7_indexOf_2_7 rfl rfl (n := 8) rfl ?_
    refine x_sm (fun b3 e => ?_)
    subst e
    refine x_alen dJ7_indexOf_2_8 (n := 9) rfl (fun x4 => ?_)
    refine x_if_ne dJ7_indexOf_2_9 (t := 14) (by decide) (n := 12) rfl (fun _ => ?_) (fun _ => ?_)
    · refine x_aload_nr 0 dJ7_indexOf_2_14 rfl rfl (n := 15) rfl ?_
      refine x_aload_nr 0 dJ7_indexOf_2_15 rfl rfl (n := 16) rfl ?_
      refine x_alen dJ7_indexOf_2_16 (n := 17) rfl (fun x5 => ?_)
      refine x_aload_nr 1 dJ7_indexOf_2_17 rfl rfl (n := 18) rfl ?_
      refine x_aload_nr 1 dJ7_indexOf_2_18 rfl rfl (n := 19) rfl ?_
      refine x_alen dJ7_indexOf_2_19 (n := 20) rfl (fun x6 => ?_)
      refine x_iconst 0 dJ7_indexOf_2_20 rfl (n := 21) rfl ?_
      refine x_callS_I [.ref b3, .int x5, .ref b1, .int x6, .int 0] [] (f_J7_indexOf_3_ok hO p0 (some b3) x5 (some b1) x6 0) md_J7_indexOf_3 q884 q885 dJ7_indexOf_2_21 rfl rfl (by decide) (Nat.le_of_ble_eq_true rfl) (n := 24) rfl (fun x8 p7 => ?_)
      exact x_ireturn dJ7_indexOf_2_24
    · refine x_iconst (-1) dJ7_indexOf_2_12 rfl (n := 13) rfl ?_
      exact x_ireturn dJ7_indexOf_2_13
  · refine x_iconst 0 dJ7_indexOf_2_5 rfl (n := 6) rfl ?_
    exact x_ireturn dJ7_indexOf_2_6
abbrev cJ6_indexOf_3 : ByteArray := prog_31_method_84_code
def yJ6_indexOf_3 : MethodName := ⟨RJ6, "indexOf", "(Ljava/lang/String;)I"⟩
def dkwJ6_indexOf_3_2 : List UInt8 := [154, 0, 5, 2, 172, 42, 180, 0, 9, 43, 180, 0, 9, 184, 2, 138, 172]
abbrev dktJ6_indexOf_3_2 : List UInt8 := dkwJ6_indexOf_3_2 ++ []
def dkwJ6_indexOf_3_1 : List UInt8 := [43, 180, 0, 9, 184, 2, 135, 167, 0, 14, 42, 180, 0, 9, 43, 180, 0, 9, 184, 2, 137, 172, 28]
abbrev dktJ6_indexOf_3_1 : List UInt8 := dkwJ6_indexOf_3_1 ++ dktJ6_indexOf_3_2
def dkwJ6_indexOf_3_0 : List UInt8 := [42, 182, 1, 79, 61, 28, 43, 182, 1, 79, 160, 0, 36, 42, 182, 1, 236, 153, 0, 17, 42, 180, 0, 9]
abbrev dktJ6_indexOf_3_0 : List UInt8 := dkwJ6_indexOf_3_0 ++ dktJ6_indexOf_3_1
theorem dksJ6_indexOf_3_0 : cJ6_indexOf_3.data.toList.drop 0 = dktJ6_indexOf_3_0 := by decide +kernel
theorem dksJ6_indexOf_3_1 : cJ6_indexOf_3.data.toList.drop 24 = dktJ6_indexOf_3_1 := dk_seg dksJ6_indexOf_3_0 24 rfl rfl
theorem dksJ6_indexOf_3_2 : cJ6_indexOf_3.data.toList.drop 47 = dktJ6_indexOf_3_2 := dk_seg dksJ6_indexOf_3_1 23 rfl rfl
theorem dJ6_indexOf_3_0 : decode cJ6_indexOf_3 0 = .ok (.aload_n 0, 1) := dk_42 (dk_at dksJ6_indexOf_3_0 0 rfl rfl)
theorem dJ6_indexOf_3_1 : decode cJ6_indexOf_3 1 = .ok (.invokevirtual 335, 3) := dk_182 1 79 (dk_at dksJ6_indexOf_3_0 1 rfl rfl)
theorem dJ6_indexOf_3_4 : decode cJ6_indexOf_3 4 = .ok (.istore_n 2, 1) := dk_61 (dk_at dksJ6_indexOf_3_0 4 rfl rfl)
theorem dJ6_indexOf_3_5 : decode cJ6_indexOf_3 5 = .ok (.iload_n 2, 1) := dk_28 (dk_at dksJ6_indexOf_3_0 5 rfl rfl)
theorem dJ6_indexOf_3_6 : decode cJ6_indexOf_3 6 = .ok (.aload_n 1, 1) := dk_43 (dk_at dksJ6_indexOf_3_0 6 rfl rfl)
theorem dJ6_indexOf_3_7 : decode cJ6_indexOf_3 7 = .ok (.invokevirtual 335, 3) := dk_182 1 79 (dk_at dksJ6_indexOf_3_0 7 rfl rfl)
theorem dJ6_indexOf_3_10 : decode cJ6_indexOf_3 10 = .ok (.if_icmp .ne 36, 3) := dk_160 0 36 (dk_at dksJ6_indexOf_3_0 10 rfl rfl)
theorem dJ6_indexOf_3_13 : decode cJ6_indexOf_3 13 = .ok (.aload_n 0, 1) := dk_42 (dk_at dksJ6_indexOf_3_0 13 rfl rfl)
theorem dJ6_indexOf_3_14 : decode cJ6_indexOf_3 14 = .ok (.invokevirtual 492, 3) := dk_182 1 236 (dk_at dksJ6_indexOf_3_0 14 rfl rfl)
theorem dJ6_indexOf_3_17 : decode cJ6_indexOf_3 17 = .ok (.ifCond .eq 17, 3) := dk_153 0 17 (dk_at dksJ6_indexOf_3_0 17 rfl rfl)
theorem dJ6_indexOf_3_20 : decode cJ6_indexOf_3 20 = .ok (.aload_n 0, 1) := dk_42 (dk_at dksJ6_indexOf_3_0 20 rfl rfl)
theorem dJ6_indexOf_3_21 : decode cJ6_indexOf_3 21 = .ok (.getfield 9, 3) := dk_180 0 9 (dk_at dksJ6_indexOf_3_0 21 rfl rfl)
theorem dJ6_indexOf_3_24 : decode cJ6_indexOf_3 24 = .ok (.aload_n 1, 1) := dk_43 (dk_at dksJ6_indexOf_3_1 0 rfl rfl)
theorem dJ6_indexOf_3_25 : decode cJ6_indexOf_3 25 = .ok (.getfield 9, 3) := dk_180 0 9 (dk_at dksJ6_indexOf_3_1 1 rfl rfl)
theorem dJ6_indexOf_3_28 : decode cJ6_indexOf_3 28 = .ok (.invokestatic 647, 3) := dk_184 2 135 (dk_at dksJ6_indexOf_3_1 4 rfl rfl)
theorem dJ6_indexOf_3_31 : decode cJ6_indexOf_3 31 = .ok (.goto 14, 3) := dk_167 0 14 (dk_at dksJ6_indexOf_3_1 7 rfl rfl)
theorem dJ6_indexOf_3_34 : decode cJ6_indexOf_3 34 = .ok (.aload_n 0, 1) := dk_42 (dk_at dksJ6_indexOf_3_1 10 rfl rfl)
theorem dJ6_indexOf_3_35 : decode cJ6_indexOf_3 35 = .ok (.getfield 9, 3) := dk_180 0 9 (dk_at dksJ6_indexOf_3_1 11 rfl rfl)
theorem dJ6_indexOf_3_38 : decode cJ6_indexOf_3 38 = .ok (.aload_n 1, 1) := dk_43 (dk_at dksJ6_indexOf_3_1 14 rfl rfl)
theorem dJ6_indexOf_3_39 : decode cJ6_indexOf_3 39 = .ok (.getfield 9, 3) := dk_180 0 9 (dk_at dksJ6_indexOf_3_1 15 rfl rfl)
theorem dJ6_indexOf_3_42 : decode cJ6_indexOf_3 42 = .ok (.invokestatic 649, 3) := dk_184 2 137 (dk_at dksJ6_indexOf_3_1 18 rfl rfl)
theorem dJ6_indexOf_3_45 : decode cJ6_indexOf_3 45 = .ok (.ireturn, 1) := dk_172 (dk_at dksJ6_indexOf_3_1 21 rfl rfl)
theorem dJ6_indexOf_3_46 : decode cJ6_indexOf_3 46 = .ok (.iload_n 2, 1) := dk_28 (dk_at dksJ6_indexOf_3_1 22 rfl rfl)
theorem dJ6_indexOf_3_47 : decode cJ6_indexOf_3 47 = .ok (.ifCond .ne 5, 3) := dk_154 0 5 (dk_at dksJ6_indexOf_3_2 0 rfl rfl)
theorem dJ6_indexOf_3_50 : decode cJ6_indexOf_3 50 = .ok (.iconst (-1), 1) := dk_2 (dk_at dksJ6_indexOf_3_2 3 rfl rfl)
theorem dJ6_indexOf_3_51 : decode cJ6_indexOf_3 51 = .ok (.ireturn, 1) := dk_172 (dk_at dksJ6_indexOf_3_2 4 rfl rfl)
theorem dJ6_indexOf_3_52 : decode cJ6_indexOf_3 52 = .ok (.aload_n 0, 1) := dk_42 (dk_at dksJ6_indexOf_3_2 5 rfl rfl)
theorem dJ6_indexOf_3_53 : decode cJ6_indexOf_3 53 = .ok (.getfield 9, 3) := dk_180 0 9 (dk_at dksJ6_indexOf_3_2 6 rfl rfl)
theorem dJ6_indexOf_3_56 : decode cJ6_indexOf_3 56 = .ok (.aload_n 1, 1) := dk_43 (dk_at dksJ6_indexOf_3_2 9 rfl rfl)
theorem dJ6_indexOf_3_57 : decode cJ6_indexOf_3 57 = .ok (.getfield 9, 3) := dk_180 0 9 (dk_at dksJ6_indexOf_3_2 10 rfl rfl)
theorem dJ6_indexOf_3_60 : decode cJ6_indexOf_3 60 = .ok (.invokestatic 650, 3) := dk_184 2 138 (dk_at dksJ6_indexOf_3_2 13 rfl rfl)
theorem dJ6_indexOf_3_63 : decode cJ6_indexOf_3 63 = .ok (.ireturn, 1) := dk_172 (dk_at dksJ6_indexOf_3_2 16 rfl rfl)
theorem md_J6_indexOf_3 : xMd yJ6_indexOf_3 cJ6_indexOf_3 3 (Option.some Jvm.ClassFile.FieldType.int) 1 := ⟨q880, q133, by decide, by decide +kernel, by decide +kernel, by decide +kernel⟩
def f_J6_indexOf_3 (p0 : PH) (a0 : Nat) (a1 : Option Nat) : Option (xO × PH) :=
  (xcl1 p0 a0 16 (xcI (f_J6_coder p0 a0 ) fun x2 p1 =>
  (xnul a1 none fun b3 =>
  (xcI (f_J6_coder p1 b3 ) fun x5 p4 =>
  (if x2 = x5 then
  (xcI (f_J6_isLatin1 p4 a0 ) fun x9 p8 =>
  (if x9 = 0 then
  (xgR p8 a0 16 0 fun x10 =>
  (xgR p8 b3 16 0 fun x11 =>
  none)) else
  (xgR p8 a0 16 0 fun x12 =>
  (xgR p8 b3 16 0 fun x13 =>
  (xcI (f_J7_indexOf_2 p8 x12 x13) fun x15 p14 =>
  (rI x15 p14)))))) else
  (if x2 = 0 then
  (rI (-1) p4) else
  (xgR p4 a0 16 0 fun x6 =>
  (xgR p4 b3 16 0 fun x7 =>
  none))))))))
theorem rc_J6_indexOf_3 {p0 : PH} {a0 : Nat} {a1 : Option Nat} : ∀ z, f_J6_indexOf_3 p0 a0 a1 = some z → xco p0 a0 = some 16 := fun z h => xcl1_some h
theorem f_J6_indexOf_3_ok {G : xG} (hO : xOK G) (p0 : PH) (a0 : Nat) (a1 : Option Nat) : CT G 2 yJ6_indexOf_3 cJ6_indexOf_3 3 (Option.some Jvm.ClassFile.FieldType.int) [.ref a0, va_rf a1] p0 (f_J6_indexOf_3 p0 a0 a1) := by
  refine CT_of hO (by decide +kernel) (by decide +kernel) (lg_slen _ (by simp only [List.map, xcat]; exact Nat.le_of_ble_eq_true rfl)) ?_
  rw [show lv_args 0 [.ref a0, va_rf a1] = [(0, .ref a0), (1, va_rf a1)] from by simp only [lv_args, xcat] <;> rfl]
  show X G "java/lang/String" "indexOf" cJ6_indexOf_3 3 (Option.some Jvm.ClassFile.FieldType.int) 2 0 [(0, .ref a0), (1, va_rf a1)] [] p0 (f_J6_indexOf_3 p0 a0 a1)
  refine x_cl1 (fun e0 => ?_)
  refine x_aload_nr 0 dJ6_indexOf_3_0 rfl rfl (n := 1) rfl ?_
  refine x_callV_I [] [] (f_J6_coder_ok hO p0 a0 ) rc_J6_coder md_J6_coder rfl q423 q424 q425 dJ6_indexOf_3_1 rfl rfl (by decide) (Nat.le_of_ble_eq_true rfl) (n := 4) rfl (fun x2 p1 => ?_)
  refine x_istore_n [(2, .int x2), (0, .ref a0), (1, va_rf a1)] dJ6_indexOf_3_4 rfl (by decide) (by simp only [xst, List.filter_cons, List.filter_nil, xcat] <;> rfl) (n := 5) rfl ?_
  refine x_iload_n 0 dJ6_indexOf_3_5 rfl rfl (n := 6) rfl ?_
  refine x_aload_n 2 dJ6_indexOf_3_6 rfl rfl (n := 7) rfl ?_
  refine x_sm (fun b3 e => ?_)
  subst e
  refine x_callV_I [] [.int x2] (f_J6_coder_ok hO p1 b3 ) rc_J6_coder md_J6_coder rfl q423 q424 q425 dJ6_indexOf_3_7 rfl rfl (by decide) (Nat.le_of_ble_eq_true rfl) (n := 10) rfl (fun x5 p4 => ?_)
  refine x_icmp_ne dJ6_indexOf_3_10 (t := 46) (by decide) (n := 13) rfl (fun _ => ?_) (fun _ => ?_)
  · refine x_iload_n 0 dJ6_indexOf_3_46 rfl rfl (n := 47) rfl ?_
    refine x_if_ne dJ6_indexOf_3_47 (t := 52) (by decide) (n := 50) rfl (fun _ => ?_) (fun _ => ?_)
    · refine x_aload_nr 1 dJ6_indexOf_3_52 rfl rfl (n := 53) rfl ?_
      refine x_getR fl_J6_9 dJ6_indexOf_3_53 (n := 56) rfl (fun x6 => ?_)
      refine x_aload_nr 2 dJ6_indexOf_3_56 rfl rfl (n := 57) rfl ?_
      refine x_getR fl_J6_9 dJ6_indexOf_3_57 (n := 60) rfl (fun x7 => ?_)
      exact x_no
    · refine x_iconst (-1) dJ6_indexOf_3_50 rfl (n := 51) rfl ?_
      exact x_ireturn dJ6_indexOf_3_51
  · refine x_aload_nr 1 dJ6_indexOf_3_13 rfl rfl (n := 14) rfl ?_
    refine x_callV_I [] [] (f_J6_isLatin1_ok hO p4 a0 ) rc_J6_isLatin1 md_J6_isLatin1 rfl q413 q414 q415 dJ6_indexOf_3_14 rfl rfl (by decide) (Nat.le_of_ble_eq_true rfl) (n := 17) rfl (fun x9 p8 => ?_)
    refine x_if_eq dJ6_indexOf_3_17 (t := 34) (by decide) (n := 20) rfl (fun _ => ?_) (fun _ => ?_)
    · refine x_aload_nr 1 dJ6_indexOf_3_34 rfl rfl (n := 35) rfl ?_
      refine x_getR fl_J6_9 dJ6_indexOf_3_35 (n := 38) rfl (fun x10 => ?_)
      refine x_aload_nr 2 dJ6_indexOf_3_38 rfl rfl (n := 39) rfl ?_
      refine x_getR fl_J6_9 dJ6_indexOf_3_39 (n := 42) rfl (fun x11 => ?_)
      exact x_no
    · refine x_aload_nr 1 dJ6_indexOf_3_20 rfl rfl (n := 21) rfl ?_
      refine x_getR fl_J6_9 dJ6_indexOf_3_21 (n := 24) rfl (fun x12 => ?_)
      refine x_aload_nr 2 dJ6_indexOf_3_24 rfl rfl (n := 25) rfl ?_
      refine x_getR fl_J6_9 dJ6_indexOf_3_25 (n := 28) rfl (fun x13 => ?_)
      refine x_callS_I [va_rf x12, va_rf x13] [] (f_J7_indexOf_2_ok hO p8 x12 x13) md_J7_indexOf_2 q881 q882 dJ6_indexOf_3_28 rfl rfl (by decide) (Nat.le_of_ble_eq_true rfl) (n := 31) rfl (fun x15 p14 => ?_)
      refine x_goto dJ6_indexOf_3_31 (n := 45) (by decide) ?_
      exact x_ireturn dJ6_indexOf_3_45
abbrev cJ6_contains : ByteArray := prog_31_method_97_code
def yJ6_contains : MethodName := ⟨RJ6, "contains", "(Ljava/lang/CharSequence;)Z"⟩
def dkwJ6_contains_0 : List UInt8 := [42, 43, 185, 2, 198, 1, 0, 182, 2, 199, 155, 0, 7, 4, 167, 0, 4, 3, 172]
abbrev dktJ6_contains_0 : List UInt8 := dkwJ6_contains_0 ++ []
theorem dksJ6_contains_0 : cJ6_contains.data.toList.drop 0 = dktJ6_contains_0 := by decide +kernel
theorem dJ6_contains_0 : decode cJ6_contains 0 = .ok (.aload_n 0, 1) := dk_42 (dk_at dksJ6_contains_0 0 rfl rfl)
theorem dJ6_contains_1 : decode cJ6_contains 1 = .ok (.aload_n 1, 1) := dk_43 (dk_at dksJ6_contains_0 1 rfl rfl)
theorem dJ6_contains_2 : decode cJ6_contains 2 = .ok (.invokeinterface 710 1, 5) := by decide +kernel
theorem dJ6_contains_7 : decode cJ6_contains 7 = .ok (.invokevirtual 711, 3) := dk_182 2 199 (dk_at dksJ6_contains_0 7 rfl rfl)
theorem dJ6_contains_10 : decode cJ6_contains 10 = .ok (.ifCond .lt 7, 3) := dk_155 0 7 (dk_at dksJ6_contains_0 10 rfl rfl)
theorem dJ6_contains_13 : decode cJ6_contains 13 = .ok (.iconst 1, 1) := dk_4 (dk_at dksJ6_contains_0 13 rfl rfl)
theorem dJ6_contains_14 : decode cJ6_contains 14 = .ok (.goto 4, 3) := dk_167 0 4 (dk_at dksJ6_contains_0 14 rfl rfl)
theorem dJ6_contains_17 : decode cJ6_contains 17 = .ok (.iconst 0, 1) := dk_3 (dk_at dksJ6_contains_0 17 rfl rfl)
theorem dJ6_contains_18 : decode cJ6_contains 18 = .ok (.ireturn, 1) := dk_172 (dk_at dksJ6_contains_0 18 rfl rfl)
theorem md_J6_contains : xMd yJ6_contains cJ6_contains 2 (Option.some Jvm.ClassFile.FieldType.boolean) 1 := ⟨q862, q133, by decide, by decide +kernel, by decide +kernel, by decide +kernel⟩
def f_J6_contains (p0 : PH) (a0 : Nat) (a1 : Option Nat) : Option (xO × PH) :=
  (xcl1 p0 a0 16 (xnul a1 none fun b1 =>
  (xcR (f_J6_toString p0 b1 ) fun x3 p2 =>
  (xcI (f_J6_indexOf_3 p2 a0 x3) fun x5 p4 =>
  (if x5 < 0 then
  (if vp_nar .boolean 0 = 0 then rI 0 p4 else none) else
  (if vp_nar .boolean 1 = 1 then rI 1 p4 else none))))))
theorem rc_J6_contains {p0 : PH} {a0 : Nat} {a1 : Option Nat} : ∀ z, f_J6_contains p0 a0 a1 = some z → xco p0 a0 = some 16 := fun z h => xcl1_some h
theorem f_J6_contains_ok {G : xG} (hO : xOK G) (p0 : PH) (a0 : Nat) (a1 : Option Nat) : CT G 3 yJ6_contains cJ6_contains 2 (Option.some Jvm.ClassFile.FieldType.boolean) [.ref a0, va_rf a1] p0 (f_J6_contains p0 a0 a1) := by
  refine CT_of hO (by decide +kernel) (by decide +kernel) (lg_slen _ (by simp only [List.map, xcat]; exact Nat.le_of_ble_eq_true rfl)) ?_
  rw [show lv_args 0 [.ref a0, va_rf a1] = [(0, .ref a0), (1, va_rf a1)] from by simp only [lv_args, xcat] <;> rfl]
  show X G "java/lang/String" "contains" cJ6_contains 2 (Option.some Jvm.ClassFile.FieldType.boolean) 3 0 [(0, .ref a0), (1, va_rf a1)] [] p0 (f_J6_contains p0 a0 a1)
  refine x_cl1 (fun e0 => ?_)
  refine x_aload_nr 0 dJ6_contains_0 rfl rfl (n := 1) rfl ?_
  refine x_aload_n 1 dJ6_contains_1 rfl rfl (n := 2) rfl ?_
  refine x_sm (fun b1 e => ?_)
  subst e
  refine x_callF_R [] [.ref a0] (f_J6_toString_ok hO p0 b1 ) rc_J6_toString md_J6_toString rfl q864 fc_java_lang_String_java_lang_CharSequence_toString_0_Ljaval dJ6_contains_2 rfl rfl (by decide) (Nat.le_of_ble_eq_true rfl) (n := 7) rfl (fun x3 p2 => ?_)
  refine x_callV_I [va_rf x3] [] (f_J6_indexOf_3_ok hO p2 a0 x3) rc_J6_indexOf_3 md_J6_indexOf_3 rfl q877 q878 q879 dJ6_contains_7 rfl rfl (by decide) (Nat.le_of_ble_eq_true rfl) (n := 10) rfl (fun x5 p4 => ?_)
  refine x_if_lt dJ6_contains_10 (t := 17) (by decide) (n := 13) rfl (fun _ => ?_) (fun _ => ?_)
  · refine x_iconst 0 dJ6_contains_17 rfl (n := 18) rfl ?_
    exact x_nreturn rfl dJ6_contains_18
  · refine x_iconst 1 dJ6_contains_13 rfl (n := 14) rfl ?_
    refine x_goto dJ6_contains_14 (n := 18) (by decide) ?_
    exact x_nreturn rfl dJ6_contains_18
abbrev cX3_name : ByteArray := prog_10_method_9_code
def yX3_name : MethodName := ⟨RX3, "name", "()Ljava/lang/String;"⟩
def dkwX3_name_2 : List UInt8 := [176]
abbrev dktX3_name_2 : List UInt8 := dkwX3_name_2 ++ []
def dkwX3_name_1 : List UInt8 := [18, 96, 182, 0, 98, 182, 0, 87, 182, 0, 101, 154, 0, 7, 4, 167, 0, 4, 3, 4, 182, 0, 76, 43]
abbrev dktX3_name_1 : List UInt8 := dkwX3_name_1 ++ dktX3_name_2
def dkwX3_name_0 : List UInt8 := [42, 182, 0, 91, 76, 42, 18, 94, 187, 0, 80, 89, 183, 0, 82, 18, 96, 182, 0, 98, 43, 182, 0, 98]
abbrev dktX3_name_0 : List UInt8 := dkwX3_name_0 ++ dktX3_name_1
theorem dksX3_name_0 : cX3_name.data.toList.drop 0 = dktX3_name_0 := by decide +kernel
theorem dksX3_name_1 : cX3_name.data.toList.drop 24 = dktX3_name_1 := dk_seg dksX3_name_0 24 rfl rfl
theorem dksX3_name_2 : cX3_name.data.toList.drop 48 = dktX3_name_2 := dk_seg dksX3_name_1 24 rfl rfl
theorem dX3_name_0 : decode cX3_name 0 = .ok (.aload_n 0, 1) := dk_42 (dk_at dksX3_name_0 0 rfl rfl)
theorem dX3_name_1 : decode cX3_name 1 = .ok (.invokevirtual 91, 3) := dk_182 0 91 (dk_at dksX3_name_0 1 rfl rfl)
theorem dX3_name_4 : decode cX3_name 4 = .ok (.astore_n 1, 1) := dk_76 (dk_at dksX3_name_0 4 rfl rfl)
theorem dX3_name_5 : decode cX3_name 5 = .ok (.aload_n 0, 1) := dk_42 (dk_at dksX3_name_0 5 rfl rfl)
theorem dX3_name_6 : decode cX3_name 6 = .ok (.ldc 94, 2) := dk_18 94 (dk_at dksX3_name_0 6 rfl rfl)
theorem dX3_name_8 : decode cX3_name 8 = .ok (.new 80, 3) := dk_187 0 80 (dk_at dksX3_name_0 8 rfl rfl)
theorem dX3_name_11 : decode cX3_name 11 = .ok (.dup, 1) := dk_89 (dk_at dksX3_name_0 11 rfl rfl)
theorem dX3_name_12 : decode cX3_name 12 = .ok (.invokespecial 82, 3) := dk_183 0 82 (dk_at dksX3_name_0 12 rfl rfl)
theorem dX3_name_15 : decode cX3_name 15 = .ok (.ldc 96, 2) := dk_18 96 (dk_at dksX3_name_0 15 rfl rfl)
theorem dX3_name_17 : decode cX3_name 17 = .ok (.invokevirtual 98, 3) := dk_182 0 98 (dk_at dksX3_name_0 17 rfl rfl)
theorem dX3_name_20 : decode cX3_name 20 = .ok (.aload_n 1, 1) := dk_43 (dk_at dksX3_name_0 20 rfl rfl)
theorem dX3_name_21 : decode cX3_name 21 = .ok (.invokevirtual 98, 3) := dk_182 0 98 (dk_at dksX3_name_0 21 rfl rfl)
theorem dX3_name_24 : decode cX3_name 24 = .ok (.ldc 96, 2) := dk_18 96 (dk_at dksX3_name_1 0 rfl rfl)
theorem dX3_name_26 : decode cX3_name 26 = .ok (.invokevirtual 98, 3) := dk_182 0 98 (dk_at dksX3_name_1 2 rfl rfl)
theorem dX3_name_29 : decode cX3_name 29 = .ok (.invokevirtual 87, 3) := dk_182 0 87 (dk_at dksX3_name_1 5 rfl rfl)
theorem dX3_name_32 : decode cX3_name 32 = .ok (.invokevirtual 101, 3) := dk_182 0 101 (dk_at dksX3_name_1 8 rfl rfl)
theorem dX3_name_35 : decode cX3_name 35 = .ok (.ifCond .ne 7, 3) := dk_154 0 7 (dk_at dksX3_name_1 11 rfl rfl)
theorem dX3_name_38 : decode cX3_name 38 = .ok (.iconst 1, 1) := dk_4 (dk_at dksX3_name_1 14 rfl rfl)
theorem dX3_name_39 : decode cX3_name 39 = .ok (.goto 4, 3) := dk_167 0 4 (dk_at dksX3_name_1 15 rfl rfl)
theorem dX3_name_42 : decode cX3_name 42 = .ok (.iconst 0, 1) := dk_3 (dk_at dksX3_name_1 18 rfl rfl)
theorem dX3_name_43 : decode cX3_name 43 = .ok (.iconst 1, 1) := dk_4 (dk_at dksX3_name_1 19 rfl rfl)
theorem dX3_name_44 : decode cX3_name 44 = .ok (.invokevirtual 76, 3) := dk_182 0 76 (dk_at dksX3_name_1 20 rfl rfl)
theorem dX3_name_47 : decode cX3_name 47 = .ok (.aload_n 1, 1) := dk_43 (dk_at dksX3_name_1 23 rfl rfl)
theorem dX3_name_48 : decode cX3_name 48 = .ok (.areturn, 1) := dk_176 (dk_at dksX3_name_2 0 rfl rfl)
theorem md_X3_name : xMd yX3_name cX3_name 2 (Option.some (Jvm.ClassFile.FieldType.object "java/lang/String")) 0 := ⟨q826, q127, by decide, by decide +kernel, by decide +kernel, by decide +kernel⟩
def f_X3_name_43 (a0 : Nat)  (v1 : Option Nat) (w1 : Int32) (p0 : PH) : Option (xO × PH) :=
  (xtV (f_X3_need p0 a0 w1 1) (fun p23 =>
  (rR v1 p23)) rT)
def f_X3_name (p0 : PH) (a0 : Nat) : Option (xO × PH) :=
  (xcl1 p0 a0 2 (xtR (f_X3_word p0 a0 ) (fun x2 p1 =>
  (xcon p1 15 fun x3 =>
  (xnew p1 17 [.null, .int 0, .int 0, .int 0] fun b4 p5 =>
  (xcV (f_J15_init p5 b4 ) fun p6 =>
  (xcon p6 16 fun x7 =>
  (xcR (f_J15_append_2 p6 b4 x7) fun x9 p8 =>
  (xnul x9 none fun b10 =>
  (xcR (f_J15_append_2 p8 b10 x2) fun x12 p11 =>
  (xcon p11 16 fun x13 =>
  (xnul x12 none fun b14 =>
  (xcR (f_J15_append_2 p11 b14 x13) fun x16 p15 =>
  (xnul x16 none fun b17 =>
  (xcR (f_J15_toString p15 b17 ) fun x19 p18 =>
  (xnul x3 none fun b20 =>
  (xcI (f_J6_contains p18 b20 x19) fun x22 p21 =>
  (if x22 = 0 then
  (f_X3_name_43 a0 x2 1 p21) else
  (f_X3_name_43 a0 x2 0 p21))))))))))))))))) rT))
theorem rc_X3_name {p0 : PH} {a0 : Nat} : ∀ z, f_X3_name p0 a0 = some z → xco p0 a0 = some 2 := fun z h => xcl1_some h
theorem f_X3_name_43_ok {G : xG} (hO : xOK G) (a0 : Nat)  (v1 : Option Nat) (w1 : Int32) (p0 : PH) : X G "ForestLegs$Reader" "name" cX3_name 2 (Option.some (Jvm.ClassFile.FieldType.object "java/lang/String")) 7 43 [(1, va_rf v1)] [.int w1, .ref a0] p0 (f_X3_name_43 a0 v1 w1 p0) := by
  unfold f_X3_name_43
  refine x_iconst 1 dX3_name_43 rfl (n := 44) rfl ?_
  refine x_callVT_V [.int w1, .int 1] [] (f_X3_need_ok hO p0 a0 w1 1) rc_X3_need md_X3_need rfl q499 q501 qs7 dX3_name_44 rfl rfl (by decide) (Nat.le_of_ble_eq_true rfl) (n := 47) rfl (fun p23 => ?_) (fun q P1 => xt_out (by decide +kernel))
  refine x_aload_n 0 dX3_name_47 rfl rfl (n := 48) rfl ?_
  exact x_areturn (x := v1) (Or.inl ⟨_, rfl⟩) dX3_name_48
theorem f_X3_name_ok {G : xG} (hO : xOK G) (p0 : PH) (a0 : Nat) : CT G 7 yX3_name cX3_name 2 (Option.some (Jvm.ClassFile.FieldType.object "java/lang/String")) [.ref a0] p0 (f_X3_name p0 a0) := by
  refine CT_of hO (by decide +kernel) (by decide +kernel) (Nat.le_of_ble_eq_true rfl) ?_
  show X G "ForestLegs$Reader" "name" cX3_name 2 (Option.some (Jvm.ClassFile.FieldType.object "java/lang/String")) 7 0 [(0, .ref a0)] [] p0 (f_X3_name p0 a0)
  refine x_cl1 (fun e0 => ?_)
  refine x_aload_nr 0 dX3_name_0 rfl rfl (n := 1) rfl ?_
  refine x_callVT_R [] [] (f_X3_word_ok hO p0 a0 ) rc_X3_word md_X3_word rfl q495 q497 qs6 dX3_name_1 rfl rfl (by decide) (Nat.le_of_ble_eq_true rfl) (n := 4) rfl (fun x2 p1 => ?_) (fun q P1 => xt_out (by decide +kernel))
  refine x_astore_n [(1, va_rf x2), (0, .ref a0)] dX3_name_4 rfl (by decide) rfl (n := 5) rfl ?_
  refine x_aload_nr 1 dX3_name_5 rfl rfl (n := 6) rfl ?_
  refine x_ldcS (j := 5) rfl dX3_name_6 (n := 8) rfl (fun x3 => ?_)
  refine x_new cl_17 (by decide) q573 q574 q143 rfl dX3_name_8 (n := 11) rfl (fun b4 p5 => ?_)
  refine x_dup dX3_name_11 rfl (n := 12) rfl ?_
  refine x_callI_V [] [.ref b4, va_rf x3, .ref a0] (f_J15_init_ok hO p5 b4 ) md_J15_init rfl q575 q576 dX3_name_12 rfl rfl (by decide) (by simp only [List.map, xcat]; exact Nat.le_of_ble_eq_true rfl) (n := 15) rfl (fun p6 => ?_)
  refine x_ldcS (j := 6) rfl dX3_name_15 (n := 17) rfl (fun x7 => ?_)
  refine x_callV_R [va_rf x7] [va_rf x3, .ref a0] (f_J15_append_2_ok hO p6 b4 x7) rc_J15_append_2 md_J15_append_2 rfl q829 q830 q831 dX3_name_17 rfl rfl (by decide) (by simp only [List.map, xcat]; exact Nat.le_of_ble_eq_true rfl) (n := 20) rfl (fun x9 p8 => ?_)
  refine x_aload_n 0 dX3_name_20 rfl rfl (n := 21) rfl ?_
  refine x_sm (fun b10 e => ?_)
  subst e
  refine x_callV_R [va_rf x2] [va_rf x3, .ref a0] (f_J15_append_2_ok hO p8 b10 x2) rc_J15_append_2 md_J15_append_2 rfl q829 q830 q831 dX3_name_21 rfl rfl (by decide) (by simp only [List.map, xcat]; exact Nat.le_of_ble_eq_true rfl) (n := 24) rfl (fun x12 p11 => ?_)
  refine x_ldcS (j := 6) rfl dX3_name_24 (n := 26) rfl (fun x13 => ?_)
  refine x_sm (fun b14 e => ?_)
  subst e
  refine x_callV_R [va_rf x13] [va_rf x3, .ref a0] (f_J15_append_2_ok hO p11 b14 x13) rc_J15_append_2 md_J15_append_2 rfl q829 q830 q831 dX3_name_26 rfl rfl (by decide) (by simp only [List.map, xcat]; exact Nat.le_of_ble_eq_true rfl) (n := 29) rfl (fun x16 p15 => ?_)
  refine x_sm (fun b17 e => ?_)
  subst e
  refine x_callV_R [] [va_rf x3, .ref a0] (f_J15_toString_ok hO p15 b17 ) rc_J15_toString md_J15_toString rfl q683 q684 q685 dX3_name_29 rfl rfl (by decide) (by simp only [List.map, xcat]; exact Nat.le_of_ble_eq_true rfl) (n := 32) rfl (fun x19 p18 => ?_)
  refine x_sm (fun b20 e => ?_)
  subst e
  refine x_callV_I [va_rf x19] [.ref a0] (f_J6_contains_ok hO p18 b20 x19) rc_J6_contains md_J6_contains rfl q859 q860 q861 dX3_name_32 rfl rfl (by decide) (Nat.le_of_ble_eq_true rfl) (n := 35) rfl (fun x22 p21 => ?_)
  refine x_if_ne dX3_name_35 (t := 42) (by decide) (n := 38) rfl (fun _ => ?_) (fun _ => ?_)
  · refine x_iconst 0 dX3_name_42 rfl (n := 43) rfl ?_
    refine x_sub [0] [(1, va_rf x2)] rfl ?_
    exact f_X3_name_43_ok hO a0 x2 0 p21
  · refine x_iconst 1 dX3_name_38 rfl (n := 39) rfl ?_
    refine x_goto dX3_name_39 (n := 43) (by decide) ?_
    refine x_sub [0] [(1, va_rf x2)] rfl ?_
    exact f_X3_name_43_ok hO a0 x2 1 p21
abbrev cJ20_requireNonNull : ByteArray := prog_65_method_10_code
def yJ20_requireNonNull : MethodName := ⟨RJ20, "requireNonNull", "(Ljava/lang/Object;)Ljava/lang/Object;"⟩
def dkwJ20_requireNonNull_0 : List UInt8 := [42, 199, 0, 11, 187, 0, 84, 89, 183, 0, 86, 191, 42, 176]
abbrev dktJ20_requireNonNull_0 : List UInt8 := dkwJ20_requireNonNull_0 ++ []
theorem dksJ20_requireNonNull_0 : cJ20_requireNonNull.data.toList.drop 0 = dktJ20_requireNonNull_0 := by decide +kernel
theorem dJ20_requireNonNull_0 : decode cJ20_requireNonNull 0 = .ok (.aload_n 0, 1) := dk_42 (dk_at dksJ20_requireNonNull_0 0 rfl rfl)
theorem dJ20_requireNonNull_1 : decode cJ20_requireNonNull 1 = .ok (.ifnonnull 11, 3) := dk_199 0 11 (dk_at dksJ20_requireNonNull_0 1 rfl rfl)
theorem dJ20_requireNonNull_4 : decode cJ20_requireNonNull 4 = .ok (.new 84, 3) := dk_187 0 84 (dk_at dksJ20_requireNonNull_0 4 rfl rfl)
theorem dJ20_requireNonNull_7 : decode cJ20_requireNonNull 7 = .ok (.dup, 1) := dk_89 (dk_at dksJ20_requireNonNull_0 7 rfl rfl)
theorem dJ20_requireNonNull_8 : decode cJ20_requireNonNull 8 = .ok (.invokespecial 86, 3) := dk_183 0 86 (dk_at dksJ20_requireNonNull_0 8 rfl rfl)
theorem dJ20_requireNonNull_11 : decode cJ20_requireNonNull 11 = .ok (.athrow, 1) := dk_191 (dk_at dksJ20_requireNonNull_0 11 rfl rfl)
theorem dJ20_requireNonNull_12 : decode cJ20_requireNonNull 12 = .ok (.aload_n 0, 1) := dk_42 (dk_at dksJ20_requireNonNull_0 12 rfl rfl)
theorem dJ20_requireNonNull_13 : decode cJ20_requireNonNull 13 = .ok (.areturn, 1) := dk_176 (dk_at dksJ20_requireNonNull_0 13 rfl rfl)
theorem md_J20_requireNonNull : xMd yJ20_requireNonNull cJ20_requireNonNull 1 (Option.some (Jvm.ClassFile.FieldType.object "java/lang/Object")) 1 := ⟨q969, q150, by decide, by decide +kernel, by decide +kernel, by decide +kernel⟩
def f_J20_requireNonNull (p0 : PH) (a0 : Option Nat) : Option (xO × PH) :=
  (xnul a0 none fun b1 =>
  (rR (some b1) p0))
theorem f_J20_requireNonNull_ok {G : xG} (hO : xOK G) (p0 : PH) (a0 : Option Nat) : CT G 0 yJ20_requireNonNull cJ20_requireNonNull 1 (Option.some (Jvm.ClassFile.FieldType.object "java/lang/Object")) [va_rf a0] p0 (f_J20_requireNonNull p0 a0) := by
  refine CT_of hO (by decide +kernel) (by decide +kernel) (lg_slen _ (by simp only [List.map, xcat]; exact Nat.le_of_ble_eq_true rfl)) ?_
  rw [show lv_args 0 [va_rf a0] = [(0, va_rf a0)] from by simp only [lv_args, xcat] <;> rfl]
  show X G "java/util/Objects" "requireNonNull" cJ20_requireNonNull 1 (Option.some (Jvm.ClassFile.FieldType.object "java/lang/Object")) 0 0 [(0, va_rf a0)] [] p0 (f_J20_requireNonNull p0 a0)
  refine x_aload_n 0 dJ20_requireNonNull_0 rfl rfl (n := 1) rfl ?_
  refine x_ifnonnull dJ20_requireNonNull_1 (t := 12) (by decide) (n := 4) rfl (fun e => ?_) (fun b1 e => ?_)
  · subst e
    exact x_no
  · subst e
    refine x_aload_nr 0 dJ20_requireNonNull_12 rfl rfl (n := 13) rfl ?_
    exact x_areturn (x := some b1) (Or.inl ⟨_, rfl⟩) dJ20_requireNonNull_13
abbrev cJ16_mismatch : ByteArray := prog_87_method_13_code
def yJ16_mismatch : MethodName := ⟨RJ16, "mismatch", "([B[BI)I"⟩
def dkwJ16_mismatch_3 : List UInt8 := [172]
abbrev dktJ16_mismatch_3 : List UInt8 := dkwJ16_mismatch_3 ++ []
def dkwJ16_mismatch_2 : List UInt8 := [62, 29, 28, 162, 0, 20, 42, 29, 51, 43, 29, 51, 159, 0, 5, 29, 172, 132, 3, 1, 167, 255, 237, 2]
abbrev dktJ16_mismatch_2 : List UInt8 := dkwJ16_mismatch_2 ++ dktJ16_mismatch_3
def dkwJ16_mismatch_1 : List UInt8 := [43, 178, 0, 126, 133, 28, 178, 0, 129, 184, 0, 122, 62, 29, 155, 0, 5, 29, 172, 28, 29, 2, 130, 100]
abbrev dktJ16_mismatch_1 : List UInt8 := dkwJ16_mismatch_1 ++ dktJ16_mismatch_2
def dkwJ16_mismatch_0 : List UInt8 := [3, 62, 28, 16, 7, 164, 0, 44, 42, 3, 51, 43, 3, 51, 159, 0, 5, 3, 172, 42, 178, 0, 126, 133]
abbrev dktJ16_mismatch_0 : List UInt8 := dkwJ16_mismatch_0 ++ dktJ16_mismatch_1
theorem dksJ16_mismatch_0 : cJ16_mismatch.data.toList.drop 0 = dktJ16_mismatch_0 := by decide +kernel
theorem dksJ16_mismatch_1 : cJ16_mismatch.data.toList.drop 24 = dktJ16_mismatch_1 := dk_seg dksJ16_mismatch_0 24 rfl rfl
theorem dksJ16_mismatch_2 : cJ16_mismatch.data.toList.drop 48 = dktJ16_mismatch_2 := dk_seg dksJ16_mismatch_1 24 rfl rfl
theorem dksJ16_mismatch_3 : cJ16_mismatch.data.toList.drop 72 = dktJ16_mismatch_3 := dk_seg dksJ16_mismatch_2 24 rfl rfl
theorem dJ16_mismatch_0 : decode cJ16_mismatch 0 = .ok (.iconst 0, 1) := dk_3 (dk_at dksJ16_mismatch_0 0 rfl rfl)
theorem dJ16_mismatch_1 : decode cJ16_mismatch 1 = .ok (.istore_n 3, 1) := dk_62 (dk_at dksJ16_mismatch_0 1 rfl rfl)
theorem dJ16_mismatch_2 : decode cJ16_mismatch 2 = .ok (.iload_n 2, 1) := dk_28 (dk_at dksJ16_mismatch_0 2 rfl rfl)
theorem dJ16_mismatch_3 : decode cJ16_mismatch 3 = .ok (.bipush 7, 2) := dk_16 7 (dk_at dksJ16_mismatch_0 3 rfl rfl)
theorem dJ16_mismatch_5 : decode cJ16_mismatch 5 = .ok (.if_icmp .le 44, 3) := dk_164 0 44 (dk_at dksJ16_mismatch_0 5 rfl rfl)
theorem dJ16_mismatch_8 : decode cJ16_mismatch 8 = .ok (.aload_n 0, 1) := dk_42 (dk_at dksJ16_mismatch_0 8 rfl rfl)
theorem dJ16_mismatch_9 : decode cJ16_mismatch 9 = .ok (.iconst 0, 1) := dk_3 (dk_at dksJ16_mismatch_0 9 rfl rfl)
theorem dJ16_mismatch_10 : decode cJ16_mismatch 10 = .ok (.baload, 1) := dk_51 (dk_at dksJ16_mismatch_0 10 rfl rfl)
theorem dJ16_mismatch_11 : decode cJ16_mismatch 11 = .ok (.aload_n 1, 1) := dk_43 (dk_at dksJ16_mismatch_0 11 rfl rfl)
theorem dJ16_mismatch_12 : decode cJ16_mismatch 12 = .ok (.iconst 0, 1) := dk_3 (dk_at dksJ16_mismatch_0 12 rfl rfl)
theorem dJ16_mismatch_13 : decode cJ16_mismatch 13 = .ok (.baload, 1) := dk_51 (dk_at dksJ16_mismatch_0 13 rfl rfl)
theorem dJ16_mismatch_14 : decode cJ16_mismatch 14 = .ok (.if_icmp .eq 5, 3) := dk_159 0 5 (dk_at dksJ16_mismatch_0 14 rfl rfl)
theorem dJ16_mismatch_17 : decode cJ16_mismatch 17 = .ok (.iconst 0, 1) := dk_3 (dk_at dksJ16_mismatch_0 17 rfl rfl)
theorem dJ16_mismatch_18 : decode cJ16_mismatch 18 = .ok (.ireturn, 1) := dk_172 (dk_at dksJ16_mismatch_0 18 rfl rfl)
theorem dJ16_mismatch_19 : decode cJ16_mismatch 19 = .ok (.aload_n 0, 1) := dk_42 (dk_at dksJ16_mismatch_0 19 rfl rfl)
theorem dJ16_mismatch_20 : decode cJ16_mismatch 20 = .ok (.getstatic 126, 3) := dk_178 0 126 (dk_at dksJ16_mismatch_0 20 rfl rfl)
theorem dJ16_mismatch_23 : decode cJ16_mismatch 23 = .ok (.i2l, 1) := dk_133 (dk_at dksJ16_mismatch_0 23 rfl rfl)
theorem dJ16_mismatch_24 : decode cJ16_mismatch 24 = .ok (.aload_n 1, 1) := dk_43 (dk_at dksJ16_mismatch_1 0 rfl rfl)
theorem dJ16_mismatch_25 : decode cJ16_mismatch 25 = .ok (.getstatic 126, 3) := dk_178 0 126 (dk_at dksJ16_mismatch_1 1 rfl rfl)
theorem dJ16_mismatch_28 : decode cJ16_mismatch 28 = .ok (.i2l, 1) := dk_133 (dk_at dksJ16_mismatch_1 4 rfl rfl)
theorem dJ16_mismatch_29 : decode cJ16_mismatch 29 = .ok (.iload_n 2, 1) := dk_28 (dk_at dksJ16_mismatch_1 5 rfl rfl)
theorem dJ16_mismatch_30 : decode cJ16_mismatch 30 = .ok (.getstatic 129, 3) := dk_178 0 129 (dk_at dksJ16_mismatch_1 6 rfl rfl)
theorem dJ16_mismatch_33 : decode cJ16_mismatch 33 = .ok (.invokestatic 122, 3) := dk_184 0 122 (dk_at dksJ16_mismatch_1 9 rfl rfl)
theorem dJ16_mismatch_36 : decode cJ16_mismatch 36 = .ok (.istore_n 3, 1) := dk_62 (dk_at dksJ16_mismatch_1 12 rfl rfl)
theorem dJ16_mismatch_37 : decode cJ16_mismatch 37 = .ok (.iload_n 3, 1) := dk_29 (dk_at dksJ16_mismatch_1 13 rfl rfl)
theorem dJ16_mismatch_38 : decode cJ16_mismatch 38 = .ok (.ifCond .lt 5, 3) := dk_155 0 5 (dk_at dksJ16_mismatch_1 14 rfl rfl)
theorem dJ16_mismatch_41 : decode cJ16_mismatch 41 = .ok (.iload_n 3, 1) := dk_29 (dk_at dksJ16_mismatch_1 17 rfl rfl)
theorem dJ16_mismatch_42 : decode cJ16_mismatch 42 = .ok (.ireturn, 1) := dk_172 (dk_at dksJ16_mismatch_1 18 rfl rfl)
theorem dJ16_mismatch_43 : decode cJ16_mismatch 43 = .ok (.iload_n 2, 1) := dk_28 (dk_at dksJ16_mismatch_1 19 rfl rfl)
theorem dJ16_mismatch_44 : decode cJ16_mismatch 44 = .ok (.iload_n 3, 1) := dk_29 (dk_at dksJ16_mismatch_1 20 rfl rfl)
theorem dJ16_mismatch_45 : decode cJ16_mismatch 45 = .ok (.iconst (-1), 1) := dk_2 (dk_at dksJ16_mismatch_1 21 rfl rfl)
theorem dJ16_mismatch_46 : decode cJ16_mismatch 46 = .ok (.ixor, 1) := dk_130 (dk_at dksJ16_mismatch_1 22 rfl rfl)
theorem dJ16_mismatch_47 : decode cJ16_mismatch 47 = .ok (.isub, 1) := dk_100 (dk_at dksJ16_mismatch_1 23 rfl rfl)
theorem dJ16_mismatch_48 : decode cJ16_mismatch 48 = .ok (.istore_n 3, 1) := dk_62 (dk_at dksJ16_mismatch_2 0 rfl rfl)
theorem dJ16_mismatch_49 : decode cJ16_mismatch 49 = .ok (.iload_n 3, 1) := dk_29 (dk_at dksJ16_mismatch_2 1 rfl rfl)
theorem dJ16_mismatch_50 : decode cJ16_mismatch 50 = .ok (.iload_n 2, 1) := dk_28 (dk_at dksJ16_mismatch_2 2 rfl rfl)
theorem dJ16_mismatch_51 : decode cJ16_mismatch 51 = .ok (.if_icmp .ge 20, 3) := dk_162 0 20 (dk_at dksJ16_mismatch_2 3 rfl rfl)
theorem dJ16_mismatch_54 : decode cJ16_mismatch 54 = .ok (.aload_n 0, 1) := dk_42 (dk_at dksJ16_mismatch_2 6 rfl rfl)
theorem dJ16_mismatch_55 : decode cJ16_mismatch 55 = .ok (.iload_n 3, 1) := dk_29 (dk_at dksJ16_mismatch_2 7 rfl rfl)
theorem dJ16_mismatch_56 : decode cJ16_mismatch 56 = .ok (.baload, 1) := dk_51 (dk_at dksJ16_mismatch_2 8 rfl rfl)
theorem dJ16_mismatch_57 : decode cJ16_mismatch 57 = .ok (.aload_n 1, 1) := dk_43 (dk_at dksJ16_mismatch_2 9 rfl rfl)
theorem dJ16_mismatch_58 : decode cJ16_mismatch 58 = .ok (.iload_n 3, 1) := dk_29 (dk_at dksJ16_mismatch_2 10 rfl rfl)
theorem dJ16_mismatch_59 : decode cJ16_mismatch 59 = .ok (.baload, 1) := dk_51 (dk_at dksJ16_mismatch_2 11 rfl rfl)
theorem dJ16_mismatch_60 : decode cJ16_mismatch 60 = .ok (.if_icmp .eq 5, 3) := dk_159 0 5 (dk_at dksJ16_mismatch_2 12 rfl rfl)
theorem dJ16_mismatch_63 : decode cJ16_mismatch 63 = .ok (.iload_n 3, 1) := dk_29 (dk_at dksJ16_mismatch_2 15 rfl rfl)
theorem dJ16_mismatch_64 : decode cJ16_mismatch 64 = .ok (.ireturn, 1) := dk_172 (dk_at dksJ16_mismatch_2 16 rfl rfl)
theorem dJ16_mismatch_65 : decode cJ16_mismatch 65 = .ok (.iinc 3 1, 3) := dk_132 3 1 (dk_at dksJ16_mismatch_2 17 rfl rfl)
theorem dJ16_mismatch_68 : decode cJ16_mismatch 68 = .ok (.goto (-19), 3) := dk_167 255 237 (dk_at dksJ16_mismatch_2 20 rfl rfl)
theorem dJ16_mismatch_71 : decode cJ16_mismatch 71 = .ok (.iconst (-1), 1) := dk_2 (dk_at dksJ16_mismatch_2 23 rfl rfl)
theorem dJ16_mismatch_72 : decode cJ16_mismatch 72 = .ok (.ireturn, 1) := dk_172 (dk_at dksJ16_mismatch_3 0 rfl rfl)
theorem md_J16_mismatch : xMd yJ16_mismatch cJ16_mismatch 4 (Option.some Jvm.ClassFile.FieldType.int) 3 := ⟨q1019, q144, by decide, by decide +kernel, by decide +kernel, by decide +kernel⟩
def f_J16_mismatch_49F   (k49 : Option Nat × Option Nat × Int32 × Int32 × PH → Option (xO × PH)) (p : Option Nat × Option Nat × Int32 × Int32 × PH) : Option (xO × PH) := match p with
  | (v0, v1, v2, v3, p0) => (if v2 ≤ v3 then
  (rI (-1) p0) else
  (xnul v0 none fun b1 =>
  (xaI p0 b1 2 v3 fun x2 =>
  (xnul v1 none fun b3 =>
  (xaI p0 b3 2 v3 fun x4 =>
  (if x2 = x4 then
  (bnd (v3 + 1) fun x5 =>
  (k49 (((some b1)), ((some b3)), v2, x5, p0))) else
  (rI v3 p0)))))))
def f_J16_mismatch (p0 : PH) (a0 : Option Nat) (a1 : Option Nat) (a2 : Int32) : Option (xO × PH) :=
  (if a2 ≤ 7 then
  (lp (f_J16_mismatch_49F) FU (a0, a1, a2, 0, p0)) else
  (xnul a0 none fun b6 =>
  (xaI p0 b6 2 0 fun x7 =>
  (xnul a1 none fun b8 =>
  (xaI p0 b8 2 0 fun x9 =>
  (if x7 = x9 then
  none else
  (rI 0 p0)))))))
theorem f_J16_mismatch_49F_ok {G : xG} (hO : xOK G)   {k49 : Option Nat × Option Nat × Int32 × Int32 × PH → Option (xO × PH)} (hk49 : ∀ (v0 : Option Nat) (v1 : Option Nat) (v2 : Int32) (v3 : Int32) (p0 : PH), X G "jdk/internal/util/ArraysSupport" "mismatch" cJ16_mismatch 4 (Option.some Jvm.ClassFile.FieldType.int) 0 49 [(0, va_rf v0), (1, va_rf v1), (2, .int v2), (3, .int v3)] [] p0 (k49 (v0, v1, v2, v3, p0))) (v0 : Option Nat) (v1 : Option Nat) (v2 : Int32) (v3 : Int32) (p0 : PH) : X G "jdk/internal/util/ArraysSupport" "mismatch" cJ16_mismatch 4 (Option.some Jvm.ClassFile.FieldType.int) 0 49 [(0, va_rf v0), (1, va_rf v1), (2, .int v2), (3, .int v3)] [] p0 (f_J16_mismatch_49F k49 (v0, v1, v2, v3, p0)) := by
  unfold f_J16_mismatch_49F
  refine x_iload_n 3 dJ16_mismatch_49 rfl rfl (n := 50) rfl ?_
  refine x_iload_n 2 dJ16_mismatch_50 rfl rfl (n := 51) rfl ?_
  refine x_icmp_ge dJ16_mismatch_51 (t := 71) (by decide) (n := 54) rfl (fun _ => ?_) (fun _ => ?_)
  · refine x_iconst (-1) dJ16_mismatch_71 rfl (n := 72) rfl ?_
    exact x_ireturn dJ16_mismatch_72
  · refine x_aload_n 0 dJ16_mismatch_54 rfl rfl (n := 55) rfl ?_
    refine x_iload_n 3 dJ16_mismatch_55 rfl rfl (n := 56) rfl ?_
    refine x_sm (fun b1 e => ?_)
    subst e
    refine x_bald (t := 2) rfl dJ16_mismatch_56 (n := 57) rfl (fun x2 => ?_)
    refine x_aload_n 1 dJ16_mismatch_57 rfl rfl (n := 58) rfl ?_
    refine x_iload_n 3 dJ16_mismatch_58 rfl rfl (n := 59) rfl ?_
    refine x_sm (fun b3 e => ?_)
    subst e
    refine x_bald (t := 2) rfl dJ16_mismatch_59 (n := 60) rfl (fun x4 => ?_)
    refine x_icmp_eq dJ16_mismatch_60 (t := 65) (by decide) (n := 63) rfl (fun _ => ?_) (fun _ => ?_)
    · refine x_iincB 3 (fun x5 => [(3, .int x5), (0, .ref b1), (1, .ref b3), (2, .int v2)]) dJ16_mismatch_65 rfl rfl (by decide) (fun _ => rfl) (n := 68) rfl (fun x5 => ?_)
      refine x_goto dJ16_mismatch_68 (n := 49) (by decide) ?_
      refine x_sub [1, 2, 3, 0] [(0, .ref b1), (1, .ref b3), (2, .int v2), (3, .int x5)] rfl ?_
      exact hk49 ((some b1)) ((some b3)) v2 x5 p0
    · refine x_iload_n 3 dJ16_mismatch_63 rfl rfl (n := 64) rfl ?_
      exact x_ireturn dJ16_mismatch_64
theorem f_J16_mismatch_49_lp {G : xG} (hO : xOK G)   (n : Nat) (v0 : Option Nat) (v1 : Option Nat) (v2 : Int32) (v3 : Int32) (p0 : PH) : X G "jdk/internal/util/ArraysSupport" "mismatch" cJ16_mismatch 4 (Option.some Jvm.ClassFile.FieldType.int) 0 49 [(0, va_rf v0), (1, va_rf v1), (2, .int v2), (3, .int v3)] [] p0 (lp (f_J16_mismatch_49F) n (v0, v1, v2, v3, p0)) :=
  lp_ok (W := fun p K => X G "jdk/internal/util/ArraysSupport" "mismatch" cJ16_mismatch 4 (Option.some Jvm.ClassFile.FieldType.int) 0 49 [(0, va_rf p.1), (1, va_rf p.2.1), (2, .int p.2.2.1), (3, .int p.2.2.2.1)] [] p.2.2.2.2 K) (fun _ => x_no) (fun k hk => fun (v0, v1, v2, v3, p0) => f_J16_mismatch_49F_ok hO (fun v0 v1 v2 v3 p0 => hk (v0, v1, v2, v3, p0)) v0 v1 v2 v3 p0) n (v0, v1, v2, v3, p0)
theorem f_J16_mismatch_ok {G : xG} (hO : xOK G) (p0 : PH) (a0 : Option Nat) (a1 : Option Nat) (a2 : Int32) : CT G 0 yJ16_mismatch cJ16_mismatch 4 (Option.some Jvm.ClassFile.FieldType.int) [va_rf a0, va_rf a1, .int a2] p0 (f_J16_mismatch p0 a0 a1 a2) := by
  refine CT_of hO (by decide +kernel) (by decide +kernel) (lg_slen _ (by simp only [List.map, xcat]; exact Nat.le_of_ble_eq_true rfl)) ?_
  rw [show lv_args 0 [va_rf a0, va_rf a1, .int a2] = [(0, va_rf a0), (1, va_rf a1), (2, .int a2)] from by simp only [lv_args, xcat] <;> rfl]
  show X G "jdk/internal/util/ArraysSupport" "mismatch" cJ16_mismatch 4 (Option.some Jvm.ClassFile.FieldType.int) 0 0 [(0, va_rf a0), (1, va_rf a1), (2, .int a2)] [] p0 (f_J16_mismatch p0 a0 a1 a2)
  refine x_iconst 0 dJ16_mismatch_0 rfl (n := 1) rfl ?_
  refine x_istore_n [(3, .int 0), (0, va_rf a0), (1, va_rf a1), (2, .int a2)] dJ16_mismatch_1 rfl (by decide) rfl (n := 2) rfl ?_
  refine x_iload_n 3 dJ16_mismatch_2 rfl rfl (n := 3) rfl ?_
  refine x_bipush 7 dJ16_mismatch_3 rfl (n := 5) rfl ?_
  refine x_icmp_le dJ16_mismatch_5 (t := 49) (by decide) (n := 8) rfl (fun _ => ?_) (fun _ => ?_)
  · refine x_sub [1, 2, 3, 0] [(0, va_rf a0), (1, va_rf a1), (2, .int a2), (3, .int 0)] rfl ?_
    exact f_J16_mismatch_49_lp hO FU a0 a1 a2 0 p0
  · refine x_aload_n 1 dJ16_mismatch_8 rfl rfl (n := 9) rfl ?_
    refine x_iconst 0 dJ16_mismatch_9 rfl (n := 10) rfl ?_
    refine x_sm (fun b6 e => ?_)
    subst e
    refine x_bald (t := 2) rfl dJ16_mismatch_10 (n := 11) rfl (fun x7 => ?_)
    refine x_aload_n 2 dJ16_mismatch_11 rfl rfl (n := 12) rfl ?_
    refine x_iconst 0 dJ16_mismatch_12 rfl (n := 13) rfl ?_
    refine x_sm (fun b8 e => ?_)
    subst e
    refine x_bald (t := 2) rfl dJ16_mismatch_13 (n := 14) rfl (fun x9 => ?_)
    refine x_icmp_eq dJ16_mismatch_14 (t := 19) (by decide) (n := 17) rfl (fun _ => ?_) (fun _ => ?_)
    · refine x_aload_nr 1 dJ16_mismatch_19 rfl rfl (n := 20) rfl ?_
      exact x_no
    · refine x_iconst 0 dJ16_mismatch_17 rfl (n := 18) rfl ?_
      exact x_ireturn dJ16_mismatch_18
abbrev cJ7_getChar : ByteArray := prog_33_method_44_code
def yJ7_getChar : MethodName := ⟨RJ7, "getChar", "([BI)C"⟩
def dkwJ7_getChar_0 : List UInt8 := [42, 27, 51, 17, 0, 255, 126, 146, 172]
abbrev dktJ7_getChar_0 : List UInt8 := dkwJ7_getChar_0 ++ []
theorem dksJ7_getChar_0 : cJ7_getChar.data.toList.drop 0 = dktJ7_getChar_0 := by decide +kernel
theorem dJ7_getChar_0 : decode cJ7_getChar 0 = .ok (.aload_n 0, 1) := dk_42 (dk_at dksJ7_getChar_0 0 rfl rfl)
theorem dJ7_getChar_1 : decode cJ7_getChar 1 = .ok (.iload_n 1, 1) := dk_27 (dk_at dksJ7_getChar_0 1 rfl rfl)
theorem dJ7_getChar_2 : decode cJ7_getChar 2 = .ok (.baload, 1) := dk_51 (dk_at dksJ7_getChar_0 2 rfl rfl)
theorem dJ7_getChar_3 : decode cJ7_getChar 3 = .ok (.sipush 255, 3) := dk_17 0 255 (dk_at dksJ7_getChar_0 3 rfl rfl)
theorem dJ7_getChar_6 : decode cJ7_getChar 6 = .ok (.iand, 1) := dk_126 (dk_at dksJ7_getChar_0 6 rfl rfl)
theorem dJ7_getChar_7 : decode cJ7_getChar 7 = .ok (.i2c, 1) := dk_146 (dk_at dksJ7_getChar_0 7 rfl rfl)
theorem dJ7_getChar_8 : decode cJ7_getChar 8 = .ok (.ireturn, 1) := dk_172 (dk_at dksJ7_getChar_0 8 rfl rfl)
theorem md_J7_getChar : xMd yJ7_getChar cJ7_getChar 2 (Option.some Jvm.ClassFile.FieldType.char) 2 := ⟨q1123, q134, by decide, by decide +kernel, by decide +kernel, by decide +kernel⟩
def f_J7_getChar (p0 : PH) (a0 : Option Nat) (a1 : Int32) : Option (xO × PH) :=
  (xnul a0 none fun b1 =>
  (xaI p0 b1 2 a1 fun x2 =>
  (if vp_nar .char (((x2 &&& 255).toUInt32 % 65536).toInt32) = ((x2 &&& 255).toUInt32 % 65536).toInt32 then rI (((x2 &&& 255).toUInt32 % 65536).toInt32) p0 else none)))
theorem f_J7_getChar_ok {G : xG} (hO : xOK G) (p0 : PH) (a0 : Option Nat) (a1 : Int32) : CT G 0 yJ7_getChar cJ7_getChar 2 (Option.some Jvm.ClassFile.FieldType.char) [va_rf a0, .int a1] p0 (f_J7_getChar p0 a0 a1) := by
  refine CT_of hO (by decide +kernel) (by decide +kernel) (lg_slen _ (by simp only [List.map, xcat]; exact Nat.le_of_ble_eq_true rfl)) ?_
  rw [show lv_args 0 [va_rf a0, .int a1] = [(0, va_rf a0), (1, .int a1)] from by simp only [lv_args, xcat] <;> rfl]
  show X G "java/lang/StringLatin1" "getChar" cJ7_getChar 2 (Option.some Jvm.ClassFile.FieldType.char) 0 0 [(0, va_rf a0), (1, .int a1)] [] p0 (f_J7_getChar p0 a0 a1)
  refine x_aload_n 0 dJ7_getChar_0 rfl rfl (n := 1) rfl ?_
  refine x_iload_n 1 dJ7_getChar_1 rfl rfl (n := 2) rfl ?_
  refine x_sm (fun b1 e => ?_)
  subst e
  refine x_bald (t := 2) rfl dJ7_getChar_2 (n := 3) rfl (fun x2 => ?_)
  refine x_sipush 255 dJ7_getChar_3 rfl (n := 6) rfl ?_
  refine x_iand dJ7_getChar_6 (n := 7) rfl ?_
  refine x_i2c dJ7_getChar_7 (n := 8) rfl ?_
  exact x_nreturn rfl dJ7_getChar_8
abbrev cJ7_compareTo_2 : ByteArray := prog_33_method_15_code
def yJ7_compareTo_2 : MethodName := ⟨RJ7, "compareTo", "([B[BII)I"⟩
def dkwJ7_compareTo_2_1 : List UInt8 := [167, 0, 16, 42, 21, 5, 184, 0, 50, 43, 21, 5, 184, 0, 50, 100, 172]
abbrev dktJ7_compareTo_2_1 : List UInt8 := dkwJ7_compareTo_2_1 ++ []
def dkwJ7_compareTo_2_0 : List UInt8 := [28, 29, 184, 0, 38, 54, 4, 42, 43, 21, 4, 184, 0, 44, 54, 5, 21, 5, 156, 0, 9, 28, 29, 100]
abbrev dktJ7_compareTo_2_0 : List UInt8 := dkwJ7_compareTo_2_0 ++ dktJ7_compareTo_2_1
theorem dksJ7_compareTo_2_0 : cJ7_compareTo_2.data.toList.drop 0 = dktJ7_compareTo_2_0 := by decide +kernel
theorem dksJ7_compareTo_2_1 : cJ7_compareTo_2.data.toList.drop 24 = dktJ7_compareTo_2_1 := dk_seg dksJ7_compareTo_2_0 24 rfl rfl
theorem dJ7_compareTo_2_0 : decode cJ7_compareTo_2 0 = .ok (.iload_n 2, 1) := dk_28 (dk_at dksJ7_compareTo_2_0 0 rfl rfl)
theorem dJ7_compareTo_2_1 : decode cJ7_compareTo_2 1 = .ok (.iload_n 3, 1) := dk_29 (dk_at dksJ7_compareTo_2_0 1 rfl rfl)
theorem dJ7_compareTo_2_2 : decode cJ7_compareTo_2 2 = .ok (.invokestatic 38, 3) := dk_184 0 38 (dk_at dksJ7_compareTo_2_0 2 rfl rfl)
theorem dJ7_compareTo_2_5 : decode cJ7_compareTo_2 5 = .ok (.istore 4, 2) := dk_54 4 (dk_at dksJ7_compareTo_2_0 5 rfl rfl)
theorem dJ7_compareTo_2_7 : decode cJ7_compareTo_2 7 = .ok (.aload_n 0, 1) := dk_42 (dk_at dksJ7_compareTo_2_0 7 rfl rfl)
theorem dJ7_compareTo_2_8 : decode cJ7_compareTo_2 8 = .ok (.aload_n 1, 1) := dk_43 (dk_at dksJ7_compareTo_2_0 8 rfl rfl)
theorem dJ7_compareTo_2_9 : decode cJ7_compareTo_2 9 = .ok (.iload 4, 2) := dk_21 4 (dk_at dksJ7_compareTo_2_0 9 rfl rfl)
theorem dJ7_compareTo_2_11 : decode cJ7_compareTo_2 11 = .ok (.invokestatic 44, 3) := dk_184 0 44 (dk_at dksJ7_compareTo_2_0 11 rfl rfl)
theorem dJ7_compareTo_2_14 : decode cJ7_compareTo_2 14 = .ok (.istore 5, 2) := dk_54 5 (dk_at dksJ7_compareTo_2_0 14 rfl rfl)
theorem dJ7_compareTo_2_16 : decode cJ7_compareTo_2 16 = .ok (.iload 5, 2) := dk_21 5 (dk_at dksJ7_compareTo_2_0 16 rfl rfl)
theorem dJ7_compareTo_2_18 : decode cJ7_compareTo_2 18 = .ok (.ifCond .ge 9, 3) := dk_156 0 9 (dk_at dksJ7_compareTo_2_0 18 rfl rfl)
theorem dJ7_compareTo_2_21 : decode cJ7_compareTo_2 21 = .ok (.iload_n 2, 1) := dk_28 (dk_at dksJ7_compareTo_2_0 21 rfl rfl)
theorem dJ7_compareTo_2_22 : decode cJ7_compareTo_2 22 = .ok (.iload_n 3, 1) := dk_29 (dk_at dksJ7_compareTo_2_0 22 rfl rfl)
theorem dJ7_compareTo_2_23 : decode cJ7_compareTo_2 23 = .ok (.isub, 1) := dk_100 (dk_at dksJ7_compareTo_2_0 23 rfl rfl)
theorem dJ7_compareTo_2_24 : decode cJ7_compareTo_2 24 = .ok (.goto 16, 3) := dk_167 0 16 (dk_at dksJ7_compareTo_2_1 0 rfl rfl)
theorem dJ7_compareTo_2_27 : decode cJ7_compareTo_2 27 = .ok (.aload_n 0, 1) := dk_42 (dk_at dksJ7_compareTo_2_1 3 rfl rfl)
theorem dJ7_compareTo_2_28 : decode cJ7_compareTo_2 28 = .ok (.iload 5, 2) := dk_21 5 (dk_at dksJ7_compareTo_2_1 4 rfl rfl)
theorem dJ7_compareTo_2_30 : decode cJ7_compareTo_2 30 = .ok (.invokestatic 50, 3) := dk_184 0 50 (dk_at dksJ7_compareTo_2_1 6 rfl rfl)
theorem dJ7_compareTo_2_33 : decode cJ7_compareTo_2 33 = .ok (.aload_n 1, 1) := dk_43 (dk_at dksJ7_compareTo_2_1 9 rfl rfl)
theorem dJ7_compareTo_2_34 : decode cJ7_compareTo_2 34 = .ok (.iload 5, 2) := dk_21 5 (dk_at dksJ7_compareTo_2_1 10 rfl rfl)
theorem dJ7_compareTo_2_36 : decode cJ7_compareTo_2 36 = .ok (.invokestatic 50, 3) := dk_184 0 50 (dk_at dksJ7_compareTo_2_1 12 rfl rfl)
theorem dJ7_compareTo_2_39 : decode cJ7_compareTo_2 39 = .ok (.isub, 1) := dk_100 (dk_at dksJ7_compareTo_2_1 15 rfl rfl)
theorem dJ7_compareTo_2_40 : decode cJ7_compareTo_2 40 = .ok (.ireturn, 1) := dk_172 (dk_at dksJ7_compareTo_2_1 16 rfl rfl)
theorem md_J7_compareTo_2 : xMd yJ7_compareTo_2 cJ7_compareTo_2 6 (Option.some Jvm.ClassFile.FieldType.int) 4 := ⟨q1016, q134, by decide, by decide +kernel, by decide +kernel, by decide +kernel⟩
def f_J7_compareTo_2 (p0 : PH) (a0 : Option Nat) (a1 : Option Nat) (a2 : Int32) (a3 : Int32) : Option (xO × PH) :=
  (xcI (f_J8_min p0 a2 a3) fun x2 p1 =>
  (xcI (f_J16_mismatch p1 a0 a1 x2) fun x4 p3 =>
  (if 0 ≤ x4 then
  (xcI (f_J7_getChar p3 a0 x4) fun x6 p5 =>
  (xcI (f_J7_getChar p5 a1 x4) fun x8 p7 =>
  (rI (x6 - x8) p7))) else
  (rI (a2 - a3) p3))))
theorem f_J7_compareTo_2_ok {G : xG} (hO : xOK G) (p0 : PH) (a0 : Option Nat) (a1 : Option Nat) (a2 : Int32) (a3 : Int32) : CT G 1 yJ7_compareTo_2 cJ7_compareTo_2 6 (Option.some Jvm.ClassFile.FieldType.int) [va_rf a0, va_rf a1, .int a2, .int a3] p0 (f_J7_compareTo_2 p0 a0 a1 a2 a3) := by
  refine CT_of hO (by decide +kernel) (by decide +kernel) (lg_slen _ (by simp only [List.map, xcat]; exact Nat.le_of_ble_eq_true rfl)) ?_
  rw [show lv_args 0 [va_rf a0, va_rf a1, .int a2, .int a3] = [(0, va_rf a0), (1, va_rf a1), (2, .int a2), (3, .int a3)] from by simp only [lv_args, xcat] <;> rfl]
  show X G "java/lang/StringLatin1" "compareTo" cJ7_compareTo_2 6 (Option.some Jvm.ClassFile.FieldType.int) 1 0 [(0, va_rf a0), (1, va_rf a1), (2, .int a2), (3, .int a3)] [] p0 (f_J7_compareTo_2 p0 a0 a1 a2 a3)
  refine x_iload_n 2 dJ7_compareTo_2_0 rfl rfl (n := 1) rfl ?_
  refine x_iload_n 3 dJ7_compareTo_2_1 rfl rfl (n := 2) rfl ?_
  refine x_callS_I [.int a2, .int a3] [] (f_J8_min_ok hO p0 a2 a3) md_J8_min q436 q437 dJ7_compareTo_2_2 rfl rfl (by decide) (Nat.le_of_ble_eq_true rfl) (n := 5) rfl (fun x2 p1 => ?_)
  refine x_istore [(4, .int x2), (0, va_rf a0), (1, va_rf a1), (2, .int a2), (3, .int a3)] dJ7_compareTo_2_5 (by decide) rfl (n := 7) rfl ?_
  refine x_aload_n 1 dJ7_compareTo_2_7 rfl rfl (n := 8) rfl ?_
  refine x_aload_n 2 dJ7_compareTo_2_8 rfl rfl (n := 9) rfl ?_
  refine x_iload 0 dJ7_compareTo_2_9 rfl (n := 11) rfl ?_
  refine x_callS_I [va_rf a0, va_rf a1, .int x2] [] (f_J16_mismatch_ok hO p1 a0 a1 x2) md_J16_mismatch q1017 q1018 dJ7_compareTo_2_11 rfl rfl (by decide) (Nat.le_of_ble_eq_true rfl) (n := 14) rfl (fun x4 p3 => ?_)
  refine x_istore [(5, .int x4), (4, .int x2), (0, va_rf a0), (1, va_rf a1), (2, .int a2), (3, .int a3)] dJ7_compareTo_2_14 (by decide) rfl (n := 16) rfl ?_
  refine x_iload 0 dJ7_compareTo_2_16 rfl (n := 18) rfl ?_
  refine x_if_ge dJ7_compareTo_2_18 (t := 27) (by decide) (n := 21) rfl (fun _ => ?_) (fun _ => ?_)
  · refine x_aload_n 2 dJ7_compareTo_2_27 rfl rfl (n := 28) rfl ?_
    refine x_iload 0 dJ7_compareTo_2_28 rfl (n := 30) rfl ?_
    refine x_callS_I [va_rf a0, .int x4] [] (f_J7_getChar_ok hO p3 a0 x4) md_J7_getChar q1121 q1122 dJ7_compareTo_2_30 rfl rfl (by decide) (Nat.le_of_ble_eq_true rfl) (n := 33) rfl (fun x6 p5 => ?_)
    refine x_aload_n 3 dJ7_compareTo_2_33 rfl rfl (n := 34) rfl ?_
    refine x_iload 0 dJ7_compareTo_2_34 rfl (n := 36) rfl ?_
    refine x_callS_I [va_rf a1, .int x4] [.int x6] (f_J7_getChar_ok hO p5 a1 x4) md_J7_getChar q1121 q1122 dJ7_compareTo_2_36 rfl rfl (by decide) (Nat.le_of_ble_eq_true rfl) (n := 39) rfl (fun x8 p7 => ?_)
    refine x_isub dJ7_compareTo_2_39 (n := 40) rfl ?_
    exact x_ireturn dJ7_compareTo_2_40
  · refine x_iload_n 4 dJ7_compareTo_2_21 rfl rfl (n := 22) rfl ?_
    refine x_iload_n 5 dJ7_compareTo_2_22 rfl rfl (n := 23) rfl ?_
    refine x_isub dJ7_compareTo_2_23 (n := 24) rfl ?_
    refine x_goto dJ7_compareTo_2_24 (n := 40) (by decide) ?_
    exact x_ireturn dJ7_compareTo_2_40
abbrev cJ7_compareTo : ByteArray := prog_33_method_14_code
def yJ7_compareTo : MethodName := ⟨RJ7, "compareTo", "([B[B)I"⟩
def dkwJ7_compareTo_0 : List UInt8 := [42, 190, 61, 43, 190, 62, 42, 43, 28, 29, 184, 0, 34, 172]
abbrev dktJ7_compareTo_0 : List UInt8 := dkwJ7_compareTo_0 ++ []
theorem dksJ7_compareTo_0 : cJ7_compareTo.data.toList.drop 0 = dktJ7_compareTo_0 := by decide +kernel
theorem dJ7_compareTo_0 : decode cJ7_compareTo 0 = .ok (.aload_n 0, 1) := dk_42 (dk_at dksJ7_compareTo_0 0 rfl rfl)
theorem dJ7_compareTo_1 : decode cJ7_compareTo 1 = .ok (.arraylength, 1) := dk_190 (dk_at dksJ7_compareTo_0 1 rfl rfl)
theorem dJ7_compareTo_2 : decode cJ7_compareTo 2 = .ok (.istore_n 2, 1) := dk_61 (dk_at dksJ7_compareTo_0 2 rfl rfl)
theorem dJ7_compareTo_3 : decode cJ7_compareTo 3 = .ok (.aload_n 1, 1) := dk_43 (dk_at dksJ7_compareTo_0 3 rfl rfl)
theorem dJ7_compareTo_4 : decode cJ7_compareTo 4 = .ok (.arraylength, 1) := dk_190 (dk_at dksJ7_compareTo_0 4 rfl rfl)
theorem dJ7_compareTo_5 : decode cJ7_compareTo 5 = .ok (.istore_n 3, 1) := dk_62 (dk_at dksJ7_compareTo_0 5 rfl rfl)
theorem dJ7_compareTo_6 : decode cJ7_compareTo 6 = .ok (.aload_n 0, 1) := dk_42 (dk_at dksJ7_compareTo_0 6 rfl rfl)
theorem dJ7_compareTo_7 : decode cJ7_compareTo 7 = .ok (.aload_n 1, 1) := dk_43 (dk_at dksJ7_compareTo_0 7 rfl rfl)
theorem dJ7_compareTo_8 : decode cJ7_compareTo 8 = .ok (.iload_n 2, 1) := dk_28 (dk_at dksJ7_compareTo_0 8 rfl rfl)
theorem dJ7_compareTo_9 : decode cJ7_compareTo 9 = .ok (.iload_n 3, 1) := dk_29 (dk_at dksJ7_compareTo_0 9 rfl rfl)
theorem dJ7_compareTo_10 : decode cJ7_compareTo 10 = .ok (.invokestatic 34, 3) := dk_184 0 34 (dk_at dksJ7_compareTo_0 10 rfl rfl)
theorem dJ7_compareTo_13 : decode cJ7_compareTo 13 = .ok (.ireturn, 1) := dk_172 (dk_at dksJ7_compareTo_0 13 rfl rfl)
theorem md_J7_compareTo : xMd yJ7_compareTo cJ7_compareTo 4 (Option.some Jvm.ClassFile.FieldType.int) 2 := ⟨q1013, q134, by decide, by decide +kernel, by decide +kernel, by decide +kernel⟩
def f_J7_compareTo (p0 : PH) (a0 : Option Nat) (a1 : Option Nat) : Option (xO × PH) :=
  (xnul a0 none fun b1 =>
  (xlen p0 b1 fun x2 =>
  (xnul a1 none fun b3 =>
  (xlen p0 b3 fun x4 =>
  (xcI (f_J7_compareTo_2 p0 (some b1) (some b3) x2 x4) fun x6 p5 =>
  (rI x6 p5))))))
theorem f_J7_compareTo_ok {G : xG} (hO : xOK G) (p0 : PH) (a0 : Option Nat) (a1 : Option Nat) : CT G 2 yJ7_compareTo cJ7_compareTo 4 (Option.some Jvm.ClassFile.FieldType.int) [va_rf a0, va_rf a1] p0 (f_J7_compareTo p0 a0 a1) := by
  refine CT_of hO (by decide +kernel) (by decide +kernel) (lg_slen _ (by simp only [List.map, xcat]; exact Nat.le_of_ble_eq_true rfl)) ?_
  rw [show lv_args 0 [va_rf a0, va_rf a1] = [(0, va_rf a0), (1, va_rf a1)] from by simp only [lv_args, xcat] <;> rfl]
  show X G "java/lang/StringLatin1" "compareTo" cJ7_compareTo 4 (Option.some Jvm.ClassFile.FieldType.int) 2 0 [(0, va_rf a0), (1, va_rf a1)] [] p0 (f_J7_compareTo p0 a0 a1)
  refine x_aload_n 0 dJ7_compareTo_0 rfl rfl (n := 1) rfl ?_
  refine x_sm (fun b1 e => ?_)
  subst e
  refine x_alen dJ7_compareTo_1 (n := 2) rfl (fun x2 => ?_)
  refine x_istore_n [(2, .int x2), (0, .ref b1), (1, va_rf a1)] dJ7_compareTo_2 rfl (by decide) (by simp only [xst, List.filter_cons, List.filter_nil, xcat] <;> rfl) (n := 3) rfl ?_
  refine x_aload_n 2 dJ7_compareTo_3 rfl rfl (n := 4) rfl ?_
  refine x_sm (fun b3 e => ?_)
  subst e
  refine x_alen dJ7_compareTo_4 (n := 5) rfl (fun x4 => ?_)
  refine x_istore_n [(3, .int x4), (2, .int x2), (0, .ref b1), (1, .ref b3)] dJ7_compareTo_5 rfl (by decide) rfl (n := 6) rfl ?_
  refine x_aload_nr 2 dJ7_compareTo_6 rfl rfl (n := 7) rfl ?_
  refine x_aload_nr 3 dJ7_compareTo_7 rfl rfl (n := 8) rfl ?_
  refine x_iload_n 1 dJ7_compareTo_8 rfl rfl (n := 9) rfl ?_
  refine x_iload_n 0 dJ7_compareTo_9 rfl rfl (n := 10) rfl ?_
  refine x_callS_I [.ref b1, .ref b3, .int x2, .int x4] [] (f_J7_compareTo_2_ok hO p0 (some b1) (some b3) x2 x4) md_J7_compareTo_2 q1014 q1015 dJ7_compareTo_10 rfl rfl (by decide) (Nat.le_of_ble_eq_true rfl) (n := 13) rfl (fun x6 p5 => ?_)
  exact x_ireturn dJ7_compareTo_13
abbrev cJ6_compareTo_2 : ByteArray := prog_31_method_71_code
def yJ6_compareTo_2 : MethodName := ⟨RJ6, "compareTo", "(Ljava/lang/String;)I"⟩
def dkwJ6_compareTo_2_2 : List UInt8 := [154, 0, 11, 44, 45, 184, 2, 79, 167, 0, 8, 44, 45, 184, 2, 82, 172]
abbrev dktJ6_compareTo_2_2 : List UInt8 := dkwJ6_compareTo_2_2 ++ []
def dkwJ6_compareTo_2_1 : List UInt8 := [160, 0, 22, 21, 4, 154, 0, 11, 44, 45, 184, 2, 74, 167, 0, 8, 44, 45, 184, 2, 78, 172, 21, 4]
abbrev dktJ6_compareTo_2_1 : List UInt8 := dkwJ6_compareTo_2_1 ++ dktJ6_compareTo_2_2
def dkwJ6_compareTo_2_0 : List UInt8 := [42, 180, 0, 9, 77, 43, 180, 0, 9, 78, 42, 182, 1, 79, 54, 4, 21, 4, 43, 182, 1, 79]
abbrev dktJ6_compareTo_2_0 : List UInt8 := dkwJ6_compareTo_2_0 ++ dktJ6_compareTo_2_1
theorem dksJ6_compareTo_2_0 : cJ6_compareTo_2.data.toList.drop 0 = dktJ6_compareTo_2_0 := by decide +kernel
theorem dksJ6_compareTo_2_1 : cJ6_compareTo_2.data.toList.drop 22 = dktJ6_compareTo_2_1 := dk_seg dksJ6_compareTo_2_0 22 rfl rfl
theorem dksJ6_compareTo_2_2 : cJ6_compareTo_2.data.toList.drop 46 = dktJ6_compareTo_2_2 := dk_seg dksJ6_compareTo_2_1 24 rfl rfl
theorem dJ6_compareTo_2_0 : decode cJ6_compareTo_2 0 = .ok (.aload_n 0, 1) := dk_42 (dk_at dksJ6_compareTo_2_0 0 rfl rfl)
theorem dJ6_compareTo_2_1 : decode cJ6_compareTo_2 1 = .ok (.getfield 9, 3) := dk_180 0 9 (dk_at dksJ6_compareTo_2_0 1 rfl rfl)
theorem dJ6_compareTo_2_4 : decode cJ6_compareTo_2 4 = .ok (.astore_n 2, 1) := dk_77 (dk_at dksJ6_compareTo_2_0 4 rfl rfl)
theorem dJ6_compareTo_2_5 : decode cJ6_compareTo_2 5 = .ok (.aload_n 1, 1) := dk_43 (dk_at dksJ6_compareTo_2_0 5 rfl rfl)
theorem dJ6_compareTo_2_6 : decode cJ6_compareTo_2 6 = .ok (.getfield 9, 3) := dk_180 0 9 (dk_at dksJ6_compareTo_2_0 6 rfl rfl)
theorem dJ6_compareTo_2_9 : decode cJ6_compareTo_2 9 = .ok (.astore_n 3, 1) := dk_78 (dk_at dksJ6_compareTo_2_0 9 rfl rfl)
theorem dJ6_compareTo_2_10 : decode cJ6_compareTo_2 10 = .ok (.aload_n 0, 1) := dk_42 (dk_at dksJ6_compareTo_2_0 10 rfl rfl)
theorem dJ6_compareTo_2_11 : decode cJ6_compareTo_2 11 = .ok (.invokevirtual 335, 3) := dk_182 1 79 (dk_at dksJ6_compareTo_2_0 11 rfl rfl)
theorem dJ6_compareTo_2_14 : decode cJ6_compareTo_2 14 = .ok (.istore 4, 2) := dk_54 4 (dk_at dksJ6_compareTo_2_0 14 rfl rfl)
theorem dJ6_compareTo_2_16 : decode cJ6_compareTo_2 16 = .ok (.iload 4, 2) := dk_21 4 (dk_at dksJ6_compareTo_2_0 16 rfl rfl)
theorem dJ6_compareTo_2_18 : decode cJ6_compareTo_2 18 = .ok (.aload_n 1, 1) := dk_43 (dk_at dksJ6_compareTo_2_0 18 rfl rfl)
theorem dJ6_compareTo_2_19 : decode cJ6_compareTo_2 19 = .ok (.invokevirtual 335, 3) := dk_182 1 79 (dk_at dksJ6_compareTo_2_0 19 rfl rfl)
theorem dJ6_compareTo_2_22 : decode cJ6_compareTo_2 22 = .ok (.if_icmp .ne 22, 3) := dk_160 0 22 (dk_at dksJ6_compareTo_2_1 0 rfl rfl)
theorem dJ6_compareTo_2_25 : decode cJ6_compareTo_2 25 = .ok (.iload 4, 2) := dk_21 4 (dk_at dksJ6_compareTo_2_1 3 rfl rfl)
theorem dJ6_compareTo_2_27 : decode cJ6_compareTo_2 27 = .ok (.ifCond .ne 11, 3) := dk_154 0 11 (dk_at dksJ6_compareTo_2_1 5 rfl rfl)
theorem dJ6_compareTo_2_30 : decode cJ6_compareTo_2 30 = .ok (.aload_n 2, 1) := dk_44 (dk_at dksJ6_compareTo_2_1 8 rfl rfl)
theorem dJ6_compareTo_2_31 : decode cJ6_compareTo_2 31 = .ok (.aload_n 3, 1) := dk_45 (dk_at dksJ6_compareTo_2_1 9 rfl rfl)
theorem dJ6_compareTo_2_32 : decode cJ6_compareTo_2 32 = .ok (.invokestatic 586, 3) := dk_184 2 74 (dk_at dksJ6_compareTo_2_1 10 rfl rfl)
theorem dJ6_compareTo_2_35 : decode cJ6_compareTo_2 35 = .ok (.goto 8, 3) := dk_167 0 8 (dk_at dksJ6_compareTo_2_1 13 rfl rfl)
theorem dJ6_compareTo_2_38 : decode cJ6_compareTo_2 38 = .ok (.aload_n 2, 1) := dk_44 (dk_at dksJ6_compareTo_2_1 16 rfl rfl)
theorem dJ6_compareTo_2_39 : decode cJ6_compareTo_2 39 = .ok (.aload_n 3, 1) := dk_45 (dk_at dksJ6_compareTo_2_1 17 rfl rfl)
theorem dJ6_compareTo_2_40 : decode cJ6_compareTo_2 40 = .ok (.invokestatic 590, 3) := dk_184 2 78 (dk_at dksJ6_compareTo_2_1 18 rfl rfl)
theorem dJ6_compareTo_2_43 : decode cJ6_compareTo_2 43 = .ok (.ireturn, 1) := dk_172 (dk_at dksJ6_compareTo_2_1 21 rfl rfl)
theorem dJ6_compareTo_2_44 : decode cJ6_compareTo_2 44 = .ok (.iload 4, 2) := dk_21 4 (dk_at dksJ6_compareTo_2_1 22 rfl rfl)
theorem dJ6_compareTo_2_46 : decode cJ6_compareTo_2 46 = .ok (.ifCond .ne 11, 3) := dk_154 0 11 (dk_at dksJ6_compareTo_2_2 0 rfl rfl)
theorem dJ6_compareTo_2_49 : decode cJ6_compareTo_2 49 = .ok (.aload_n 2, 1) := dk_44 (dk_at dksJ6_compareTo_2_2 3 rfl rfl)
theorem dJ6_compareTo_2_50 : decode cJ6_compareTo_2 50 = .ok (.aload_n 3, 1) := dk_45 (dk_at dksJ6_compareTo_2_2 4 rfl rfl)
theorem dJ6_compareTo_2_51 : decode cJ6_compareTo_2 51 = .ok (.invokestatic 591, 3) := dk_184 2 79 (dk_at dksJ6_compareTo_2_2 5 rfl rfl)
theorem dJ6_compareTo_2_54 : decode cJ6_compareTo_2 54 = .ok (.goto 8, 3) := dk_167 0 8 (dk_at dksJ6_compareTo_2_2 8 rfl rfl)
theorem dJ6_compareTo_2_57 : decode cJ6_compareTo_2 57 = .ok (.aload_n 2, 1) := dk_44 (dk_at dksJ6_compareTo_2_2 11 rfl rfl)
theorem dJ6_compareTo_2_58 : decode cJ6_compareTo_2 58 = .ok (.aload_n 3, 1) := dk_45 (dk_at dksJ6_compareTo_2_2 12 rfl rfl)
theorem dJ6_compareTo_2_59 : decode cJ6_compareTo_2 59 = .ok (.invokestatic 594, 3) := dk_184 2 82 (dk_at dksJ6_compareTo_2_2 13 rfl rfl)
theorem dJ6_compareTo_2_62 : decode cJ6_compareTo_2 62 = .ok (.ireturn, 1) := dk_172 (dk_at dksJ6_compareTo_2_2 16 rfl rfl)
theorem md_J6_compareTo_2 : xMd yJ6_compareTo_2 cJ6_compareTo_2 5 (Option.some Jvm.ClassFile.FieldType.int) 1 := ⟨q1010, q133, by decide, by decide +kernel, by decide +kernel, by decide +kernel⟩
def f_J6_compareTo_2 (p0 : PH) (a0 : Nat) (a1 : Option Nat) : Option (xO × PH) :=
  (xcl1 p0 a0 16 (xgR p0 a0 16 0 fun x1 =>
  (xnul a1 none fun b2 =>
  (xgR p0 b2 16 0 fun x3 =>
  (xcI (f_J6_coder p0 a0 ) fun x5 p4 =>
  (xcI (f_J6_coder p4 b2 ) fun x7 p6 =>
  (if x5 = x7 then
  (if x5 = 0 then
  (xcI (f_J7_compareTo p6 x1 x3) fun x9 p8 =>
  (rI x9 p8)) else
  none) else
  (if x5 = 0 then
  none else
  none))))))))
theorem rc_J6_compareTo_2 {p0 : PH} {a0 : Nat} {a1 : Option Nat} : ∀ z, f_J6_compareTo_2 p0 a0 a1 = some z → xco p0 a0 = some 16 := fun z h => xcl1_some h
theorem f_J6_compareTo_2_ok {G : xG} (hO : xOK G) (p0 : PH) (a0 : Nat) (a1 : Option Nat) : CT G 3 yJ6_compareTo_2 cJ6_compareTo_2 5 (Option.some Jvm.ClassFile.FieldType.int) [.ref a0, va_rf a1] p0 (f_J6_compareTo_2 p0 a0 a1) := by
  refine CT_of hO (by decide +kernel) (by decide +kernel) (lg_slen _ (by simp only [List.map, xcat]; exact Nat.le_of_ble_eq_true rfl)) ?_
  rw [show lv_args 0 [.ref a0, va_rf a1] = [(0, .ref a0), (1, va_rf a1)] from by simp only [lv_args, xcat] <;> rfl]
  show X G "java/lang/String" "compareTo" cJ6_compareTo_2 5 (Option.some Jvm.ClassFile.FieldType.int) 3 0 [(0, .ref a0), (1, va_rf a1)] [] p0 (f_J6_compareTo_2 p0 a0 a1)
  refine x_cl1 (fun e0 => ?_)
  refine x_aload_nr 0 dJ6_compareTo_2_0 rfl rfl (n := 1) rfl ?_
  refine x_getR fl_J6_9 dJ6_compareTo_2_1 (n := 4) rfl (fun x1 => ?_)
  refine x_astore_n [(2, va_rf x1), (0, .ref a0), (1, va_rf a1)] dJ6_compareTo_2_4 rfl (by decide) (by simp only [xst, List.filter_cons, List.filter_nil, xcat] <;> rfl) (n := 5) rfl ?_
  refine x_aload_n 2 dJ6_compareTo_2_5 rfl rfl (n := 6) rfl ?_
  refine x_sm (fun b2 e => ?_)
  subst e
  refine x_getR fl_J6_9 dJ6_compareTo_2_6 (n := 9) rfl (fun x3 => ?_)
  refine x_astore_n [(3, va_rf x3), (2, va_rf x1), (0, .ref a0), (1, .ref b2)] dJ6_compareTo_2_9 rfl (by decide) (by simp only [xst, List.filter_cons, List.filter_nil, xcat] <;> rfl) (n := 10) rfl ?_
  refine x_aload_nr 2 dJ6_compareTo_2_10 rfl rfl (n := 11) rfl ?_
  refine x_callV_I [] [] (f_J6_coder_ok hO p0 a0 ) rc_J6_coder md_J6_coder rfl q423 q424 q425 dJ6_compareTo_2_11 rfl rfl (by decide) (Nat.le_of_ble_eq_true rfl) (n := 14) rfl (fun x5 p4 => ?_)
  refine x_istore [(4, .int x5), (3, va_rf x3), (2, va_rf x1), (0, .ref a0), (1, .ref b2)] dJ6_compareTo_2_14 (by decide) (by simp only [xst, List.filter_cons, List.filter_nil, xcat] <;> rfl) (n := 16) rfl ?_
  refine x_iload 0 dJ6_compareTo_2_16 rfl (n := 18) rfl ?_
  refine x_aload_nr 4 dJ6_compareTo_2_18 rfl rfl (n := 19) rfl ?_
  refine x_callV_I [] [.int x5] (f_J6_coder_ok hO p4 b2 ) rc_J6_coder md_J6_coder rfl q423 q424 q425 dJ6_compareTo_2_19 rfl rfl (by decide) (Nat.le_of_ble_eq_true rfl) (n := 22) rfl (fun x7 p6 => ?_)
  refine x_icmp_ne dJ6_compareTo_2_22 (t := 44) (by decide) (n := 25) rfl (fun _ => ?_) (fun _ => ?_)
  · refine x_iload 0 dJ6_compareTo_2_44 rfl (n := 46) rfl ?_
    refine x_if_ne dJ6_compareTo_2_46 (t := 57) (by decide) (n := 49) rfl (fun _ => ?_) (fun _ => ?_)
    · refine x_aload_n 2 dJ6_compareTo_2_57 rfl rfl (n := 58) rfl ?_
      refine x_aload_n 1 dJ6_compareTo_2_58 rfl rfl (n := 59) rfl ?_
      exact x_no
    · refine x_aload_n 2 dJ6_compareTo_2_49 rfl rfl (n := 50) rfl ?_
      refine x_aload_n 1 dJ6_compareTo_2_50 rfl rfl (n := 51) rfl ?_
      exact x_no
  · refine x_iload 0 dJ6_compareTo_2_25 rfl (n := 27) rfl ?_
    refine x_if_ne dJ6_compareTo_2_27 (t := 38) (by decide) (n := 30) rfl (fun _ => ?_) (fun _ => ?_)
    · refine x_aload_n 2 dJ6_compareTo_2_38 rfl rfl (n := 39) rfl ?_
      refine x_aload_n 1 dJ6_compareTo_2_39 rfl rfl (n := 40) rfl ?_
      exact x_no
    · refine x_aload_n 2 dJ6_compareTo_2_30 rfl rfl (n := 31) rfl ?_
      refine x_aload_n 1 dJ6_compareTo_2_31 rfl rfl (n := 32) rfl ?_
      refine x_callS_I [va_rf x1, va_rf x3] [] (f_J7_compareTo_ok hO p6 x1 x3) md_J7_compareTo q1011 q1012 dJ6_compareTo_2_32 rfl rfl (by decide) (Nat.le_of_ble_eq_true rfl) (n := 35) rfl (fun x9 p8 => ?_)
      refine x_goto dJ6_compareTo_2_35 (n := 43) (by decide) ?_
      exact x_ireturn dJ6_compareTo_2_43
abbrev cJ6_compareTo : ByteArray := prog_31_method_162_code
def yJ6_compareTo : MethodName := ⟨RJ6, "compareTo", "(Ljava/lang/Object;)I"⟩
def dkwJ6_compareTo_0 : List UInt8 := [42, 43, 192, 0, 10, 182, 4, 60, 172]
abbrev dktJ6_compareTo_0 : List UInt8 := dkwJ6_compareTo_0 ++ []
theorem dksJ6_compareTo_0 : cJ6_compareTo.data.toList.drop 0 = dktJ6_compareTo_0 := by decide +kernel
theorem dJ6_compareTo_0 : decode cJ6_compareTo 0 = .ok (.aload_n 0, 1) := dk_42 (dk_at dksJ6_compareTo_0 0 rfl rfl)
theorem dJ6_compareTo_1 : decode cJ6_compareTo 1 = .ok (.aload_n 1, 1) := dk_43 (dk_at dksJ6_compareTo_0 1 rfl rfl)
theorem dJ6_compareTo_2 : decode cJ6_compareTo 2 = .ok (.checkcast 10, 3) := dk_192 0 10 (dk_at dksJ6_compareTo_0 2 rfl rfl)
theorem dJ6_compareTo_5 : decode cJ6_compareTo 5 = .ok (.invokevirtual 1084, 3) := dk_182 4 60 (dk_at dksJ6_compareTo_0 5 rfl rfl)
theorem dJ6_compareTo_8 : decode cJ6_compareTo 8 = .ok (.ireturn, 1) := dk_172 (dk_at dksJ6_compareTo_0 8 rfl rfl)
theorem md_J6_compareTo : xMd yJ6_compareTo cJ6_compareTo 2 (Option.some Jvm.ClassFile.FieldType.int) 1 := ⟨q1006, q133, by decide, by decide +kernel, by decide +kernel, by decide +kernel⟩
def f_J6_compareTo (p0 : PH) (a0 : Nat) (a1 : Option Nat) : Option (xO × PH) :=
  (xcl1 p0 a0 16 (xcst p0 (a1) [16]
  (xcI (f_J6_compareTo_2 p0 a0 a1) fun x2 p1 =>
  (rI x2 p1))))
theorem rc_J6_compareTo {p0 : PH} {a0 : Nat} {a1 : Option Nat} : ∀ z, f_J6_compareTo p0 a0 a1 = some z → xco p0 a0 = some 16 := fun z h => xcl1_some h
theorem f_J6_compareTo_ok {G : xG} (hO : xOK G) (p0 : PH) (a0 : Nat) (a1 : Option Nat) : CT G 4 yJ6_compareTo cJ6_compareTo 2 (Option.some Jvm.ClassFile.FieldType.int) [.ref a0, va_rf a1] p0 (f_J6_compareTo p0 a0 a1) := by
  refine CT_of hO (by decide +kernel) (by decide +kernel) (lg_slen _ (by simp only [List.map, xcat]; exact Nat.le_of_ble_eq_true rfl)) ?_
  rw [show lv_args 0 [.ref a0, va_rf a1] = [(0, .ref a0), (1, va_rf a1)] from by simp only [lv_args, xcat] <;> rfl]
  show X G "java/lang/String" "compareTo" cJ6_compareTo 2 (Option.some Jvm.ClassFile.FieldType.int) 4 0 [(0, .ref a0), (1, va_rf a1)] [] p0 (f_J6_compareTo p0 a0 a1)
  refine x_cl1 (fun e0 => ?_)
  refine x_aload_nr 0 dJ6_compareTo_0 rfl rfl (n := 1) rfl ?_
  refine x_aload_n 1 dJ6_compareTo_1 rfl rfl (n := 2) rfl ?_
  refine x_cast (x := a1) (cs := [16]) q796 cst_java_lang_String dJ6_compareTo_2 (n := 5) rfl ?_
  refine x_callV_I [va_rf a1] [] (f_J6_compareTo_2_ok hO p0 a0 a1) rc_J6_compareTo_2 md_J6_compareTo_2 rfl q1007 q1008 q1009 dJ6_compareTo_5 rfl rfl (by decide) (Nat.le_of_ble_eq_true rfl) (n := 8) rfl (fun x2 p1 => ?_)
  exact x_ireturn dJ6_compareTo_8
abbrev cJ19_compare : ByteArray := prog_24_method_40_code
def yJ19_compare : MethodName := ⟨RJ19, "compare", "(II)I"⟩
def dkwJ19_compare_0 : List UInt8 := [26, 27, 162, 0, 7, 2, 167, 0, 13, 26, 27, 160, 0, 7, 3, 167, 0, 4, 4, 172]
abbrev dktJ19_compare_0 : List UInt8 := dkwJ19_compare_0 ++ []
theorem dksJ19_compare_0 : cJ19_compare.data.toList.drop 0 = dktJ19_compare_0 := by decide +kernel
theorem dJ19_compare_0 : decode cJ19_compare 0 = .ok (.iload_n 0, 1) := dk_26 (dk_at dksJ19_compare_0 0 rfl rfl)
theorem dJ19_compare_1 : decode cJ19_compare 1 = .ok (.iload_n 1, 1) := dk_27 (dk_at dksJ19_compare_0 1 rfl rfl)
theorem dJ19_compare_2 : decode cJ19_compare 2 = .ok (.if_icmp .ge 7, 3) := dk_162 0 7 (dk_at dksJ19_compare_0 2 rfl rfl)
theorem dJ19_compare_5 : decode cJ19_compare 5 = .ok (.iconst (-1), 1) := dk_2 (dk_at dksJ19_compare_0 5 rfl rfl)
theorem dJ19_compare_6 : decode cJ19_compare 6 = .ok (.goto 13, 3) := dk_167 0 13 (dk_at dksJ19_compare_0 6 rfl rfl)
theorem dJ19_compare_9 : decode cJ19_compare 9 = .ok (.iload_n 0, 1) := dk_26 (dk_at dksJ19_compare_0 9 rfl rfl)
theorem dJ19_compare_10 : decode cJ19_compare 10 = .ok (.iload_n 1, 1) := dk_27 (dk_at dksJ19_compare_0 10 rfl rfl)
theorem dJ19_compare_11 : decode cJ19_compare 11 = .ok (.if_icmp .ne 7, 3) := dk_160 0 7 (dk_at dksJ19_compare_0 11 rfl rfl)
theorem dJ19_compare_14 : decode cJ19_compare 14 = .ok (.iconst 0, 1) := dk_3 (dk_at dksJ19_compare_0 14 rfl rfl)
theorem dJ19_compare_15 : decode cJ19_compare 15 = .ok (.goto 4, 3) := dk_167 0 4 (dk_at dksJ19_compare_0 15 rfl rfl)
theorem dJ19_compare_18 : decode cJ19_compare 18 = .ok (.iconst 1, 1) := dk_4 (dk_at dksJ19_compare_0 18 rfl rfl)
theorem dJ19_compare_19 : decode cJ19_compare 19 = .ok (.ireturn, 1) := dk_172 (dk_at dksJ19_compare_0 19 rfl rfl)
theorem md_J19_compare : xMd yJ19_compare cJ19_compare 2 (Option.some Jvm.ClassFile.FieldType.int) 2 := ⟨q928, q149, by decide, by decide +kernel, by decide +kernel, by decide +kernel⟩
def f_J19_compare (p0 : PH) (a0 : Int32) (a1 : Int32) : Option (xO × PH) :=
  (if a1 ≤ a0 then
  (if a0 = a1 then
  (rI 0 p0) else
  (rI 1 p0)) else
  (rI (-1) p0))
theorem f_J19_compare_ok {G : xG} (hO : xOK G) (p0 : PH) (a0 : Int32) (a1 : Int32) : CT G 0 yJ19_compare cJ19_compare 2 (Option.some Jvm.ClassFile.FieldType.int) [.int a0, .int a1] p0 (f_J19_compare p0 a0 a1) := by
  refine CT_of hO (by decide +kernel) (by decide +kernel) (Nat.le_of_ble_eq_true rfl) ?_
  show X G "java/lang/Integer" "compare" cJ19_compare 2 (Option.some Jvm.ClassFile.FieldType.int) 0 0 [(0, .int a0), (1, .int a1)] [] p0 (f_J19_compare p0 a0 a1)
  refine x_iload_n 0 dJ19_compare_0 rfl rfl (n := 1) rfl ?_
  refine x_iload_n 1 dJ19_compare_1 rfl rfl (n := 2) rfl ?_
  refine x_icmp_ge dJ19_compare_2 (t := 9) (by decide) (n := 5) rfl (fun _ => ?_) (fun _ => ?_)
  · refine x_iload_n 0 dJ19_compare_9 rfl rfl (n := 10) rfl ?_
    refine x_iload_n 1 dJ19_compare_10 rfl rfl (n := 11) rfl ?_
    refine x_icmp_ne dJ19_compare_11 (t := 18) (by decide) (n := 14) rfl (fun _ => ?_) (fun _ => ?_)
    · refine x_iconst 1 dJ19_compare_18 rfl (n := 19) rfl ?_
      exact x_ireturn dJ19_compare_19
    · refine x_iconst 0 dJ19_compare_14 rfl (n := 15) rfl ?_
      refine x_goto dJ19_compare_15 (n := 19) (by decide) ?_
      exact x_ireturn dJ19_compare_19
  · refine x_iconst (-1) dJ19_compare_5 rfl (n := 6) rfl ?_
    refine x_goto dJ19_compare_6 (n := 19) (by decide) ?_
    exact x_ireturn dJ19_compare_19
abbrev cJ19_compareTo_2 : ByteArray := prog_24_method_39_code
def yJ19_compareTo_2 : MethodName := ⟨RJ19, "compareTo", "(Ljava/lang/Integer;)I"⟩
def dkwJ19_compareTo_2_0 : List UInt8 := [42, 180, 0, 205, 43, 180, 0, 205, 184, 1, 3, 172]
abbrev dktJ19_compareTo_2_0 : List UInt8 := dkwJ19_compareTo_2_0 ++ []
theorem dksJ19_compareTo_2_0 : cJ19_compareTo_2.data.toList.drop 0 = dktJ19_compareTo_2_0 := by decide +kernel
theorem dJ19_compareTo_2_0 : decode cJ19_compareTo_2 0 = .ok (.aload_n 0, 1) := dk_42 (dk_at dksJ19_compareTo_2_0 0 rfl rfl)
theorem dJ19_compareTo_2_1 : decode cJ19_compareTo_2 1 = .ok (.getfield 205, 3) := dk_180 0 205 (dk_at dksJ19_compareTo_2_0 1 rfl rfl)
theorem dJ19_compareTo_2_4 : decode cJ19_compareTo_2 4 = .ok (.aload_n 1, 1) := dk_43 (dk_at dksJ19_compareTo_2_0 4 rfl rfl)
theorem dJ19_compareTo_2_5 : decode cJ19_compareTo_2 5 = .ok (.getfield 205, 3) := dk_180 0 205 (dk_at dksJ19_compareTo_2_0 5 rfl rfl)
theorem dJ19_compareTo_2_8 : decode cJ19_compareTo_2 8 = .ok (.invokestatic 259, 3) := dk_184 1 3 (dk_at dksJ19_compareTo_2_0 8 rfl rfl)
theorem dJ19_compareTo_2_11 : decode cJ19_compareTo_2 11 = .ok (.ireturn, 1) := dk_172 (dk_at dksJ19_compareTo_2_0 11 rfl rfl)
theorem md_J19_compareTo_2 : xMd yJ19_compareTo_2 cJ19_compareTo_2 2 (Option.some Jvm.ClassFile.FieldType.int) 1 := ⟨q999, q149, by decide, by decide +kernel, by decide +kernel, by decide +kernel⟩
def f_J19_compareTo_2 (p0 : PH) (a0 : Nat) (a1 : Option Nat) : Option (xO × PH) :=
  (xcl1 p0 a0 18 (xgI p0 a0 18 0 fun x1 =>
  (xnul a1 none fun b2 =>
  (xgI p0 b2 18 0 fun x3 =>
  (xcI (f_J19_compare p0 x1 x3) fun x5 p4 =>
  (rI x5 p4))))))
theorem rc_J19_compareTo_2 {p0 : PH} {a0 : Nat} {a1 : Option Nat} : ∀ z, f_J19_compareTo_2 p0 a0 a1 = some z → xco p0 a0 = some 18 := fun z h => xcl1_some h
theorem f_J19_compareTo_2_ok {G : xG} (hO : xOK G) (p0 : PH) (a0 : Nat) (a1 : Option Nat) : CT G 1 yJ19_compareTo_2 cJ19_compareTo_2 2 (Option.some Jvm.ClassFile.FieldType.int) [.ref a0, va_rf a1] p0 (f_J19_compareTo_2 p0 a0 a1) := by
  refine CT_of hO (by decide +kernel) (by decide +kernel) (lg_slen _ (by simp only [List.map, xcat]; exact Nat.le_of_ble_eq_true rfl)) ?_
  rw [show lv_args 0 [.ref a0, va_rf a1] = [(0, .ref a0), (1, va_rf a1)] from by simp only [lv_args, xcat] <;> rfl]
  show X G "java/lang/Integer" "compareTo" cJ19_compareTo_2 2 (Option.some Jvm.ClassFile.FieldType.int) 1 0 [(0, .ref a0), (1, va_rf a1)] [] p0 (f_J19_compareTo_2 p0 a0 a1)
  refine x_cl1 (fun e0 => ?_)
  refine x_aload_nr 0 dJ19_compareTo_2_0 rfl rfl (n := 1) rfl ?_
  refine x_getI fl_J19_205 dJ19_compareTo_2_1 (n := 4) rfl (fun x1 => ?_)
  refine x_aload_n 1 dJ19_compareTo_2_4 rfl rfl (n := 5) rfl ?_
  refine x_sm (fun b2 e => ?_)
  subst e
  refine x_getI fl_J19_205 dJ19_compareTo_2_5 (n := 8) rfl (fun x3 => ?_)
  refine x_callS_I [.int x1, .int x3] [] (f_J19_compare_ok hO p0 x1 x3) md_J19_compare q1000 q927 dJ19_compareTo_2_8 rfl rfl (by decide) (Nat.le_of_ble_eq_true rfl) (n := 11) rfl (fun x5 p4 => ?_)
  exact x_ireturn dJ19_compareTo_2_11
abbrev cJ19_compareTo : ByteArray := prog_24_method_63_code
def yJ19_compareTo : MethodName := ⟨RJ19, "compareTo", "(Ljava/lang/Object;)I"⟩
def dkwJ19_compareTo_0 : List UInt8 := [42, 43, 192, 0, 1, 182, 1, 28, 172]
abbrev dktJ19_compareTo_0 : List UInt8 := dkwJ19_compareTo_0 ++ []
theorem dksJ19_compareTo_0 : cJ19_compareTo.data.toList.drop 0 = dktJ19_compareTo_0 := by decide +kernel
theorem dJ19_compareTo_0 : decode cJ19_compareTo 0 = .ok (.aload_n 0, 1) := dk_42 (dk_at dksJ19_compareTo_0 0 rfl rfl)
theorem dJ19_compareTo_1 : decode cJ19_compareTo 1 = .ok (.aload_n 1, 1) := dk_43 (dk_at dksJ19_compareTo_0 1 rfl rfl)
theorem dJ19_compareTo_2 : decode cJ19_compareTo 2 = .ok (.checkcast 1, 3) := dk_192 0 1 (dk_at dksJ19_compareTo_0 2 rfl rfl)
theorem dJ19_compareTo_5 : decode cJ19_compareTo 5 = .ok (.invokevirtual 284, 3) := dk_182 1 28 (dk_at dksJ19_compareTo_0 5 rfl rfl)
theorem dJ19_compareTo_8 : decode cJ19_compareTo 8 = .ok (.ireturn, 1) := dk_172 (dk_at dksJ19_compareTo_0 8 rfl rfl)
theorem md_J19_compareTo : xMd yJ19_compareTo cJ19_compareTo 2 (Option.some Jvm.ClassFile.FieldType.int) 1 := ⟨q994, q149, by decide, by decide +kernel, by decide +kernel, by decide +kernel⟩
def f_J19_compareTo (p0 : PH) (a0 : Nat) (a1 : Option Nat) : Option (xO × PH) :=
  (xcl1 p0 a0 18 (xcst p0 (a1) [18]
  (xcI (f_J19_compareTo_2 p0 a0 a1) fun x2 p1 =>
  (rI x2 p1))))
theorem rc_J19_compareTo {p0 : PH} {a0 : Nat} {a1 : Option Nat} : ∀ z, f_J19_compareTo p0 a0 a1 = some z → xco p0 a0 = some 18 := fun z h => xcl1_some h
theorem f_J19_compareTo_ok {G : xG} (hO : xOK G) (p0 : PH) (a0 : Nat) (a1 : Option Nat) : CT G 2 yJ19_compareTo cJ19_compareTo 2 (Option.some Jvm.ClassFile.FieldType.int) [.ref a0, va_rf a1] p0 (f_J19_compareTo p0 a0 a1) := by
  refine CT_of hO (by decide +kernel) (by decide +kernel) (lg_slen _ (by simp only [List.map, xcat]; exact Nat.le_of_ble_eq_true rfl)) ?_
  rw [show lv_args 0 [.ref a0, va_rf a1] = [(0, .ref a0), (1, va_rf a1)] from by simp only [lv_args, xcat] <;> rfl]
  show X G "java/lang/Integer" "compareTo" cJ19_compareTo 2 (Option.some Jvm.ClassFile.FieldType.int) 2 0 [(0, .ref a0), (1, va_rf a1)] [] p0 (f_J19_compareTo p0 a0 a1)
  refine x_cl1 (fun e0 => ?_)
  refine x_aload_nr 0 dJ19_compareTo_0 rfl rfl (n := 1) rfl ?_
  refine x_aload_n 1 dJ19_compareTo_1 rfl rfl (n := 2) rfl ?_
  refine x_cast (x := a1) (cs := [18]) q995 cst_java_lang_Integer dJ19_compareTo_2 (n := 5) rfl ?_
  refine x_callV_I [va_rf a1] [] (f_J19_compareTo_2_ok hO p0 a0 a1) rc_J19_compareTo_2 md_J19_compareTo_2 rfl q996 q997 q998 dJ19_compareTo_5 rfl rfl (by decide) (Nat.le_of_ble_eq_true rfl) (n := 8) rfl (fun x2 p1 => ?_)
  exact x_ireturn dJ19_compareTo_8
abbrev cJ21_compare : ByteArray := prog_27_method_42_code
def yJ21_compare : MethodName := ⟨RJ21, "compare", "(JJ)I"⟩
def dkwJ21_compare_0 : List UInt8 := [30, 32, 148, 156, 0, 7, 2, 167, 0, 14, 30, 32, 148, 154, 0, 7, 3, 167, 0, 4, 4, 172]
abbrev dktJ21_compare_0 : List UInt8 := dkwJ21_compare_0 ++ []
theorem dksJ21_compare_0 : cJ21_compare.data.toList.drop 0 = dktJ21_compare_0 := by decide +kernel
theorem dJ21_compare_0 : decode cJ21_compare 0 = .ok (.lload_n 0, 1) := dk_30 (dk_at dksJ21_compare_0 0 rfl rfl)
theorem dJ21_compare_1 : decode cJ21_compare 1 = .ok (.lload_n 2, 1) := dk_32 (dk_at dksJ21_compare_0 1 rfl rfl)
theorem dJ21_compare_2 : decode cJ21_compare 2 = .ok (.lcmp, 1) := dk_148 (dk_at dksJ21_compare_0 2 rfl rfl)
theorem dJ21_compare_3 : decode cJ21_compare 3 = .ok (.ifCond .ge 7, 3) := dk_156 0 7 (dk_at dksJ21_compare_0 3 rfl rfl)
theorem dJ21_compare_6 : decode cJ21_compare 6 = .ok (.iconst (-1), 1) := dk_2 (dk_at dksJ21_compare_0 6 rfl rfl)
theorem dJ21_compare_7 : decode cJ21_compare 7 = .ok (.goto 14, 3) := dk_167 0 14 (dk_at dksJ21_compare_0 7 rfl rfl)
theorem dJ21_compare_10 : decode cJ21_compare 10 = .ok (.lload_n 0, 1) := dk_30 (dk_at dksJ21_compare_0 10 rfl rfl)
theorem dJ21_compare_11 : decode cJ21_compare 11 = .ok (.lload_n 2, 1) := dk_32 (dk_at dksJ21_compare_0 11 rfl rfl)
theorem dJ21_compare_12 : decode cJ21_compare 12 = .ok (.lcmp, 1) := dk_148 (dk_at dksJ21_compare_0 12 rfl rfl)
theorem dJ21_compare_13 : decode cJ21_compare 13 = .ok (.ifCond .ne 7, 3) := dk_154 0 7 (dk_at dksJ21_compare_0 13 rfl rfl)
theorem dJ21_compare_16 : decode cJ21_compare 16 = .ok (.iconst 0, 1) := dk_3 (dk_at dksJ21_compare_0 16 rfl rfl)
theorem dJ21_compare_17 : decode cJ21_compare 17 = .ok (.goto 4, 3) := dk_167 0 4 (dk_at dksJ21_compare_0 17 rfl rfl)
theorem dJ21_compare_20 : decode cJ21_compare 20 = .ok (.iconst 1, 1) := dk_4 (dk_at dksJ21_compare_0 20 rfl rfl)
theorem dJ21_compare_21 : decode cJ21_compare 21 = .ok (.ireturn, 1) := dk_172 (dk_at dksJ21_compare_0 21 rfl rfl)
theorem md_J21_compare : xMd yJ21_compare cJ21_compare 4 (Option.some Jvm.ClassFile.FieldType.int) 2 := ⟨q988, q151, by decide, by decide +kernel, by decide +kernel, by decide +kernel⟩
def f_J21_compare (p0 : PH) (a0 : Int64) (a2 : Int64) : Option (xO × PH) :=
  (if 0 ≤ (lg_cmp a0 a2) then
  (if (lg_cmp a0 a2) = 0 then
  (rI 0 p0) else
  (rI 1 p0)) else
  (rI (-1) p0))
theorem f_J21_compare_ok {G : xG} (hO : xOK G) (p0 : PH) (a0 : Int64) (a2 : Int64) : CT G 0 yJ21_compare cJ21_compare 4 (Option.some Jvm.ClassFile.FieldType.int) [.long a0, .long a2] p0 (f_J21_compare p0 a0 a2) := by
  refine CT_of hO (by decide +kernel) (by decide +kernel) (Nat.le_of_ble_eq_true rfl) ?_
  show X G "java/lang/Long" "compare" cJ21_compare 4 (Option.some Jvm.ClassFile.FieldType.int) 0 0 [(0, .long a0), (2, .long a2)] [] p0 (f_J21_compare p0 a0 a2)
  refine x_lload_n 0 dJ21_compare_0 rfl rfl (n := 1) rfl ?_
  refine x_lload_n 1 dJ21_compare_1 rfl rfl (n := 2) rfl ?_
  refine x_lcmp dJ21_compare_2 (n := 3) rfl ?_
  refine x_if_ge dJ21_compare_3 (t := 10) (by decide) (n := 6) rfl (fun _ => ?_) (fun _ => ?_)
  · refine x_lload_n 0 dJ21_compare_10 rfl rfl (n := 11) rfl ?_
    refine x_lload_n 1 dJ21_compare_11 rfl rfl (n := 12) rfl ?_
    refine x_lcmp dJ21_compare_12 (n := 13) rfl ?_
    refine x_if_ne dJ21_compare_13 (t := 20) (by decide) (n := 16) rfl (fun _ => ?_) (fun _ => ?_)
    · refine x_iconst 1 dJ21_compare_20 rfl (n := 21) rfl ?_
      exact x_ireturn dJ21_compare_21
    · refine x_iconst 0 dJ21_compare_16 rfl (n := 17) rfl ?_
      refine x_goto dJ21_compare_17 (n := 21) (by decide) ?_
      exact x_ireturn dJ21_compare_21
  · refine x_iconst (-1) dJ21_compare_6 rfl (n := 7) rfl ?_
    refine x_goto dJ21_compare_7 (n := 21) (by decide) ?_
    exact x_ireturn dJ21_compare_21
abbrev cX11_compareTo_2 : ByteArray := prog_8_method_2_code
def yX11_compareTo_2 : MethodName := ⟨RX11, "compareTo", "(LForestLegs$Part;)I"⟩
def dkwX11_compareTo_2_1 : List UInt8 := [184, 0, 16, 172]
abbrev dktX11_compareTo_2_1 : List UInt8 := dkwX11_compareTo_2_1 ++ []
def dkwX11_compareTo_2_0 : List UInt8 := [42, 180, 0, 7, 133, 43, 180, 0, 13, 133, 105, 43, 180, 0, 7, 133, 42, 180, 0, 13, 133, 105]
abbrev dktX11_compareTo_2_0 : List UInt8 := dkwX11_compareTo_2_0 ++ dktX11_compareTo_2_1
theorem dksX11_compareTo_2_0 : cX11_compareTo_2.data.toList.drop 0 = dktX11_compareTo_2_0 := by decide +kernel
theorem dksX11_compareTo_2_1 : cX11_compareTo_2.data.toList.drop 22 = dktX11_compareTo_2_1 := dk_seg dksX11_compareTo_2_0 22 rfl rfl
theorem dX11_compareTo_2_0 : decode cX11_compareTo_2 0 = .ok (.aload_n 0, 1) := dk_42 (dk_at dksX11_compareTo_2_0 0 rfl rfl)
theorem dX11_compareTo_2_1 : decode cX11_compareTo_2 1 = .ok (.getfield 7, 3) := dk_180 0 7 (dk_at dksX11_compareTo_2_0 1 rfl rfl)
theorem dX11_compareTo_2_4 : decode cX11_compareTo_2 4 = .ok (.i2l, 1) := dk_133 (dk_at dksX11_compareTo_2_0 4 rfl rfl)
theorem dX11_compareTo_2_5 : decode cX11_compareTo_2 5 = .ok (.aload_n 1, 1) := dk_43 (dk_at dksX11_compareTo_2_0 5 rfl rfl)
theorem dX11_compareTo_2_6 : decode cX11_compareTo_2 6 = .ok (.getfield 13, 3) := dk_180 0 13 (dk_at dksX11_compareTo_2_0 6 rfl rfl)
theorem dX11_compareTo_2_9 : decode cX11_compareTo_2 9 = .ok (.i2l, 1) := dk_133 (dk_at dksX11_compareTo_2_0 9 rfl rfl)
theorem dX11_compareTo_2_10 : decode cX11_compareTo_2 10 = .ok (.lmul, 1) := dk_105 (dk_at dksX11_compareTo_2_0 10 rfl rfl)
theorem dX11_compareTo_2_11 : decode cX11_compareTo_2 11 = .ok (.aload_n 1, 1) := dk_43 (dk_at dksX11_compareTo_2_0 11 rfl rfl)
theorem dX11_compareTo_2_12 : decode cX11_compareTo_2 12 = .ok (.getfield 7, 3) := dk_180 0 7 (dk_at dksX11_compareTo_2_0 12 rfl rfl)
theorem dX11_compareTo_2_15 : decode cX11_compareTo_2 15 = .ok (.i2l, 1) := dk_133 (dk_at dksX11_compareTo_2_0 15 rfl rfl)
theorem dX11_compareTo_2_16 : decode cX11_compareTo_2 16 = .ok (.aload_n 0, 1) := dk_42 (dk_at dksX11_compareTo_2_0 16 rfl rfl)
theorem dX11_compareTo_2_17 : decode cX11_compareTo_2 17 = .ok (.getfield 13, 3) := dk_180 0 13 (dk_at dksX11_compareTo_2_0 17 rfl rfl)
theorem dX11_compareTo_2_20 : decode cX11_compareTo_2 20 = .ok (.i2l, 1) := dk_133 (dk_at dksX11_compareTo_2_0 20 rfl rfl)
theorem dX11_compareTo_2_21 : decode cX11_compareTo_2 21 = .ok (.lmul, 1) := dk_105 (dk_at dksX11_compareTo_2_0 21 rfl rfl)
theorem dX11_compareTo_2_22 : decode cX11_compareTo_2 22 = .ok (.invokestatic 16, 3) := dk_184 0 16 (dk_at dksX11_compareTo_2_1 0 rfl rfl)
theorem dX11_compareTo_2_25 : decode cX11_compareTo_2 25 = .ok (.ireturn, 1) := dk_172 (dk_at dksX11_compareTo_2_1 3 rfl rfl)
theorem md_X11_compareTo_2 : xMd yX11_compareTo_2 cX11_compareTo_2 2 (Option.some Jvm.ClassFile.FieldType.int) 1 := ⟨q985, q171, by decide, by decide +kernel, by decide +kernel, by decide +kernel⟩
def f_X11_compareTo_2 (p0 : PH) (a0 : Nat) (a1 : Option Nat) : Option (xO × PH) :=
  (xcl1 p0 a0 10 (xgI p0 a0 10 0 fun x1 =>
  (xnul a1 none fun b2 =>
  (xgI p0 b2 10 1 fun x3 =>
  (xgI p0 b2 10 0 fun x4 =>
  (xgI p0 a0 10 1 fun x5 =>
  (xcI (f_J21_compare p0 (x1.toInt64 * x3.toInt64) (x4.toInt64 * x5.toInt64)) fun x7 p6 =>
  (rI x7 p6))))))))
theorem rc_X11_compareTo_2 {p0 : PH} {a0 : Nat} {a1 : Option Nat} : ∀ z, f_X11_compareTo_2 p0 a0 a1 = some z → xco p0 a0 = some 10 := fun z h => xcl1_some h
theorem f_X11_compareTo_2_ok {G : xG} (hO : xOK G) (p0 : PH) (a0 : Nat) (a1 : Option Nat) : CT G 1 yX11_compareTo_2 cX11_compareTo_2 2 (Option.some Jvm.ClassFile.FieldType.int) [.ref a0, va_rf a1] p0 (f_X11_compareTo_2 p0 a0 a1) := by
  refine CT_of hO (by decide +kernel) (by decide +kernel) (lg_slen _ (by simp only [List.map, xcat]; exact Nat.le_of_ble_eq_true rfl)) ?_
  rw [show lv_args 0 [.ref a0, va_rf a1] = [(0, .ref a0), (1, va_rf a1)] from by simp only [lv_args, xcat] <;> rfl]
  show X G "ForestLegs$Part" "compareTo" cX11_compareTo_2 2 (Option.some Jvm.ClassFile.FieldType.int) 1 0 [(0, .ref a0), (1, va_rf a1)] [] p0 (f_X11_compareTo_2 p0 a0 a1)
  refine x_cl1 (fun e0 => ?_)
  refine x_aload_nr 0 dX11_compareTo_2_0 rfl rfl (n := 1) rfl ?_
  refine x_getI fl_X11_7 dX11_compareTo_2_1 (n := 4) rfl (fun x1 => ?_)
  refine x_i2l dX11_compareTo_2_4 (n := 5) rfl ?_
  refine x_aload_n 1 dX11_compareTo_2_5 rfl rfl (n := 6) rfl ?_
  refine x_sm (fun b2 e => ?_)
  subst e
  refine x_getI fl_X11_13 dX11_compareTo_2_6 (n := 9) rfl (fun x3 => ?_)
  refine x_i2l dX11_compareTo_2_9 (n := 10) rfl ?_
  refine x_lmul dX11_compareTo_2_10 (n := 11) rfl ?_
  refine x_aload_nr 1 dX11_compareTo_2_11 rfl rfl (n := 12) rfl ?_
  refine x_getI fl_X11_7 dX11_compareTo_2_12 (n := 15) rfl (fun x4 => ?_)
  refine x_i2l dX11_compareTo_2_15 (n := 16) rfl ?_
  refine x_aload_nr 0 dX11_compareTo_2_16 rfl rfl (n := 17) rfl ?_
  refine x_getI fl_X11_13 dX11_compareTo_2_17 (n := 20) rfl (fun x5 => ?_)
  refine x_i2l dX11_compareTo_2_20 (n := 21) rfl ?_
  refine x_lmul dX11_compareTo_2_21 (n := 22) rfl ?_
  refine x_callS_I [.long (x1.toInt64 * x3.toInt64), .long (x4.toInt64 * x5.toInt64)] [] (f_J21_compare_ok hO p0 (x1.toInt64 * x3.toInt64) (x4.toInt64 * x5.toInt64)) md_J21_compare q986 q987 dX11_compareTo_2_22 rfl rfl (by decide) (Nat.le_of_ble_eq_true rfl) (n := 25) rfl (fun x7 p6 => ?_)
  exact x_ireturn dX11_compareTo_2_25
abbrev cX11_compareTo : ByteArray := prog_8_method_4_code
def yX11_compareTo : MethodName := ⟨RX11, "compareTo", "(Ljava/lang/Object;)I"⟩
def dkwX11_compareTo_0 : List UInt8 := [42, 43, 192, 0, 8, 182, 0, 24, 172]
abbrev dktX11_compareTo_0 : List UInt8 := dkwX11_compareTo_0 ++ []
theorem dksX11_compareTo_0 : cX11_compareTo.data.toList.drop 0 = dktX11_compareTo_0 := by decide +kernel
theorem dX11_compareTo_0 : decode cX11_compareTo 0 = .ok (.aload_n 0, 1) := dk_42 (dk_at dksX11_compareTo_0 0 rfl rfl)
theorem dX11_compareTo_1 : decode cX11_compareTo 1 = .ok (.aload_n 1, 1) := dk_43 (dk_at dksX11_compareTo_0 1 rfl rfl)
theorem dX11_compareTo_2 : decode cX11_compareTo 2 = .ok (.checkcast 8, 3) := dk_192 0 8 (dk_at dksX11_compareTo_0 2 rfl rfl)
theorem dX11_compareTo_5 : decode cX11_compareTo 5 = .ok (.invokevirtual 24, 3) := dk_182 0 24 (dk_at dksX11_compareTo_0 5 rfl rfl)
theorem dX11_compareTo_8 : decode cX11_compareTo 8 = .ok (.ireturn, 1) := dk_172 (dk_at dksX11_compareTo_0 8 rfl rfl)
theorem md_X11_compareTo : xMd yX11_compareTo cX11_compareTo 2 (Option.some Jvm.ClassFile.FieldType.int) 1 := ⟨q980, q171, by decide, by decide +kernel, by decide +kernel, by decide +kernel⟩
def f_X11_compareTo (p0 : PH) (a0 : Nat) (a1 : Option Nat) : Option (xO × PH) :=
  (xcl1 p0 a0 10 (xcst p0 (a1) [10]
  (xcI (f_X11_compareTo_2 p0 a0 a1) fun x2 p1 =>
  (rI x2 p1))))
theorem rc_X11_compareTo {p0 : PH} {a0 : Nat} {a1 : Option Nat} : ∀ z, f_X11_compareTo p0 a0 a1 = some z → xco p0 a0 = some 10 := fun z h => xcl1_some h
theorem f_X11_compareTo_ok {G : xG} (hO : xOK G) (p0 : PH) (a0 : Nat) (a1 : Option Nat) : CT G 2 yX11_compareTo cX11_compareTo 2 (Option.some Jvm.ClassFile.FieldType.int) [.ref a0, va_rf a1] p0 (f_X11_compareTo p0 a0 a1) := by
  refine CT_of hO (by decide +kernel) (by decide +kernel) (lg_slen _ (by simp only [List.map, xcat]; exact Nat.le_of_ble_eq_true rfl)) ?_
  rw [show lv_args 0 [.ref a0, va_rf a1] = [(0, .ref a0), (1, va_rf a1)] from by simp only [lv_args, xcat] <;> rfl]
  show X G "ForestLegs$Part" "compareTo" cX11_compareTo 2 (Option.some Jvm.ClassFile.FieldType.int) 2 0 [(0, .ref a0), (1, va_rf a1)] [] p0 (f_X11_compareTo p0 a0 a1)
  refine x_cl1 (fun e0 => ?_)
  refine x_aload_nr 0 dX11_compareTo_0 rfl rfl (n := 1) rfl ?_
  refine x_aload_n 1 dX11_compareTo_1 rfl rfl (n := 2) rfl ?_
  refine x_cast (x := a1) (cs := [10]) q981 cst_ForestLegs_Part dX11_compareTo_2 (n := 5) rfl ?_
  refine x_callV_I [va_rf a1] [] (f_X11_compareTo_2_ok hO p0 a0 a1) rc_X11_compareTo_2 md_X11_compareTo_2 rfl q982 q983 q984 dX11_compareTo_5 rfl rfl (by decide) (Nat.le_of_ble_eq_true rfl) (n := 8) rfl (fun x2 p1 => ?_)
  exact x_ireturn dX11_compareTo_8
abbrev cJ5_getEntry : ByteArray := prog_77_method_15_code
def yJ5_getEntry : MethodName := ⟨RJ5, "getEntry", "(Ljava/lang/Object;)Ljava/util/TreeMap$Entry;"⟩
def dkwJ5_getEntry_3 : List UInt8 := [45, 176, 167, 255, 212, 1, 176]
abbrev dktJ5_getEntry_3 : List UInt8 := dkwJ5_getEntry_3 ++ []
def dkwJ5_getEntry_2 : List UInt8 := [156, 0, 11, 45, 180, 0, 111, 78, 167, 0, 18, 21, 4, 158, 0, 11, 45, 180, 0, 114, 78, 167, 0, 5]
abbrev dktJ5_getEntry_2 : List UInt8 := dkwJ5_getEntry_2 ++ dktJ5_getEntry_3
def dkwJ5_getEntry_1 : List UInt8 := [180, 0, 101, 78, 45, 198, 0, 46, 44, 45, 180, 0, 105, 185, 0, 107, 2, 0, 54, 4, 21, 4]
abbrev dktJ5_getEntry_1 : List UInt8 := dkwJ5_getEntry_1 ++ dktJ5_getEntry_2
def dkwJ5_getEntry_0 : List UInt8 := [42, 180, 0, 16, 198, 0, 9, 42, 43, 182, 0, 92, 176, 43, 184, 0, 95, 87, 43, 192, 0, 99, 77, 42]
abbrev dktJ5_getEntry_0 : List UInt8 := dkwJ5_getEntry_0 ++ dktJ5_getEntry_1
theorem dksJ5_getEntry_0 : cJ5_getEntry.data.toList.drop 0 = dktJ5_getEntry_0 := by decide +kernel
theorem dksJ5_getEntry_1 : cJ5_getEntry.data.toList.drop 24 = dktJ5_getEntry_1 := dk_seg dksJ5_getEntry_0 24 rfl rfl
theorem dksJ5_getEntry_2 : cJ5_getEntry.data.toList.drop 46 = dktJ5_getEntry_2 := dk_seg dksJ5_getEntry_1 22 rfl rfl
theorem dksJ5_getEntry_3 : cJ5_getEntry.data.toList.drop 70 = dktJ5_getEntry_3 := dk_seg dksJ5_getEntry_2 24 rfl rfl
theorem dJ5_getEntry_0 : decode cJ5_getEntry 0 = .ok (.aload_n 0, 1) := dk_42 (dk_at dksJ5_getEntry_0 0 rfl rfl)
theorem dJ5_getEntry_1 : decode cJ5_getEntry 1 = .ok (.getfield 16, 3) := dk_180 0 16 (dk_at dksJ5_getEntry_0 1 rfl rfl)
theorem dJ5_getEntry_4 : decode cJ5_getEntry 4 = .ok (.ifnull 9, 3) := dk_198 0 9 (dk_at dksJ5_getEntry_0 4 rfl rfl)
theorem dJ5_getEntry_7 : decode cJ5_getEntry 7 = .ok (.aload_n 0, 1) := dk_42 (dk_at dksJ5_getEntry_0 7 rfl rfl)
theorem dJ5_getEntry_8 : decode cJ5_getEntry 8 = .ok (.aload_n 1, 1) := dk_43 (dk_at dksJ5_getEntry_0 8 rfl rfl)
theorem dJ5_getEntry_9 : decode cJ5_getEntry 9 = .ok (.invokevirtual 92, 3) := dk_182 0 92 (dk_at dksJ5_getEntry_0 9 rfl rfl)
theorem dJ5_getEntry_12 : decode cJ5_getEntry 12 = .ok (.areturn, 1) := dk_176 (dk_at dksJ5_getEntry_0 12 rfl rfl)
theorem dJ5_getEntry_13 : decode cJ5_getEntry 13 = .ok (.aload_n 1, 1) := dk_43 (dk_at dksJ5_getEntry_0 13 rfl rfl)
theorem dJ5_getEntry_14 : decode cJ5_getEntry 14 = .ok (.invokestatic 95, 3) := dk_184 0 95 (dk_at dksJ5_getEntry_0 14 rfl rfl)
theorem dJ5_getEntry_17 : decode cJ5_getEntry 17 = .ok (.pop, 1) := dk_87 (dk_at dksJ5_getEntry_0 17 rfl rfl)
theorem dJ5_getEntry_18 : decode cJ5_getEntry 18 = .ok (.aload_n 1, 1) := dk_43 (dk_at dksJ5_getEntry_0 18 rfl rfl)
theorem dJ5_getEntry_19 : decode cJ5_getEntry 19 = .ok (.checkcast 99, 3) := dk_192 0 99 (dk_at dksJ5_getEntry_0 19 rfl rfl)
theorem dJ5_getEntry_22 : decode cJ5_getEntry 22 = .ok (.astore_n 2, 1) := dk_77 (dk_at dksJ5_getEntry_0 22 rfl rfl)
theorem dJ5_getEntry_23 : decode cJ5_getEntry 23 = .ok (.aload_n 0, 1) := dk_42 (dk_at dksJ5_getEntry_0 23 rfl rfl)
theorem dJ5_getEntry_24 : decode cJ5_getEntry 24 = .ok (.getfield 101, 3) := dk_180 0 101 (dk_at dksJ5_getEntry_1 0 rfl rfl)
theorem dJ5_getEntry_27 : decode cJ5_getEntry 27 = .ok (.astore_n 3, 1) := dk_78 (dk_at dksJ5_getEntry_1 3 rfl rfl)
theorem dJ5_getEntry_28 : decode cJ5_getEntry 28 = .ok (.aload_n 3, 1) := dk_45 (dk_at dksJ5_getEntry_1 4 rfl rfl)
theorem dJ5_getEntry_29 : decode cJ5_getEntry 29 = .ok (.ifnull 46, 3) := dk_198 0 46 (dk_at dksJ5_getEntry_1 5 rfl rfl)
theorem dJ5_getEntry_32 : decode cJ5_getEntry 32 = .ok (.aload_n 2, 1) := dk_44 (dk_at dksJ5_getEntry_1 8 rfl rfl)
theorem dJ5_getEntry_33 : decode cJ5_getEntry 33 = .ok (.aload_n 3, 1) := dk_45 (dk_at dksJ5_getEntry_1 9 rfl rfl)
theorem dJ5_getEntry_34 : decode cJ5_getEntry 34 = .ok (.getfield 105, 3) := dk_180 0 105 (dk_at dksJ5_getEntry_1 10 rfl rfl)
theorem dJ5_getEntry_37 : decode cJ5_getEntry 37 = .ok (.invokeinterface 107 2, 5) := by decide +kernel
theorem dJ5_getEntry_42 : decode cJ5_getEntry 42 = .ok (.istore 4, 2) := dk_54 4 (dk_at dksJ5_getEntry_1 18 rfl rfl)
theorem dJ5_getEntry_44 : decode cJ5_getEntry 44 = .ok (.iload 4, 2) := dk_21 4 (dk_at dksJ5_getEntry_1 20 rfl rfl)
theorem dJ5_getEntry_46 : decode cJ5_getEntry 46 = .ok (.ifCond .ge 11, 3) := dk_156 0 11 (dk_at dksJ5_getEntry_2 0 rfl rfl)
theorem dJ5_getEntry_49 : decode cJ5_getEntry 49 = .ok (.aload_n 3, 1) := dk_45 (dk_at dksJ5_getEntry_2 3 rfl rfl)
theorem dJ5_getEntry_50 : decode cJ5_getEntry 50 = .ok (.getfield 111, 3) := dk_180 0 111 (dk_at dksJ5_getEntry_2 4 rfl rfl)
theorem dJ5_getEntry_53 : decode cJ5_getEntry 53 = .ok (.astore_n 3, 1) := dk_78 (dk_at dksJ5_getEntry_2 7 rfl rfl)
theorem dJ5_getEntry_54 : decode cJ5_getEntry 54 = .ok (.goto 18, 3) := dk_167 0 18 (dk_at dksJ5_getEntry_2 8 rfl rfl)
theorem dJ5_getEntry_57 : decode cJ5_getEntry 57 = .ok (.iload 4, 2) := dk_21 4 (dk_at dksJ5_getEntry_2 11 rfl rfl)
theorem dJ5_getEntry_59 : decode cJ5_getEntry 59 = .ok (.ifCond .le 11, 3) := dk_158 0 11 (dk_at dksJ5_getEntry_2 13 rfl rfl)
theorem dJ5_getEntry_62 : decode cJ5_getEntry 62 = .ok (.aload_n 3, 1) := dk_45 (dk_at dksJ5_getEntry_2 16 rfl rfl)
theorem dJ5_getEntry_63 : decode cJ5_getEntry 63 = .ok (.getfield 114, 3) := dk_180 0 114 (dk_at dksJ5_getEntry_2 17 rfl rfl)
theorem dJ5_getEntry_66 : decode cJ5_getEntry 66 = .ok (.astore_n 3, 1) := dk_78 (dk_at dksJ5_getEntry_2 20 rfl rfl)
theorem dJ5_getEntry_67 : decode cJ5_getEntry 67 = .ok (.goto 5, 3) := dk_167 0 5 (dk_at dksJ5_getEntry_2 21 rfl rfl)
theorem dJ5_getEntry_70 : decode cJ5_getEntry 70 = .ok (.aload_n 3, 1) := dk_45 (dk_at dksJ5_getEntry_3 0 rfl rfl)
theorem dJ5_getEntry_71 : decode cJ5_getEntry 71 = .ok (.areturn, 1) := dk_176 (dk_at dksJ5_getEntry_3 1 rfl rfl)
theorem dJ5_getEntry_72 : decode cJ5_getEntry 72 = .ok (.goto (-44), 3) := dk_167 255 212 (dk_at dksJ5_getEntry_3 2 rfl rfl)
theorem dJ5_getEntry_75 : decode cJ5_getEntry 75 = .ok (.aconst_null, 1) := dk_1 (dk_at dksJ5_getEntry_3 5 rfl rfl)
theorem dJ5_getEntry_76 : decode cJ5_getEntry 76 = .ok (.areturn, 1) := dk_176 (dk_at dksJ5_getEntry_3 6 rfl rfl)
theorem md_J5_getEntry : xMd yJ5_getEntry cJ5_getEntry 5 (Option.some (Jvm.ClassFile.FieldType.object "java/util/TreeMap$Entry")) 1 := ⟨q906, q132, by decide, by decide +kernel, by decide +kernel, by decide +kernel⟩
def f_J5_getEntry_72 (a0 : Nat) (k28 : Option Nat × Option Nat × PH → Option (xO × PH)) (v2 : Option Nat) (v3 : Option Nat) (p0 : PH) : Option (xO × PH) :=
  (k28 (v2, v3, p0))
def f_J5_getEntry_28F (a0 : Nat)  (k28 : Option Nat × Option Nat × PH → Option (xO × PH)) (p : Option Nat × Option Nat × PH) : Option (xO × PH) := match p with
  | (v2, v3, p0) => (xnul v3 (rR none p0) fun b6 =>
  (xgR p0 b6 19 0 fun x7 =>
  (xnul v2 none fun b8 =>
  (xsw p0 b8 fun c10 =>
  (if c10 = 10 then
  (xcI (f_X11_compareTo p0 b8 x7) fun x13 p12 =>
  (if 0 ≤ x13 then
  (if x13 ≤ 0 then
  (rR (some b6) p12) else
  (xgR p12 b6 19 3 fun x14 =>
  (f_J5_getEntry_72 a0 k28 ((some b8)) x14 p12))) else
  (xgR p12 b6 19 2 fun x15 =>
  (f_J5_getEntry_72 a0 k28 ((some b8)) x15 p12)))) else
  (if c10 = 16 then
  (xcI (f_J6_compareTo p0 b8 x7) fun x17 p16 =>
  (if 0 ≤ x17 then
  (if x17 ≤ 0 then
  (rR (some b6) p16) else
  (xgR p16 b6 19 3 fun x18 =>
  (f_J5_getEntry_72 a0 k28 ((some b8)) x18 p16))) else
  (xgR p16 b6 19 2 fun x19 =>
  (f_J5_getEntry_72 a0 k28 ((some b8)) x19 p16)))) else
  (if c10 = 18 then
  (xcI (f_J19_compareTo p0 b8 x7) fun x21 p20 =>
  (if 0 ≤ x21 then
  (if x21 ≤ 0 then
  (rR (some b6) p20) else
  (xgR p20 b6 19 3 fun x22 =>
  (f_J5_getEntry_72 a0 k28 ((some b8)) x22 p20))) else
  (xgR p20 b6 19 2 fun x23 =>
  (f_J5_getEntry_72 a0 k28 ((some b8)) x23 p20)))) else
  none)))))))
def f_J5_getEntry (p0 : PH) (a0 : Nat) (a1 : Option Nat) : Option (xO × PH) :=
  (xcl1 p0 a0 15 (xgR p0 a0 15 2 fun x1 =>
  (xnul x1 (xcR (f_J20_requireNonNull p0 a1) fun x4 p3 =>
  (xcst p3 (a1) [16, 18, 10]
  (xgR p3 a0 15 3 fun x5 =>
  (lp (f_J5_getEntry_28F a0) FU (a1, x5, p3))))) fun b2 =>
  none)))
theorem rc_J5_getEntry {p0 : PH} {a0 : Nat} {a1 : Option Nat} : ∀ z, f_J5_getEntry p0 a0 a1 = some z → xco p0 a0 = some 15 := fun z h => xcl1_some h
theorem f_J5_getEntry_72_ok {G : xG} (hO : xOK G) (a0 : Nat) {k28 : Option Nat × Option Nat × PH → Option (xO × PH)} (hk28 : ∀ (v2 : Option Nat) (v3 : Option Nat) (p0 : PH), X G "java/util/TreeMap" "getEntry" cJ5_getEntry 5 (Option.some (Jvm.ClassFile.FieldType.object "java/util/TreeMap$Entry")) 5 28 [(2, va_rf v2), (3, va_rf v3)] [] p0 (k28 (v2, v3, p0))) (v2 : Option Nat) (v3 : Option Nat) (p0 : PH) : X G "java/util/TreeMap" "getEntry" cJ5_getEntry 5 (Option.some (Jvm.ClassFile.FieldType.object "java/util/TreeMap$Entry")) 5 72 [(2, va_rf v2), (3, va_rf v3)] [] p0 (f_J5_getEntry_72 a0 k28 v2 v3 p0) := by
  unfold f_J5_getEntry_72
  refine x_goto dJ5_getEntry_72 (n := 28) (by decide) ?_
  exact hk28 v2 v3 p0
theorem f_J5_getEntry_28F_ok {G : xG} (hO : xOK G) (a0 : Nat)  {k28 : Option Nat × Option Nat × PH → Option (xO × PH)} (hk28 : ∀ (v2 : Option Nat) (v3 : Option Nat) (p0 : PH), X G "java/util/TreeMap" "getEntry" cJ5_getEntry 5 (Option.some (Jvm.ClassFile.FieldType.object "java/util/TreeMap$Entry")) 5 28 [(2, va_rf v2), (3, va_rf v3)] [] p0 (k28 (v2, v3, p0))) (v2 : Option Nat) (v3 : Option Nat) (p0 : PH) : X G "java/util/TreeMap" "getEntry" cJ5_getEntry 5 (Option.some (Jvm.ClassFile.FieldType.object "java/util/TreeMap$Entry")) 5 28 [(2, va_rf v2), (3, va_rf v3)] [] p0 (f_J5_getEntry_28F a0 k28 (v2, v3, p0)) := by
  unfold f_J5_getEntry_28F
  refine x_aload_n 1 dJ5_getEntry_28 rfl rfl (n := 29) rfl ?_
  refine x_ifnull dJ5_getEntry_29 (t := 75) (by decide) (n := 32) rfl (fun e => ?_) (fun b6 e => ?_)
  · subst e
    refine x_null dJ5_getEntry_75 (n := 76) rfl ?_
    exact x_areturn (x := none) (Or.inl ⟨_, rfl⟩) dJ5_getEntry_76
  · subst e
    refine x_aload_n 0 dJ5_getEntry_32 rfl rfl (n := 33) rfl ?_
    refine x_aload_nr 1 dJ5_getEntry_33 rfl rfl (n := 34) rfl ?_
    refine x_getR fl_J5_105 dJ5_getEntry_34 (n := 37) rfl (fun x7 => ?_)
    refine x_sm (fun b8 e => ?_)
    subst e
    refine x_sw (fun c10 e => ?_)
    refine x_ite (fun h => ?_) (fun _ => ?_)
    · subst h
      refine x_callF_I [va_rf x7] [] (f_X11_compareTo_ok hO p0 b8 x7) rc_X11_compareTo md_X11_compareTo rfl q972 fc_ForestLegs_Part_java_lang_Comparable_compareTo_1_Ljaval dJ5_getEntry_37 rfl rfl (by decide) (Nat.le_of_ble_eq_true rfl) (n := 42) rfl (fun x13 p12 => ?_)
      refine x_istore [(4, .int x13), (2, .ref b8), (3, .ref b6)] dJ5_getEntry_42 (by decide) rfl (n := 44) rfl ?_
      refine x_iload 0 dJ5_getEntry_44 rfl (n := 46) rfl ?_
      refine x_if_ge dJ5_getEntry_46 (t := 57) (by decide) (n := 49) rfl (fun _ => ?_) (fun _ => ?_)
      · refine x_iload 0 dJ5_getEntry_57 rfl (n := 59) rfl ?_
        refine x_if_le dJ5_getEntry_59 (t := 70) (by decide) (n := 62) rfl (fun _ => ?_) (fun _ => ?_)
        · refine x_aload_nr 2 dJ5_getEntry_70 rfl rfl (n := 71) rfl ?_
          exact x_areturn (x := some b6) (Or.inl ⟨_, rfl⟩) dJ5_getEntry_71
        · refine x_aload_nr 2 dJ5_getEntry_62 rfl rfl (n := 63) rfl ?_
          refine x_getR fl_J5_114 dJ5_getEntry_63 (n := 66) rfl (fun x14 => ?_)
          refine x_astore_n [(3, va_rf x14), (4, .int x13), (2, .ref b8)] dJ5_getEntry_66 rfl (by decide) rfl (n := 67) rfl ?_
          refine x_goto dJ5_getEntry_67 (n := 72) (by decide) ?_
          refine x_sub [2, 0] [(2, .ref b8), (3, va_rf x14)] rfl ?_
          exact f_J5_getEntry_72_ok hO a0 hk28 ((some b8)) x14 p12
      · refine x_aload_nr 2 dJ5_getEntry_49 rfl rfl (n := 50) rfl ?_
        refine x_getR fl_J5_111 dJ5_getEntry_50 (n := 53) rfl (fun x15 => ?_)
        refine x_astore_n [(3, va_rf x15), (4, .int x13), (2, .ref b8)] dJ5_getEntry_53 rfl (by decide) rfl (n := 54) rfl ?_
        refine x_goto dJ5_getEntry_54 (n := 72) (by decide) ?_
        refine x_sub [2, 0] [(2, .ref b8), (3, va_rf x15)] rfl ?_
        exact f_J5_getEntry_72_ok hO a0 hk28 ((some b8)) x15 p12
    refine x_ite (fun h => ?_) (fun _ => ?_)
    · subst h
      refine x_callF_I [va_rf x7] [] (f_J6_compareTo_ok hO p0 b8 x7) rc_J6_compareTo md_J6_compareTo rfl q972 fc_java_lang_String_java_lang_Comparable_compareTo_1_Ljaval dJ5_getEntry_37 rfl rfl (by decide) (Nat.le_of_ble_eq_true rfl) (n := 42) rfl (fun x17 p16 => ?_)
      refine x_istore [(4, .int x17), (2, .ref b8), (3, .ref b6)] dJ5_getEntry_42 (by decide) rfl (n := 44) rfl ?_
      refine x_iload 0 dJ5_getEntry_44 rfl (n := 46) rfl ?_
      refine x_if_ge dJ5_getEntry_46 (t := 57) (by decide) (n := 49) rfl (fun _ => ?_) (fun _ => ?_)
      · refine x_iload 0 dJ5_getEntry_57 rfl (n := 59) rfl ?_
        refine x_if_le dJ5_getEntry_59 (t := 70) (by decide) (n := 62) rfl (fun _ => ?_) (fun _ => ?_)
        · refine x_aload_nr 2 dJ5_getEntry_70 rfl rfl (n := 71) rfl ?_
          exact x_areturn (x := some b6) (Or.inl ⟨_, rfl⟩) dJ5_getEntry_71
        · refine x_aload_nr 2 dJ5_getEntry_62 rfl rfl (n := 63) rfl ?_
          refine x_getR fl_J5_114 dJ5_getEntry_63 (n := 66) rfl (fun x18 => ?_)
          refine x_astore_n [(3, va_rf x18), (4, .int x17), (2, .ref b8)] dJ5_getEntry_66 rfl (by decide) rfl (n := 67) rfl ?_
          refine x_goto dJ5_getEntry_67 (n := 72) (by decide) ?_
          refine x_sub [2, 0] [(2, .ref b8), (3, va_rf x18)] rfl ?_
          exact f_J5_getEntry_72_ok hO a0 hk28 ((some b8)) x18 p16
      · refine x_aload_nr 2 dJ5_getEntry_49 rfl rfl (n := 50) rfl ?_
        refine x_getR fl_J5_111 dJ5_getEntry_50 (n := 53) rfl (fun x19 => ?_)
        refine x_astore_n [(3, va_rf x19), (4, .int x17), (2, .ref b8)] dJ5_getEntry_53 rfl (by decide) rfl (n := 54) rfl ?_
        refine x_goto dJ5_getEntry_54 (n := 72) (by decide) ?_
        refine x_sub [2, 0] [(2, .ref b8), (3, va_rf x19)] rfl ?_
        exact f_J5_getEntry_72_ok hO a0 hk28 ((some b8)) x19 p16
    refine x_ite (fun h => ?_) (fun _ => ?_)
    · subst h
      refine x_callF_I [va_rf x7] [] (f_J19_compareTo_ok hO p0 b8 x7) rc_J19_compareTo md_J19_compareTo rfl q972 fc_java_lang_Integer_java_lang_Comparable_compareTo_1_Ljaval dJ5_getEntry_37 rfl rfl (by decide) (Nat.le_of_ble_eq_true rfl) (n := 42) rfl (fun x21 p20 => ?_)
      refine x_istore [(4, .int x21), (2, .ref b8), (3, .ref b6)] dJ5_getEntry_42 (by decide) rfl (n := 44) rfl ?_
      refine x_iload 0 dJ5_getEntry_44 rfl (n := 46) rfl ?_
      refine x_if_ge dJ5_getEntry_46 (t := 57) (by decide) (n := 49) rfl (fun _ => ?_) (fun _ => ?_)
      · refine x_iload 0 dJ5_getEntry_57 rfl (n := 59) rfl ?_
        refine x_if_le dJ5_getEntry_59 (t := 70) (by decide) (n := 62) rfl (fun _ => ?_) (fun _ => ?_)
        · refine x_aload_nr 2 dJ5_getEntry_70 rfl rfl (n := 71) rfl ?_
          exact x_areturn (x := some b6) (Or.inl ⟨_, rfl⟩) dJ5_getEntry_71
        · refine x_aload_nr 2 dJ5_getEntry_62 rfl rfl (n := 63) rfl ?_
          refine x_getR fl_J5_114 dJ5_getEntry_63 (n := 66) rfl (fun x22 => ?_)
          refine x_astore_n [(3, va_rf x22), (4, .int x21), (2, .ref b8)] dJ5_getEntry_66 rfl (by decide) rfl (n := 67) rfl ?_
          refine x_goto dJ5_getEntry_67 (n := 72) (by decide) ?_
          refine x_sub [2, 0] [(2, .ref b8), (3, va_rf x22)] rfl ?_
          exact f_J5_getEntry_72_ok hO a0 hk28 ((some b8)) x22 p20
      · refine x_aload_nr 2 dJ5_getEntry_49 rfl rfl (n := 50) rfl ?_
        refine x_getR fl_J5_111 dJ5_getEntry_50 (n := 53) rfl (fun x23 => ?_)
        refine x_astore_n [(3, va_rf x23), (4, .int x21), (2, .ref b8)] dJ5_getEntry_53 rfl (by decide) rfl (n := 54) rfl ?_
        refine x_goto dJ5_getEntry_54 (n := 72) (by decide) ?_
        refine x_sub [2, 0] [(2, .ref b8), (3, va_rf x23)] rfl ?_
        exact f_J5_getEntry_72_ok hO a0 hk28 ((some b8)) x23 p20
    exact x_no
theorem f_J5_getEntry_28_lp {G : xG} (hO : xOK G) (a0 : Nat)  (n : Nat) (v2 : Option Nat) (v3 : Option Nat) (p0 : PH) : X G "java/util/TreeMap" "getEntry" cJ5_getEntry 5 (Option.some (Jvm.ClassFile.FieldType.object "java/util/TreeMap$Entry")) 5 28 [(2, va_rf v2), (3, va_rf v3)] [] p0 (lp (f_J5_getEntry_28F a0) n (v2, v3, p0)) :=
  lp_ok (W := fun p K => X G "java/util/TreeMap" "getEntry" cJ5_getEntry 5 (Option.some (Jvm.ClassFile.FieldType.object "java/util/TreeMap$Entry")) 5 28 [(2, va_rf p.1), (3, va_rf p.2.1)] [] p.2.2 K) (fun _ => x_no) (fun k hk => fun (v2, v3, p0) => f_J5_getEntry_28F_ok hO a0 (fun v2 v3 p0 => hk (v2, v3, p0)) v2 v3 p0) n (v2, v3, p0)
theorem f_J5_getEntry_ok {G : xG} (hO : xOK G) (p0 : PH) (a0 : Nat) (a1 : Option Nat) : CT G 5 yJ5_getEntry cJ5_getEntry 5 (Option.some (Jvm.ClassFile.FieldType.object "java/util/TreeMap$Entry")) [.ref a0, va_rf a1] p0 (f_J5_getEntry p0 a0 a1) := by
  refine CT_of hO (by decide +kernel) (by decide +kernel) (lg_slen _ (by simp only [List.map, xcat]; exact Nat.le_of_ble_eq_true rfl)) ?_
  rw [show lv_args 0 [.ref a0, va_rf a1] = [(0, .ref a0), (1, va_rf a1)] from by simp only [lv_args, xcat] <;> rfl]
  show X G "java/util/TreeMap" "getEntry" cJ5_getEntry 5 (Option.some (Jvm.ClassFile.FieldType.object "java/util/TreeMap$Entry")) 5 0 [(0, .ref a0), (1, va_rf a1)] [] p0 (f_J5_getEntry p0 a0 a1)
  refine x_cl1 (fun e0 => ?_)
  refine x_aload_nr 0 dJ5_getEntry_0 rfl rfl (n := 1) rfl ?_
  refine x_getR fl_J5_16 dJ5_getEntry_1 (n := 4) rfl (fun x1 => ?_)
  refine x_ifnull dJ5_getEntry_4 (t := 13) (by decide) (n := 7) rfl (fun e => ?_) (fun b2 e => ?_)
  · subst e
    refine x_aload_n 1 dJ5_getEntry_13 rfl rfl (n := 14) rfl ?_
    refine x_callS_R [va_rf a1] [] (f_J20_requireNonNull_ok hO p0 a1) md_J20_requireNonNull q967 q968 dJ5_getEntry_14 rfl rfl (by decide) (Nat.le_of_ble_eq_true rfl) (n := 17) rfl (fun x4 p3 => ?_)
    refine x_pop dJ5_getEntry_17 (xcat _) (n := 18) rfl ?_
    refine x_aload_n 1 dJ5_getEntry_18 rfl rfl (n := 19) rfl ?_
    refine x_cast (x := a1) (cs := [16, 18, 10]) q970 cst_java_lang_Comparable dJ5_getEntry_19 (n := 22) rfl ?_
    refine x_astore_n [(2, va_rf a1), (0, .ref a0), (1, va_rf a1)] dJ5_getEntry_22 rfl (by decide) (by simp only [xst, List.filter_cons, List.filter_nil, xcat] <;> rfl) (n := 23) rfl ?_
    refine x_aload_nr 1 dJ5_getEntry_23 rfl rfl (n := 24) rfl ?_
    refine x_getR fl_J5_101 dJ5_getEntry_24 (n := 27) rfl (fun x5 => ?_)
    refine x_astore_n [(3, va_rf x5), (2, va_rf a1), (0, .ref a0), (1, va_rf a1)] dJ5_getEntry_27 rfl (by decide) (by simp only [xst, List.filter_cons, List.filter_nil, xcat] <;> rfl) (n := 28) rfl ?_
    refine x_sub [1, 0] [(2, va_rf a1), (3, va_rf x5)] rfl ?_
    exact f_J5_getEntry_28_lp hO a0 FU a1 x5 p3
  · subst e
    refine x_aload_nr 0 dJ5_getEntry_7 rfl rfl (n := 8) rfl ?_
    refine x_aload_n 1 dJ5_getEntry_8 rfl rfl (n := 9) rfl ?_
    exact x_no
abbrev cJ5_containsKey : ByteArray := prog_77_method_6_code
def yJ5_containsKey : MethodName := ⟨RJ5, "containsKey", "(Ljava/lang/Object;)Z"⟩
def dkwJ5_containsKey_0 : List UInt8 := [42, 43, 182, 0, 50, 198, 0, 7, 4, 167, 0, 4, 3, 172]
abbrev dktJ5_containsKey_0 : List UInt8 := dkwJ5_containsKey_0 ++ []
theorem dksJ5_containsKey_0 : cJ5_containsKey.data.toList.drop 0 = dktJ5_containsKey_0 := by decide +kernel
theorem dJ5_containsKey_0 : decode cJ5_containsKey 0 = .ok (.aload_n 0, 1) := dk_42 (dk_at dksJ5_containsKey_0 0 rfl rfl)
theorem dJ5_containsKey_1 : decode cJ5_containsKey 1 = .ok (.aload_n 1, 1) := dk_43 (dk_at dksJ5_containsKey_0 1 rfl rfl)
theorem dJ5_containsKey_2 : decode cJ5_containsKey 2 = .ok (.invokevirtual 50, 3) := dk_182 0 50 (dk_at dksJ5_containsKey_0 2 rfl rfl)
theorem dJ5_containsKey_5 : decode cJ5_containsKey 5 = .ok (.ifnull 7, 3) := dk_198 0 7 (dk_at dksJ5_containsKey_0 5 rfl rfl)
theorem dJ5_containsKey_8 : decode cJ5_containsKey 8 = .ok (.iconst 1, 1) := dk_4 (dk_at dksJ5_containsKey_0 8 rfl rfl)
theorem dJ5_containsKey_9 : decode cJ5_containsKey 9 = .ok (.goto 4, 3) := dk_167 0 4 (dk_at dksJ5_containsKey_0 9 rfl rfl)
theorem dJ5_containsKey_12 : decode cJ5_containsKey 12 = .ok (.iconst 0, 1) := dk_3 (dk_at dksJ5_containsKey_0 12 rfl rfl)
theorem dJ5_containsKey_13 : decode cJ5_containsKey 13 = .ok (.ireturn, 1) := dk_172 (dk_at dksJ5_containsKey_0 13 rfl rfl)
theorem md_J5_containsKey : xMd yJ5_containsKey cJ5_containsKey 2 (Option.some Jvm.ClassFile.FieldType.boolean) 1 := ⟨q902, q132, by decide, by decide +kernel, by decide +kernel, by decide +kernel⟩
def f_J5_containsKey (p0 : PH) (a0 : Nat) (a1 : Option Nat) : Option (xO × PH) :=
  (xcl1 p0 a0 15 (xcR (f_J5_getEntry p0 a0 a1) fun x2 p1 =>
  (xnul x2 (if vp_nar .boolean 0 = 0 then rI 0 p1 else none) fun b3 =>
  (if vp_nar .boolean 1 = 1 then rI 1 p1 else none))))
theorem rc_J5_containsKey {p0 : PH} {a0 : Nat} {a1 : Option Nat} : ∀ z, f_J5_containsKey p0 a0 a1 = some z → xco p0 a0 = some 15 := fun z h => xcl1_some h
theorem f_J5_containsKey_ok {G : xG} (hO : xOK G) (p0 : PH) (a0 : Nat) (a1 : Option Nat) : CT G 6 yJ5_containsKey cJ5_containsKey 2 (Option.some Jvm.ClassFile.FieldType.boolean) [.ref a0, va_rf a1] p0 (f_J5_containsKey p0 a0 a1) := by
  refine CT_of hO (by decide +kernel) (by decide +kernel) (lg_slen _ (by simp only [List.map, xcat]; exact Nat.le_of_ble_eq_true rfl)) ?_
  rw [show lv_args 0 [.ref a0, va_rf a1] = [(0, .ref a0), (1, va_rf a1)] from by simp only [lv_args, xcat] <;> rfl]
  show X G "java/util/TreeMap" "containsKey" cJ5_containsKey 2 (Option.some Jvm.ClassFile.FieldType.boolean) 6 0 [(0, .ref a0), (1, va_rf a1)] [] p0 (f_J5_containsKey p0 a0 a1)
  refine x_cl1 (fun e0 => ?_)
  refine x_aload_nr 0 dJ5_containsKey_0 rfl rfl (n := 1) rfl ?_
  refine x_aload_n 1 dJ5_containsKey_1 rfl rfl (n := 2) rfl ?_
  refine x_callV_R [va_rf a1] [] (f_J5_getEntry_ok hO p0 a0 a1) rc_J5_getEntry md_J5_getEntry rfl q903 q904 q905 dJ5_containsKey_2 rfl rfl (by decide) (Nat.le_of_ble_eq_true rfl) (n := 5) rfl (fun x2 p1 => ?_)
  refine x_ifnull dJ5_containsKey_5 (t := 12) (by decide) (n := 8) rfl (fun e => ?_) (fun b3 e => ?_)
  · subst e
    refine x_iconst 0 dJ5_containsKey_12 rfl (n := 13) rfl ?_
    exact x_nreturn rfl dJ5_containsKey_13
  · subst e
    refine x_iconst 1 dJ5_containsKey_8 rfl (n := 9) rfl ?_
    refine x_goto dJ5_containsKey_9 (n := 13) (by decide) ?_
    exact x_nreturn rfl dJ5_containsKey_13
abbrev cX3_newName : ByteArray := prog_10_method_11_code
def yX3_newName : MethodName := ⟨RX3, "newName", "()Ljava/lang/String;"⟩
def dkwX3_newName_1 : List UInt8 := [182, 0, 76, 42, 182, 0, 105, 43, 176]
abbrev dktX3_newName_1 : List UInt8 := dkwX3_newName_1 ++ []
def dkwX3_newName_0 : List UInt8 := [42, 182, 0, 108, 76, 42, 42, 180, 0, 25, 43, 182, 0, 111, 154, 0, 7, 4, 167, 0, 4, 3, 6]
abbrev dktX3_newName_0 : List UInt8 := dkwX3_newName_0 ++ dktX3_newName_1
theorem dksX3_newName_0 : cX3_newName.data.toList.drop 0 = dktX3_newName_0 := by decide +kernel
theorem dksX3_newName_1 : cX3_newName.data.toList.drop 23 = dktX3_newName_1 := dk_seg dksX3_newName_0 23 rfl rfl
theorem dX3_newName_0 : decode cX3_newName 0 = .ok (.aload_n 0, 1) := dk_42 (dk_at dksX3_newName_0 0 rfl rfl)
theorem dX3_newName_1 : decode cX3_newName 1 = .ok (.invokevirtual 108, 3) := dk_182 0 108 (dk_at dksX3_newName_0 1 rfl rfl)
theorem dX3_newName_4 : decode cX3_newName 4 = .ok (.astore_n 1, 1) := dk_76 (dk_at dksX3_newName_0 4 rfl rfl)
theorem dX3_newName_5 : decode cX3_newName 5 = .ok (.aload_n 0, 1) := dk_42 (dk_at dksX3_newName_0 5 rfl rfl)
theorem dX3_newName_6 : decode cX3_newName 6 = .ok (.aload_n 0, 1) := dk_42 (dk_at dksX3_newName_0 6 rfl rfl)
theorem dX3_newName_7 : decode cX3_newName 7 = .ok (.getfield 25, 3) := dk_180 0 25 (dk_at dksX3_newName_0 7 rfl rfl)
theorem dX3_newName_10 : decode cX3_newName 10 = .ok (.aload_n 1, 1) := dk_43 (dk_at dksX3_newName_0 10 rfl rfl)
theorem dX3_newName_11 : decode cX3_newName 11 = .ok (.invokevirtual 111, 3) := dk_182 0 111 (dk_at dksX3_newName_0 11 rfl rfl)
theorem dX3_newName_14 : decode cX3_newName 14 = .ok (.ifCond .ne 7, 3) := dk_154 0 7 (dk_at dksX3_newName_0 14 rfl rfl)
theorem dX3_newName_17 : decode cX3_newName 17 = .ok (.iconst 1, 1) := dk_4 (dk_at dksX3_newName_0 17 rfl rfl)
theorem dX3_newName_18 : decode cX3_newName 18 = .ok (.goto 4, 3) := dk_167 0 4 (dk_at dksX3_newName_0 18 rfl rfl)
theorem dX3_newName_21 : decode cX3_newName 21 = .ok (.iconst 0, 1) := dk_3 (dk_at dksX3_newName_0 21 rfl rfl)
theorem dX3_newName_22 : decode cX3_newName 22 = .ok (.iconst 3, 1) := dk_6 (dk_at dksX3_newName_0 22 rfl rfl)
theorem dX3_newName_23 : decode cX3_newName 23 = .ok (.invokevirtual 76, 3) := dk_182 0 76 (dk_at dksX3_newName_1 0 rfl rfl)
theorem dX3_newName_26 : decode cX3_newName 26 = .ok (.aload_n 0, 1) := dk_42 (dk_at dksX3_newName_1 3 rfl rfl)
theorem dX3_newName_27 : decode cX3_newName 27 = .ok (.invokevirtual 105, 3) := dk_182 0 105 (dk_at dksX3_newName_1 4 rfl rfl)
theorem dX3_newName_30 : decode cX3_newName 30 = .ok (.aload_n 1, 1) := dk_43 (dk_at dksX3_newName_1 7 rfl rfl)
theorem dX3_newName_31 : decode cX3_newName 31 = .ok (.areturn, 1) := dk_176 (dk_at dksX3_newName_1 8 rfl rfl)
theorem md_X3_newName : xMd yX3_newName cX3_newName 2 (Option.some (Jvm.ClassFile.FieldType.object "java/lang/String")) 0 := ⟨q822, q127, by decide, by decide +kernel, by decide +kernel, by decide +kernel⟩
def f_X3_newName_22 (a0 : Nat)  (v1 : Option Nat) (w1 : Int32) (p0 : PH) : Option (xO × PH) :=
  (xtV (f_X3_need p0 a0 w1 3) (fun p7 =>
  (xcV (f_X3_go p7 a0 ) fun p8 =>
  (rR v1 p8))) rT)
def f_X3_newName (p0 : PH) (a0 : Nat) : Option (xO × PH) :=
  (xcl1 p0 a0 2 (xtR (f_X3_name p0 a0 ) (fun x2 p1 =>
  (xgR p1 a0 2 2 fun x3 =>
  (xnul x3 none fun b4 =>
  (xcI (f_J5_containsKey p1 b4 x2) fun x6 p5 =>
  (if x6 = 0 then
  (f_X3_newName_22 a0 x2 1 p5) else
  (f_X3_newName_22 a0 x2 0 p5)))))) rT))
theorem rc_X3_newName {p0 : PH} {a0 : Nat} : ∀ z, f_X3_newName p0 a0 = some z → xco p0 a0 = some 2 := fun z h => xcl1_some h
theorem f_X3_newName_22_ok {G : xG} (hO : xOK G) (a0 : Nat)  (v1 : Option Nat) (w1 : Int32) (p0 : PH) : X G "ForestLegs$Reader" "newName" cX3_newName 2 (Option.some (Jvm.ClassFile.FieldType.object "java/lang/String")) 8 22 [(0, .ref a0), (1, va_rf v1)] [.int w1, .ref a0] p0 (f_X3_newName_22 a0 v1 w1 p0) := by
  unfold f_X3_newName_22
  refine x_iconst 3 dX3_newName_22 rfl (n := 23) rfl ?_
  refine x_callVT_V [.int w1, .int 3] [] (f_X3_need_ok hO p0 a0 w1 3) rc_X3_need md_X3_need rfl q499 q501 qs7 dX3_newName_23 rfl rfl (by decide) (Nat.le_of_ble_eq_true rfl) (n := 26) rfl (fun p7 => ?_) (fun q P1 => xt_out (by decide +kernel))
  refine x_aload_nr 0 dX3_newName_26 rfl rfl (n := 27) rfl ?_
  refine x_callV_V [] [] (f_X3_go_ok hO p7 a0 ) rc_X3_go md_X3_go rfl q387 q389 qs1 dX3_newName_27 rfl rfl (by decide) (Nat.le_of_ble_eq_true rfl) (n := 30) rfl (fun p8 => ?_)
  refine x_aload_n 1 dX3_newName_30 rfl rfl (n := 31) rfl ?_
  exact x_areturn (x := v1) (Or.inl ⟨_, rfl⟩) dX3_newName_31
theorem f_X3_newName_ok {G : xG} (hO : xOK G) (p0 : PH) (a0 : Nat) : CT G 8 yX3_newName cX3_newName 2 (Option.some (Jvm.ClassFile.FieldType.object "java/lang/String")) [.ref a0] p0 (f_X3_newName p0 a0) := by
  refine CT_of hO (by decide +kernel) (by decide +kernel) (Nat.le_of_ble_eq_true rfl) ?_
  show X G "ForestLegs$Reader" "newName" cX3_newName 2 (Option.some (Jvm.ClassFile.FieldType.object "java/lang/String")) 8 0 [(0, .ref a0)] [] p0 (f_X3_newName p0 a0)
  refine x_cl1 (fun e0 => ?_)
  refine x_aload_nr 0 dX3_newName_0 rfl rfl (n := 1) rfl ?_
  refine x_callVT_R [] [] (f_X3_name_ok hO p0 a0 ) rc_X3_name md_X3_name rfl q823 q825 qs11 dX3_newName_1 rfl rfl (by decide) (Nat.le_of_ble_eq_true rfl) (n := 4) rfl (fun x2 p1 => ?_) (fun q P1 => xt_out (by decide +kernel))
  refine x_astore_n [(1, va_rf x2), (0, .ref a0)] dX3_newName_4 rfl (by decide) rfl (n := 5) rfl ?_
  refine x_aload_nr 1 dX3_newName_5 rfl rfl (n := 6) rfl ?_
  refine x_aload_nr 1 dX3_newName_6 rfl rfl (n := 7) rfl ?_
  refine x_getR fl_X3_25 dX3_newName_7 (n := 10) rfl (fun x3 => ?_)
  refine x_aload_n 0 dX3_newName_10 rfl rfl (n := 11) rfl ?_
  refine x_sm (fun b4 e => ?_)
  subst e
  refine x_callV_I [va_rf x2] [.ref a0] (f_J5_containsKey_ok hO p1 b4 x2) rc_J5_containsKey md_J5_containsKey rfl q899 q900 q901 dX3_newName_11 rfl rfl (by decide) (Nat.le_of_ble_eq_true rfl) (n := 14) rfl (fun x6 p5 => ?_)
  refine x_if_ne dX3_newName_14 (t := 21) (by decide) (n := 17) rfl (fun _ => ?_) (fun _ => ?_)
  · refine x_iconst 0 dX3_newName_21 rfl (n := 22) rfl ?_
    refine x_sub [1, 0] [(0, .ref a0), (1, va_rf x2)] rfl ?_
    exact f_X3_newName_22_ok hO a0 x2 0 p5
  · refine x_iconst 1 dX3_newName_17 rfl (n := 18) rfl ?_
    refine x_goto dX3_newName_18 (n := 22) (by decide) ?_
    refine x_sub [1, 0] [(0, .ref a0), (1, va_rf x2)] rfl ?_
    exact f_X3_newName_22_ok hO a0 x2 1 p5
abbrev cX6_init : ByteArray := prog_4_method_1_code
def yX6_init : MethodName := ⟨RX6, "<init>", "(Ljava/lang/String;)V"⟩
def dkwX6_init_0 : List UInt8 := [42, 183, 0, 1, 42, 187, 0, 7, 89, 7, 183, 0, 9, 181, 0, 12, 42, 43, 181, 0, 18, 177]
abbrev dktX6_init_0 : List UInt8 := dkwX6_init_0 ++ []
theorem dksX6_init_0 : cX6_init.data.toList.drop 0 = dktX6_init_0 := by decide +kernel
theorem dX6_init_0 : decode cX6_init 0 = .ok (.aload_n 0, 1) := dk_42 (dk_at dksX6_init_0 0 rfl rfl)
theorem dX6_init_1 : decode cX6_init 1 = .ok (.invokespecial 1, 3) := dk_183 0 1 (dk_at dksX6_init_0 1 rfl rfl)
theorem dX6_init_4 : decode cX6_init 4 = .ok (.aload_n 0, 1) := dk_42 (dk_at dksX6_init_0 4 rfl rfl)
theorem dX6_init_5 : decode cX6_init 5 = .ok (.new 7, 3) := dk_187 0 7 (dk_at dksX6_init_0 5 rfl rfl)
theorem dX6_init_8 : decode cX6_init 8 = .ok (.dup, 1) := dk_89 (dk_at dksX6_init_0 8 rfl rfl)
theorem dX6_init_9 : decode cX6_init 9 = .ok (.iconst 4, 1) := dk_7 (dk_at dksX6_init_0 9 rfl rfl)
theorem dX6_init_10 : decode cX6_init 10 = .ok (.invokespecial 9, 3) := dk_183 0 9 (dk_at dksX6_init_0 10 rfl rfl)
theorem dX6_init_13 : decode cX6_init 13 = .ok (.putfield 12, 3) := dk_181 0 12 (dk_at dksX6_init_0 13 rfl rfl)
theorem dX6_init_16 : decode cX6_init 16 = .ok (.aload_n 0, 1) := dk_42 (dk_at dksX6_init_0 16 rfl rfl)
theorem dX6_init_17 : decode cX6_init 17 = .ok (.aload_n 1, 1) := dk_43 (dk_at dksX6_init_0 17 rfl rfl)
theorem dX6_init_18 : decode cX6_init 18 = .ok (.putfield 18, 3) := dk_181 0 18 (dk_at dksX6_init_0 18 rfl rfl)
theorem dX6_init_21 : decode cX6_init 21 = .ok (.return_, 1) := dk_177 (dk_at dksX6_init_0 21 rfl rfl)
theorem md_X6_init : xMd yX6_init cX6_init 2 (Option.none : Option Jvm.ClassFile.FieldType) 1 := ⟨q1179, q147, by decide, by decide +kernel, by decide +kernel, by decide +kernel⟩
def f_X6_init (p0 : PH) (a0 : Nat) (a1 : Option Nat) : Option (xO × PH) :=
  (xnew p0 14 [.int 0, .null, .int 0] fun b1 p2 =>
  (xcV (f_J3_init p2 b1 4) fun p3 =>
  (xpF p3 a0 5 1 (.ref b1) fun p4 =>
  (xpF p4 a0 5 0 (va_rf a1) fun p5 =>
  (rV p5)))))
theorem f_X6_init_ok {G : xG} (hO : xOK G) (p0 : PH) (a0 : Nat) (a1 : Option Nat) : CT G 4 yX6_init cX6_init 2 (Option.none : Option Jvm.ClassFile.FieldType) [.ref a0, va_rf a1] p0 (f_X6_init p0 a0 a1) := by
  refine CT_of hO (by decide +kernel) (by decide +kernel) (lg_slen _ (by simp only [List.map, xcat]; exact Nat.le_of_ble_eq_true rfl)) ?_
  rw [show lv_args 0 [.ref a0, va_rf a1] = [(0, .ref a0), (1, va_rf a1)] from by simp only [lv_args, xcat] <;> rfl]
  show X G "ForestLegs$Course" "<init>" cX6_init 2 (Option.none : Option Jvm.ClassFile.FieldType) 4 0 [(0, .ref a0), (1, va_rf a1)] [] p0 (f_X6_init p0 a0 a1)
  refine x_aload_nr 0 dX6_init_0 rfl rfl (n := 1) rfl ?_
  refine x_objInit q1180 q186 q187 dX6_init_1 (by decide) (Nat.le_of_ble_eq_true rfl) (n := 4) rfl ?_
  refine x_aload_nr 0 dX6_init_4 rfl rfl (n := 5) rfl ?_
  refine x_new cl_14 (by decide) q1181 q267 q130 rfl dX6_init_5 (n := 8) rfl (fun b1 p2 => ?_)
  refine x_dup dX6_init_8 rfl (n := 9) rfl ?_
  refine x_iconst 4 dX6_init_9 rfl (n := 10) rfl ?_
  refine x_callI_V [.int 4] [.ref b1, .ref a0] (f_J3_init_ok hO p2 b1 4) md_J3_init rfl q1182 q269 dX6_init_10 rfl rfl (by decide) (Nat.le_of_ble_eq_true rfl) (n := 13) rfl (fun p3 => ?_)
  refine x_pF (pl_X6_12 _ (xfit_o (some b1))) dX6_init_13 (n := 16) rfl (fun p4 => ?_)
  refine x_aload_nr 0 dX6_init_16 rfl rfl (n := 17) rfl ?_
  refine x_aload_n 1 dX6_init_17 rfl rfl (n := 18) rfl ?_
  refine x_pF (pl_X6_18 _ (xfit_o (a1))) dX6_init_18 (n := 21) rfl (fun p5 => ?_)
  exact x_return dX6_init_21
abbrev cX6_size : ByteArray := prog_4_method_3_code
def yX6_size : MethodName := ⟨RX6, "size", "()I"⟩
def dkwX6_size_0 : List UInt8 := [42, 180, 0, 12, 185, 0, 31, 1, 0, 172]
abbrev dktX6_size_0 : List UInt8 := dkwX6_size_0 ++ []
theorem dksX6_size_0 : cX6_size.data.toList.drop 0 = dktX6_size_0 := by decide +kernel
theorem dX6_size_0 : decode cX6_size 0 = .ok (.aload_n 0, 1) := dk_42 (dk_at dksX6_size_0 0 rfl rfl)
theorem dX6_size_1 : decode cX6_size 1 = .ok (.getfield 12, 3) := dk_180 0 12 (dk_at dksX6_size_0 1 rfl rfl)
theorem dX6_size_4 : decode cX6_size 4 = .ok (.invokeinterface 31 1, 5) := by decide +kernel
theorem dX6_size_9 : decode cX6_size 9 = .ok (.ireturn, 1) := dk_172 (dk_at dksX6_size_0 9 rfl rfl)
theorem md_X6_size : xMd yX6_size cX6_size 1 (Option.some Jvm.ClassFile.FieldType.int) 0 := ⟨q1201, q147, by decide, by decide +kernel, by decide +kernel, by decide +kernel⟩
def f_X6_size (p0 : PH) (a0 : Nat) : Option (xO × PH) :=
  (xcl1 p0 a0 5 (xgR p0 a0 5 1 fun x1 =>
  (xnul x1 none fun b2 =>
  (xcI (f_J3_size p0 b2 ) fun x4 p3 =>
  (rI x4 p3)))))
theorem rc_X6_size {p0 : PH} {a0 : Nat} : ∀ z, f_X6_size p0 a0 = some z → xco p0 a0 = some 5 := fun z h => xcl1_some h
theorem f_X6_size_ok {G : xG} (hO : xOK G) (p0 : PH) (a0 : Nat) : CT G 1 yX6_size cX6_size 1 (Option.some Jvm.ClassFile.FieldType.int) [.ref a0] p0 (f_X6_size p0 a0) := by
  refine CT_of hO (by decide +kernel) (by decide +kernel) (Nat.le_of_ble_eq_true rfl) ?_
  show X G "ForestLegs$Course" "size" cX6_size 1 (Option.some Jvm.ClassFile.FieldType.int) 1 0 [(0, .ref a0)] [] p0 (f_X6_size p0 a0)
  refine x_cl1 (fun e0 => ?_)
  refine x_aload_nr 0 dX6_size_0 rfl rfl (n := 1) rfl ?_
  refine x_getR fl_X6_12 dX6_size_1 (n := 4) rfl (fun x1 => ?_)
  refine x_sm (fun b2 e => ?_)
  subst e
  refine x_callF_I [] [] (f_J3_size_ok hO p0 b2 ) rc_J3_size md_J3_size rfl q1203 fc_java_util_ArrayList_java_util_List_size_0_I dX6_size_4 rfl rfl (by decide) (Nat.le_of_ble_eq_true rfl) (n := 9) rfl (fun x4 p3 => ?_)
  exact x_ireturn dX6_size_9
abbrev cJ10_checkIndex : ByteArray := prog_88_method_11_code
def yJ10_checkIndex : MethodName := ⟨RJ10, "checkIndex", "(IILjava/util/function/BiFunction;)I"⟩
def dkwJ10_checkIndex_0 : List UInt8 := [26, 155, 0, 8, 26, 27, 161, 0, 10, 44, 26, 27, 184, 0, 95, 191, 26, 172]
abbrev dktJ10_checkIndex_0 : List UInt8 := dkwJ10_checkIndex_0 ++ []
theorem dksJ10_checkIndex_0 : cJ10_checkIndex.data.toList.drop 0 = dktJ10_checkIndex_0 := by decide +kernel
theorem dJ10_checkIndex_0 : decode cJ10_checkIndex 0 = .ok (.iload_n 0, 1) := dk_26 (dk_at dksJ10_checkIndex_0 0 rfl rfl)
theorem dJ10_checkIndex_1 : decode cJ10_checkIndex 1 = .ok (.ifCond .lt 8, 3) := dk_155 0 8 (dk_at dksJ10_checkIndex_0 1 rfl rfl)
theorem dJ10_checkIndex_4 : decode cJ10_checkIndex 4 = .ok (.iload_n 0, 1) := dk_26 (dk_at dksJ10_checkIndex_0 4 rfl rfl)
theorem dJ10_checkIndex_5 : decode cJ10_checkIndex 5 = .ok (.iload_n 1, 1) := dk_27 (dk_at dksJ10_checkIndex_0 5 rfl rfl)
theorem dJ10_checkIndex_6 : decode cJ10_checkIndex 6 = .ok (.if_icmp .lt 10, 3) := dk_161 0 10 (dk_at dksJ10_checkIndex_0 6 rfl rfl)
theorem dJ10_checkIndex_9 : decode cJ10_checkIndex 9 = .ok (.aload_n 2, 1) := dk_44 (dk_at dksJ10_checkIndex_0 9 rfl rfl)
theorem dJ10_checkIndex_10 : decode cJ10_checkIndex 10 = .ok (.iload_n 0, 1) := dk_26 (dk_at dksJ10_checkIndex_0 10 rfl rfl)
theorem dJ10_checkIndex_11 : decode cJ10_checkIndex 11 = .ok (.iload_n 1, 1) := dk_27 (dk_at dksJ10_checkIndex_0 11 rfl rfl)
theorem dJ10_checkIndex_12 : decode cJ10_checkIndex 12 = .ok (.invokestatic 95, 3) := dk_184 0 95 (dk_at dksJ10_checkIndex_0 12 rfl rfl)
theorem dJ10_checkIndex_15 : decode cJ10_checkIndex 15 = .ok (.athrow, 1) := dk_191 (dk_at dksJ10_checkIndex_0 15 rfl rfl)
theorem dJ10_checkIndex_16 : decode cJ10_checkIndex 16 = .ok (.iload_n 0, 1) := dk_26 (dk_at dksJ10_checkIndex_0 16 rfl rfl)
theorem dJ10_checkIndex_17 : decode cJ10_checkIndex 17 = .ok (.ireturn, 1) := dk_172 (dk_at dksJ10_checkIndex_0 17 rfl rfl)
theorem md_J10_checkIndex : xMd yJ10_checkIndex cJ10_checkIndex 3 (Option.some Jvm.ClassFile.FieldType.int) 3 := ⟨q682, q137, by decide, by decide +kernel, by decide +kernel, by decide +kernel⟩
def f_J10_checkIndex_9   (v0 : Int32) (v1 : Int32) (v2 : Option Nat) (p0 : PH) : Option (xO × PH) :=
  none
def f_J10_checkIndex (p0 : PH) (a0 : Int32) (a1 : Int32) (a2 : Option Nat) : Option (xO × PH) :=
  (if a0 < 0 then
  (f_J10_checkIndex_9 a0 a1 a2 p0) else
  (if a0 < a1 then
  (rI a0 p0) else
  (f_J10_checkIndex_9 a0 a1 a2 p0)))
theorem f_J10_checkIndex_9_ok {G : xG} (hO : xOK G)   (v0 : Int32) (v1 : Int32) (v2 : Option Nat) (p0 : PH) : X G "jdk/internal/util/Preconditions" "checkIndex" cJ10_checkIndex 3 (Option.some Jvm.ClassFile.FieldType.int) 0 9 [(0, .int v0), (1, .int v1), (2, va_rf v2)] [] p0 (f_J10_checkIndex_9 v0 v1 v2 p0) := by
  unfold f_J10_checkIndex_9
  refine x_aload_n 2 dJ10_checkIndex_9 rfl rfl (n := 10) rfl ?_
  refine x_iload_n 0 dJ10_checkIndex_10 rfl rfl (n := 11) rfl ?_
  refine x_iload_n 1 dJ10_checkIndex_11 rfl rfl (n := 12) rfl ?_
  exact x_no
theorem f_J10_checkIndex_ok {G : xG} (hO : xOK G) (p0 : PH) (a0 : Int32) (a1 : Int32) (a2 : Option Nat) : CT G 0 yJ10_checkIndex cJ10_checkIndex 3 (Option.some Jvm.ClassFile.FieldType.int) [.int a0, .int a1, va_rf a2] p0 (f_J10_checkIndex p0 a0 a1 a2) := by
  refine CT_of hO (by decide +kernel) (by decide +kernel) (lg_slen _ (by simp only [List.map, xcat]; exact Nat.le_of_ble_eq_true rfl)) ?_
  rw [show lv_args 0 [.int a0, .int a1, va_rf a2] = [(0, .int a0), (1, .int a1), (2, va_rf a2)] from by simp only [lv_args, xcat] <;> rfl]
  show X G "jdk/internal/util/Preconditions" "checkIndex" cJ10_checkIndex 3 (Option.some Jvm.ClassFile.FieldType.int) 0 0 [(0, .int a0), (1, .int a1), (2, va_rf a2)] [] p0 (f_J10_checkIndex p0 a0 a1 a2)
  refine x_iload_n 0 dJ10_checkIndex_0 rfl rfl (n := 1) rfl ?_
  refine x_if_lt dJ10_checkIndex_1 (t := 9) (by decide) (n := 4) rfl (fun _ => ?_) (fun _ => ?_)
  · exact f_J10_checkIndex_9_ok hO a0 a1 a2 p0
  · refine x_iload_n 0 dJ10_checkIndex_4 rfl rfl (n := 5) rfl ?_
    refine x_iload_n 1 dJ10_checkIndex_5 rfl rfl (n := 6) rfl ?_
    refine x_icmp_lt dJ10_checkIndex_6 (t := 16) (by decide) (n := 9) rfl (fun _ => ?_) (fun _ => ?_)
    · refine x_iload_n 0 dJ10_checkIndex_16 rfl rfl (n := 17) rfl ?_
      exact x_ireturn dJ10_checkIndex_17
    · exact f_J10_checkIndex_9_ok hO a0 a1 a2 p0
abbrev cJ20_checkIndex : ByteArray := prog_65_method_17_code
def yJ20_checkIndex : MethodName := ⟨RJ20, "checkIndex", "(II)I"⟩
def dkwJ20_checkIndex_0 : List UInt8 := [26, 27, 1, 184, 0, 105, 172]
abbrev dktJ20_checkIndex_0 : List UInt8 := dkwJ20_checkIndex_0 ++ []
theorem dksJ20_checkIndex_0 : cJ20_checkIndex.data.toList.drop 0 = dktJ20_checkIndex_0 := by decide +kernel
theorem dJ20_checkIndex_0 : decode cJ20_checkIndex 0 = .ok (.iload_n 0, 1) := dk_26 (dk_at dksJ20_checkIndex_0 0 rfl rfl)
theorem dJ20_checkIndex_1 : decode cJ20_checkIndex 1 = .ok (.iload_n 1, 1) := dk_27 (dk_at dksJ20_checkIndex_0 1 rfl rfl)
theorem dJ20_checkIndex_2 : decode cJ20_checkIndex 2 = .ok (.aconst_null, 1) := dk_1 (dk_at dksJ20_checkIndex_0 2 rfl rfl)
theorem dJ20_checkIndex_3 : decode cJ20_checkIndex 3 = .ok (.invokestatic 105, 3) := dk_184 0 105 (dk_at dksJ20_checkIndex_0 3 rfl rfl)
theorem dJ20_checkIndex_6 : decode cJ20_checkIndex 6 = .ok (.ireturn, 1) := dk_172 (dk_at dksJ20_checkIndex_0 6 rfl rfl)
theorem md_J20_checkIndex : xMd yJ20_checkIndex cJ20_checkIndex 2 (Option.some Jvm.ClassFile.FieldType.int) 2 := ⟨q955, q150, by decide, by decide +kernel, by decide +kernel, by decide +kernel⟩
def f_J20_checkIndex (p0 : PH) (a0 : Int32) (a1 : Int32) : Option (xO × PH) :=
  (xcI (f_J10_checkIndex p0 a0 a1 none) fun x2 p1 =>
  (rI x2 p1))
theorem f_J20_checkIndex_ok {G : xG} (hO : xOK G) (p0 : PH) (a0 : Int32) (a1 : Int32) : CT G 1 yJ20_checkIndex cJ20_checkIndex 2 (Option.some Jvm.ClassFile.FieldType.int) [.int a0, .int a1] p0 (f_J20_checkIndex p0 a0 a1) := by
  refine CT_of hO (by decide +kernel) (by decide +kernel) (Nat.le_of_ble_eq_true rfl) ?_
  show X G "java/util/Objects" "checkIndex" cJ20_checkIndex 2 (Option.some Jvm.ClassFile.FieldType.int) 1 0 [(0, .int a0), (1, .int a1)] [] p0 (f_J20_checkIndex p0 a0 a1)
  refine x_iload_n 0 dJ20_checkIndex_0 rfl rfl (n := 1) rfl ?_
  refine x_iload_n 1 dJ20_checkIndex_1 rfl rfl (n := 2) rfl ?_
  refine x_null dJ20_checkIndex_2 (n := 3) rfl ?_
  refine x_callS_I [.int a0, .int a1, va_rf none] [] (f_J10_checkIndex_ok hO p0 a0 a1 none) md_J10_checkIndex q956 q681 dJ20_checkIndex_3 rfl rfl (by decide) (Nat.le_of_ble_eq_true rfl) (n := 6) rfl (fun x2 p1 => ?_)
  exact x_ireturn dJ20_checkIndex_6
abbrev cJ3_elementData : ByteArray := prog_47_method_18_code
def yJ3_elementData : MethodName := ⟨RJ3, "elementData", "(I)Ljava/lang/Object;"⟩
def dkwJ3_elementData_0 : List UInt8 := [42, 180, 0, 9, 27, 50, 176]
abbrev dktJ3_elementData_0 : List UInt8 := dkwJ3_elementData_0 ++ []
theorem dksJ3_elementData_0 : cJ3_elementData.data.toList.drop 0 = dktJ3_elementData_0 := by decide +kernel
theorem dJ3_elementData_0 : decode cJ3_elementData 0 = .ok (.aload_n 0, 1) := dk_42 (dk_at dksJ3_elementData_0 0 rfl rfl)
theorem dJ3_elementData_1 : decode cJ3_elementData 1 = .ok (.getfield 9, 3) := dk_180 0 9 (dk_at dksJ3_elementData_0 1 rfl rfl)
theorem dJ3_elementData_4 : decode cJ3_elementData 4 = .ok (.iload_n 1, 1) := dk_27 (dk_at dksJ3_elementData_0 4 rfl rfl)
theorem dJ3_elementData_5 : decode cJ3_elementData 5 = .ok (.aaload, 1) := dk_50 (dk_at dksJ3_elementData_0 5 rfl rfl)
theorem dJ3_elementData_6 : decode cJ3_elementData 6 = .ok (.areturn, 1) := dk_176 (dk_at dksJ3_elementData_0 6 rfl rfl)
theorem md_J3_elementData : xMd yJ3_elementData cJ3_elementData 2 (Option.some (Jvm.ClassFile.FieldType.object "java/lang/Object")) 1 := ⟨q960, q130, by decide, by decide +kernel, by decide +kernel, by decide +kernel⟩
def f_J3_elementData (p0 : PH) (a0 : Nat) (a1 : Int32) : Option (xO × PH) :=
  (xcl1 p0 a0 14 (xgR p0 a0 14 1 fun x1 =>
  (xnul x1 none fun b2 =>
  (xaR p0 b2 4 a1 fun x3 =>
  (rR x3 p0)))))
theorem rc_J3_elementData {p0 : PH} {a0 : Nat} {a1 : Int32} : ∀ z, f_J3_elementData p0 a0 a1 = some z → xco p0 a0 = some 14 := fun z h => xcl1_some h
theorem f_J3_elementData_ok {G : xG} (hO : xOK G) (p0 : PH) (a0 : Nat) (a1 : Int32) : CT G 0 yJ3_elementData cJ3_elementData 2 (Option.some (Jvm.ClassFile.FieldType.object "java/lang/Object")) [.ref a0, .int a1] p0 (f_J3_elementData p0 a0 a1) := by
  refine CT_of hO (by decide +kernel) (by decide +kernel) (Nat.le_of_ble_eq_true rfl) ?_
  show X G "java/util/ArrayList" "elementData" cJ3_elementData 2 (Option.some (Jvm.ClassFile.FieldType.object "java/lang/Object")) 0 0 [(0, .ref a0), (1, .int a1)] [] p0 (f_J3_elementData p0 a0 a1)
  refine x_cl1 (fun e0 => ?_)
  refine x_aload_nr 0 dJ3_elementData_0 rfl rfl (n := 1) rfl ?_
  refine x_getR fl_J3_9 dJ3_elementData_1 (n := 4) rfl (fun x1 => ?_)
  refine x_iload_n 1 dJ3_elementData_4 rfl rfl (n := 5) rfl ?_
  refine x_sm (fun b2 e => ?_)
  subst e
  refine x_aald (t := 4) rfl rfl dJ3_elementData_5 (n := 6) rfl (fun x3 => ?_)
  exact x_areturn (x := x3) (Or.inl ⟨_, rfl⟩) dJ3_elementData_6
abbrev cJ3_get : ByteArray := prog_47_method_20_code
def yJ3_get : MethodName := ⟨RJ3, "get", "(I)Ljava/lang/Object;"⟩
def dkwJ3_get_0 : List UInt8 := [27, 42, 180, 0, 48, 184, 0, 118, 87, 42, 27, 182, 0, 123, 176]
abbrev dktJ3_get_0 : List UInt8 := dkwJ3_get_0 ++ []
theorem dksJ3_get_0 : cJ3_get.data.toList.drop 0 = dktJ3_get_0 := by decide +kernel
theorem dJ3_get_0 : decode cJ3_get 0 = .ok (.iload_n 1, 1) := dk_27 (dk_at dksJ3_get_0 0 rfl rfl)
theorem dJ3_get_1 : decode cJ3_get 1 = .ok (.aload_n 0, 1) := dk_42 (dk_at dksJ3_get_0 1 rfl rfl)
theorem dJ3_get_2 : decode cJ3_get 2 = .ok (.getfield 48, 3) := dk_180 0 48 (dk_at dksJ3_get_0 2 rfl rfl)
theorem dJ3_get_5 : decode cJ3_get 5 = .ok (.invokestatic 118, 3) := dk_184 0 118 (dk_at dksJ3_get_0 5 rfl rfl)
theorem dJ3_get_8 : decode cJ3_get 8 = .ok (.pop, 1) := dk_87 (dk_at dksJ3_get_0 8 rfl rfl)
theorem dJ3_get_9 : decode cJ3_get 9 = .ok (.aload_n 0, 1) := dk_42 (dk_at dksJ3_get_0 9 rfl rfl)
theorem dJ3_get_10 : decode cJ3_get 10 = .ok (.iload_n 1, 1) := dk_27 (dk_at dksJ3_get_0 10 rfl rfl)
theorem dJ3_get_11 : decode cJ3_get 11 = .ok (.invokevirtual 123, 3) := dk_182 0 123 (dk_at dksJ3_get_0 11 rfl rfl)
theorem dJ3_get_14 : decode cJ3_get 14 = .ok (.areturn, 1) := dk_176 (dk_at dksJ3_get_0 14 rfl rfl)
theorem md_J3_get : xMd yJ3_get cJ3_get 2 (Option.some (Jvm.ClassFile.FieldType.object "java/lang/Object")) 1 := ⟨q952, q130, by decide, by decide +kernel, by decide +kernel, by decide +kernel⟩
def f_J3_get (p0 : PH) (a0 : Nat) (a1 : Int32) : Option (xO × PH) :=
  (xcl1 p0 a0 14 (xgI p0 a0 14 2 fun x1 =>
  (xcI (f_J20_checkIndex p0 a1 x1) fun x3 p2 =>
  (xcR (f_J3_elementData p2 a0 a1) fun x5 p4 =>
  (rR x5 p4)))))
theorem rc_J3_get {p0 : PH} {a0 : Nat} {a1 : Int32} : ∀ z, f_J3_get p0 a0 a1 = some z → xco p0 a0 = some 14 := fun z h => xcl1_some h
theorem f_J3_get_ok {G : xG} (hO : xOK G) (p0 : PH) (a0 : Nat) (a1 : Int32) : CT G 2 yJ3_get cJ3_get 2 (Option.some (Jvm.ClassFile.FieldType.object "java/lang/Object")) [.ref a0, .int a1] p0 (f_J3_get p0 a0 a1) := by
  refine CT_of hO (by decide +kernel) (by decide +kernel) (Nat.le_of_ble_eq_true rfl) ?_
  show X G "java/util/ArrayList" "get" cJ3_get 2 (Option.some (Jvm.ClassFile.FieldType.object "java/lang/Object")) 2 0 [(0, .ref a0), (1, .int a1)] [] p0 (f_J3_get p0 a0 a1)
  refine x_cl1 (fun e0 => ?_)
  refine x_iload_n 1 dJ3_get_0 rfl rfl (n := 1) rfl ?_
  refine x_aload_nr 0 dJ3_get_1 rfl rfl (n := 2) rfl ?_
  refine x_getI fl_J3_48 dJ3_get_2 (n := 5) rfl (fun x1 => ?_)
  refine x_callS_I [.int a1, .int x1] [] (f_J20_checkIndex_ok hO p0 a1 x1) md_J20_checkIndex q953 q954 dJ3_get_5 rfl rfl (by decide) (Nat.le_of_ble_eq_true rfl) (n := 8) rfl (fun x3 p2 => ?_)
  refine x_pop dJ3_get_8 rfl (n := 9) rfl ?_
  refine x_aload_nr 0 dJ3_get_9 rfl rfl (n := 10) rfl ?_
  refine x_iload_n 1 dJ3_get_10 rfl rfl (n := 11) rfl ?_
  refine x_callV_R [.int a1] [] (f_J3_elementData_ok hO p2 a0 a1) rc_J3_elementData md_J3_elementData rfl q957 q958 q959 dJ3_get_11 rfl rfl (by decide) (Nat.le_of_ble_eq_true rfl) (n := 14) rfl (fun x5 p4 => ?_)
  exact x_areturn (x := x5) (Or.inl ⟨_, rfl⟩) dJ3_get_14
abbrev cJ19_intValue : ByteArray := prog_24_method_27_code
def yJ19_intValue : MethodName := ⟨RJ19, "intValue", "()I"⟩
theorem dJ19_intValue_0 : decode cJ19_intValue 0 = .ok (.aload_n 0, 1) := by decide +kernel
theorem dJ19_intValue_1 : decode cJ19_intValue 1 = .ok (.getfield 205, 3) := by decide +kernel
theorem dJ19_intValue_4 : decode cJ19_intValue 4 = .ok (.ireturn, 1) := by decide +kernel
theorem md_J19_intValue : xMd yJ19_intValue cJ19_intValue 1 (Option.some Jvm.ClassFile.FieldType.int) 0 := ⟨q943, q149, by decide, by decide +kernel, by decide +kernel, by decide +kernel⟩
def f_J19_intValue (p0 : PH) (a0 : Nat) : Option (xO × PH) :=
  (xcl1 p0 a0 18 (xgI p0 a0 18 0 fun x1 =>
  (rI x1 p0)))
theorem rc_J19_intValue {p0 : PH} {a0 : Nat} : ∀ z, f_J19_intValue p0 a0 = some z → xco p0 a0 = some 18 := fun z h => xcl1_some h
theorem f_J19_intValue_ok {G : xG} (hO : xOK G) (p0 : PH) (a0 : Nat) : CT G 0 yJ19_intValue cJ19_intValue 1 (Option.some Jvm.ClassFile.FieldType.int) [.ref a0] p0 (f_J19_intValue p0 a0) := by
  refine CT_of hO (by decide +kernel) (by decide +kernel) (Nat.le_of_ble_eq_true rfl) ?_
  show X G "java/lang/Integer" "intValue" cJ19_intValue 1 (Option.some Jvm.ClassFile.FieldType.int) 0 0 [(0, .ref a0)] [] p0 (f_J19_intValue p0 a0)
  refine x_cl1 (fun e0 => ?_)
  refine x_aload_nr 0 dJ19_intValue_0 rfl rfl (n := 1) rfl ?_
  refine x_getI fl_J19_205 dJ19_intValue_1 (n := 4) rfl (fun x1 => ?_)
  exact x_ireturn dJ19_intValue_4
abbrev cX6_code : ByteArray := prog_4_method_4_code
def yX6_code : MethodName := ⟨RX6, "code", "(I)I"⟩
def dkwX6_code_0 : List UInt8 := [42, 180, 0, 12, 27, 185, 0, 35, 2, 0, 192, 0, 39, 182, 0, 41, 172]
abbrev dktX6_code_0 : List UInt8 := dkwX6_code_0 ++ []
theorem dksX6_code_0 : cX6_code.data.toList.drop 0 = dktX6_code_0 := by decide +kernel
theorem dX6_code_0 : decode cX6_code 0 = .ok (.aload_n 0, 1) := dk_42 (dk_at dksX6_code_0 0 rfl rfl)
theorem dX6_code_1 : decode cX6_code 1 = .ok (.getfield 12, 3) := dk_180 0 12 (dk_at dksX6_code_0 1 rfl rfl)
theorem dX6_code_4 : decode cX6_code 4 = .ok (.iload_n 1, 1) := dk_27 (dk_at dksX6_code_0 4 rfl rfl)
theorem dX6_code_5 : decode cX6_code 5 = .ok (.invokeinterface 35 2, 5) := by decide +kernel
theorem dX6_code_10 : decode cX6_code 10 = .ok (.checkcast 39, 3) := dk_192 0 39 (dk_at dksX6_code_0 10 rfl rfl)
theorem dX6_code_13 : decode cX6_code 13 = .ok (.invokevirtual 41, 3) := dk_182 0 41 (dk_at dksX6_code_0 13 rfl rfl)
theorem dX6_code_16 : decode cX6_code 16 = .ok (.ireturn, 1) := dk_172 (dk_at dksX6_code_0 16 rfl rfl)
theorem md_X6_code : xMd yX6_code cX6_code 2 (Option.some Jvm.ClassFile.FieldType.int) 1 := ⟨q1207, q147, by decide, by decide +kernel, by decide +kernel, by decide +kernel⟩
def f_X6_code (p0 : PH) (a0 : Nat) (a1 : Int32) : Option (xO × PH) :=
  (xcl1 p0 a0 5 (xgR p0 a0 5 1 fun x1 =>
  (xnul x1 none fun b2 =>
  (xcR (f_J3_get p0 b2 a1) fun x4 p3 =>
  (xcst p3 (x4) [18]
  (xnul x4 none fun b5 =>
  (xcI (f_J19_intValue p3 b5 ) fun x7 p6 =>
  (rI x7 p6))))))))
theorem rc_X6_code {p0 : PH} {a0 : Nat} {a1 : Int32} : ∀ z, f_X6_code p0 a0 a1 = some z → xco p0 a0 = some 5 := fun z h => xcl1_some h
theorem f_X6_code_ok {G : xG} (hO : xOK G) (p0 : PH) (a0 : Nat) (a1 : Int32) : CT G 3 yX6_code cX6_code 2 (Option.some Jvm.ClassFile.FieldType.int) [.ref a0, .int a1] p0 (f_X6_code p0 a0 a1) := by
  refine CT_of hO (by decide +kernel) (by decide +kernel) (Nat.le_of_ble_eq_true rfl) ?_
  show X G "ForestLegs$Course" "code" cX6_code 2 (Option.some Jvm.ClassFile.FieldType.int) 3 0 [(0, .ref a0), (1, .int a1)] [] p0 (f_X6_code p0 a0 a1)
  refine x_cl1 (fun e0 => ?_)
  refine x_aload_nr 0 dX6_code_0 rfl rfl (n := 1) rfl ?_
  refine x_getR fl_X6_12 dX6_code_1 (n := 4) rfl (fun x1 => ?_)
  refine x_iload_n 1 dX6_code_4 rfl rfl (n := 5) rfl ?_
  refine x_sm (fun b2 e => ?_)
  subst e
  refine x_callF_R [.int a1] [] (f_J3_get_ok hO p0 b2 a1) rc_J3_get md_J3_get rfl q1209 fc_java_util_ArrayList_java_util_List_get_1_ILjava dX6_code_5 rfl rfl (by decide) (Nat.le_of_ble_eq_true rfl) (n := 10) rfl (fun x4 p3 => ?_)
  refine x_cast (x := x4) (cs := [18]) q1210 cst_java_lang_Integer dX6_code_10 (n := 13) rfl ?_
  refine x_sm (fun b5 e => ?_)
  subst e
  refine x_callV_I [] [] (f_J19_intValue_ok hO p3 b5 ) rc_J19_intValue md_J19_intValue rfl q1211 q941 q942 dX6_code_13 rfl rfl (by decide) (Nat.le_of_ble_eq_true rfl) (n := 16) rfl (fun x7 p6 => ?_)
  exact x_ireturn dX6_code_16
abbrev cX3_code : ByteArray := prog_10_method_12_code
def yX3_code : MethodName := ⟨RX3, "code", "(LForestLegs$Course;)I"⟩
def dkwX3_code_4 : List UInt8 := [172]
abbrev dktX3_code_4 : List UInt8 := dkwX3_code_4 ++ []
def dkwX3_code_3 : List UInt8 := [16, 10, 162, 0, 7, 4, 167, 0, 4, 3, 7, 182, 0, 76, 42, 180, 0, 61, 61, 42, 182, 0, 105, 28]
abbrev dktX3_code_3 : List UInt8 := dkwX3_code_3 ++ dktX3_code_4
def dkwX3_code_2 : List UInt8 := [182, 0, 120, 42, 180, 0, 61, 159, 0, 7, 4, 167, 0, 4, 3, 5, 182, 0, 76, 42, 43, 182, 0, 115]
abbrev dktX3_code_2 : List UInt8 := dkwX3_code_2 ++ dktX3_code_3
def dkwX3_code_1 : List UInt8 := [16, 99, 184, 0, 41, 153, 0, 31, 43, 182, 0, 115, 153, 0, 20, 43, 43, 182, 0, 115, 4, 100]
abbrev dktX3_code_1 : List UInt8 := dkwX3_code_1 ++ dktX3_code_2
def dkwX3_code_0 : List UInt8 := [42, 42, 180, 0, 51, 6, 160, 0, 7, 4, 167, 0, 4, 3, 4, 182, 0, 76, 42, 42, 180, 0, 61, 4]
abbrev dktX3_code_0 : List UInt8 := dkwX3_code_0 ++ dktX3_code_1
theorem dksX3_code_0 : cX3_code.data.toList.drop 0 = dktX3_code_0 := by decide +kernel
theorem dksX3_code_1 : cX3_code.data.toList.drop 24 = dktX3_code_1 := dk_seg dksX3_code_0 24 rfl rfl
theorem dksX3_code_2 : cX3_code.data.toList.drop 46 = dktX3_code_2 := dk_seg dksX3_code_1 22 rfl rfl
theorem dksX3_code_3 : cX3_code.data.toList.drop 70 = dktX3_code_3 := dk_seg dksX3_code_2 24 rfl rfl
theorem dksX3_code_4 : cX3_code.data.toList.drop 94 = dktX3_code_4 := dk_seg dksX3_code_3 24 rfl rfl
theorem dX3_code_0 : decode cX3_code 0 = .ok (.aload_n 0, 1) := dk_42 (dk_at dksX3_code_0 0 rfl rfl)
theorem dX3_code_1 : decode cX3_code 1 = .ok (.aload_n 0, 1) := dk_42 (dk_at dksX3_code_0 1 rfl rfl)
theorem dX3_code_2 : decode cX3_code 2 = .ok (.getfield 51, 3) := dk_180 0 51 (dk_at dksX3_code_0 2 rfl rfl)
theorem dX3_code_5 : decode cX3_code 5 = .ok (.iconst 3, 1) := dk_6 (dk_at dksX3_code_0 5 rfl rfl)
theorem dX3_code_6 : decode cX3_code 6 = .ok (.if_icmp .ne 7, 3) := dk_160 0 7 (dk_at dksX3_code_0 6 rfl rfl)
theorem dX3_code_9 : decode cX3_code 9 = .ok (.iconst 1, 1) := dk_4 (dk_at dksX3_code_0 9 rfl rfl)
theorem dX3_code_10 : decode cX3_code 10 = .ok (.goto 4, 3) := dk_167 0 4 (dk_at dksX3_code_0 10 rfl rfl)
theorem dX3_code_13 : decode cX3_code 13 = .ok (.iconst 0, 1) := dk_3 (dk_at dksX3_code_0 13 rfl rfl)
theorem dX3_code_14 : decode cX3_code 14 = .ok (.iconst 1, 1) := dk_4 (dk_at dksX3_code_0 14 rfl rfl)
theorem dX3_code_15 : decode cX3_code 15 = .ok (.invokevirtual 76, 3) := dk_182 0 76 (dk_at dksX3_code_0 15 rfl rfl)
theorem dX3_code_18 : decode cX3_code 18 = .ok (.aload_n 0, 1) := dk_42 (dk_at dksX3_code_0 18 rfl rfl)
theorem dX3_code_19 : decode cX3_code 19 = .ok (.aload_n 0, 1) := dk_42 (dk_at dksX3_code_0 19 rfl rfl)
theorem dX3_code_20 : decode cX3_code 20 = .ok (.getfield 61, 3) := dk_180 0 61 (dk_at dksX3_code_0 20 rfl rfl)
theorem dX3_code_23 : decode cX3_code 23 = .ok (.iconst 1, 1) := dk_4 (dk_at dksX3_code_0 23 rfl rfl)
theorem dX3_code_24 : decode cX3_code 24 = .ok (.bipush 99, 2) := dk_16 99 (dk_at dksX3_code_1 0 rfl rfl)
theorem dX3_code_26 : decode cX3_code 26 = .ok (.invokestatic 41, 3) := dk_184 0 41 (dk_at dksX3_code_1 2 rfl rfl)
theorem dX3_code_29 : decode cX3_code 29 = .ok (.ifCond .eq 31, 3) := dk_153 0 31 (dk_at dksX3_code_1 5 rfl rfl)
theorem dX3_code_32 : decode cX3_code 32 = .ok (.aload_n 1, 1) := dk_43 (dk_at dksX3_code_1 8 rfl rfl)
theorem dX3_code_33 : decode cX3_code 33 = .ok (.invokevirtual 115, 3) := dk_182 0 115 (dk_at dksX3_code_1 9 rfl rfl)
theorem dX3_code_36 : decode cX3_code 36 = .ok (.ifCond .eq 20, 3) := dk_153 0 20 (dk_at dksX3_code_1 12 rfl rfl)
theorem dX3_code_39 : decode cX3_code 39 = .ok (.aload_n 1, 1) := dk_43 (dk_at dksX3_code_1 15 rfl rfl)
theorem dX3_code_40 : decode cX3_code 40 = .ok (.aload_n 1, 1) := dk_43 (dk_at dksX3_code_1 16 rfl rfl)
theorem dX3_code_41 : decode cX3_code 41 = .ok (.invokevirtual 115, 3) := dk_182 0 115 (dk_at dksX3_code_1 17 rfl rfl)
theorem dX3_code_44 : decode cX3_code 44 = .ok (.iconst 1, 1) := dk_4 (dk_at dksX3_code_1 20 rfl rfl)
theorem dX3_code_45 : decode cX3_code 45 = .ok (.isub, 1) := dk_100 (dk_at dksX3_code_1 21 rfl rfl)
theorem dX3_code_46 : decode cX3_code 46 = .ok (.invokevirtual 120, 3) := dk_182 0 120 (dk_at dksX3_code_2 0 rfl rfl)
theorem dX3_code_49 : decode cX3_code 49 = .ok (.aload_n 0, 1) := dk_42 (dk_at dksX3_code_2 3 rfl rfl)
theorem dX3_code_50 : decode cX3_code 50 = .ok (.getfield 61, 3) := dk_180 0 61 (dk_at dksX3_code_2 4 rfl rfl)
theorem dX3_code_53 : decode cX3_code 53 = .ok (.if_icmp .eq 7, 3) := dk_159 0 7 (dk_at dksX3_code_2 7 rfl rfl)
theorem dX3_code_56 : decode cX3_code 56 = .ok (.iconst 1, 1) := dk_4 (dk_at dksX3_code_2 10 rfl rfl)
theorem dX3_code_57 : decode cX3_code 57 = .ok (.goto 4, 3) := dk_167 0 4 (dk_at dksX3_code_2 11 rfl rfl)
theorem dX3_code_60 : decode cX3_code 60 = .ok (.iconst 0, 1) := dk_3 (dk_at dksX3_code_2 14 rfl rfl)
theorem dX3_code_61 : decode cX3_code 61 = .ok (.iconst 2, 1) := dk_5 (dk_at dksX3_code_2 15 rfl rfl)
theorem dX3_code_62 : decode cX3_code 62 = .ok (.invokevirtual 76, 3) := dk_182 0 76 (dk_at dksX3_code_2 16 rfl rfl)
theorem dX3_code_65 : decode cX3_code 65 = .ok (.aload_n 0, 1) := dk_42 (dk_at dksX3_code_2 19 rfl rfl)
theorem dX3_code_66 : decode cX3_code 66 = .ok (.aload_n 1, 1) := dk_43 (dk_at dksX3_code_2 20 rfl rfl)
theorem dX3_code_67 : decode cX3_code 67 = .ok (.invokevirtual 115, 3) := dk_182 0 115 (dk_at dksX3_code_2 21 rfl rfl)
theorem dX3_code_70 : decode cX3_code 70 = .ok (.bipush 10, 2) := dk_16 10 (dk_at dksX3_code_3 0 rfl rfl)
theorem dX3_code_72 : decode cX3_code 72 = .ok (.if_icmp .ge 7, 3) := dk_162 0 7 (dk_at dksX3_code_3 2 rfl rfl)
theorem dX3_code_75 : decode cX3_code 75 = .ok (.iconst 1, 1) := dk_4 (dk_at dksX3_code_3 5 rfl rfl)
theorem dX3_code_76 : decode cX3_code 76 = .ok (.goto 4, 3) := dk_167 0 4 (dk_at dksX3_code_3 6 rfl rfl)
theorem dX3_code_79 : decode cX3_code 79 = .ok (.iconst 0, 1) := dk_3 (dk_at dksX3_code_3 9 rfl rfl)
theorem dX3_code_80 : decode cX3_code 80 = .ok (.iconst 4, 1) := dk_7 (dk_at dksX3_code_3 10 rfl rfl)
theorem dX3_code_81 : decode cX3_code 81 = .ok (.invokevirtual 76, 3) := dk_182 0 76 (dk_at dksX3_code_3 11 rfl rfl)
theorem dX3_code_84 : decode cX3_code 84 = .ok (.aload_n 0, 1) := dk_42 (dk_at dksX3_code_3 14 rfl rfl)
theorem dX3_code_85 : decode cX3_code 85 = .ok (.getfield 61, 3) := dk_180 0 61 (dk_at dksX3_code_3 15 rfl rfl)
theorem dX3_code_88 : decode cX3_code 88 = .ok (.istore_n 2, 1) := dk_61 (dk_at dksX3_code_3 18 rfl rfl)
theorem dX3_code_89 : decode cX3_code 89 = .ok (.aload_n 0, 1) := dk_42 (dk_at dksX3_code_3 19 rfl rfl)
theorem dX3_code_90 : decode cX3_code 90 = .ok (.invokevirtual 105, 3) := dk_182 0 105 (dk_at dksX3_code_3 20 rfl rfl)
theorem dX3_code_93 : decode cX3_code 93 = .ok (.iload_n 2, 1) := dk_28 (dk_at dksX3_code_3 23 rfl rfl)
theorem dX3_code_94 : decode cX3_code 94 = .ok (.ireturn, 1) := dk_172 (dk_at dksX3_code_4 0 rfl rfl)
theorem md_X3_code : xMd yX3_code cX3_code 3 (Option.some Jvm.ClassFile.FieldType.int) 1 := ⟨q1197, q127, by decide, by decide +kernel, by decide +kernel, by decide +kernel⟩
def f_X3_code_80 (a0 : Nat)  (w1 : Int32) (p0 : PH) : Option (xO × PH) :=
  (xtV (f_X3_need p0 a0 w1 4) (fun p10 =>
  (xgI p10 a0 2 8 fun x11 =>
  (xcV (f_X3_go p10 a0 ) fun p12 =>
  (rI x11 p12)))) rT)
def f_X3_code_61 (a0 : Nat)  (v1 : Option Nat) (w1 : Int32) (p0 : PH) : Option (xO × PH) :=
  (xtV (f_X3_need p0 a0 w1 2) (fun p6 =>
  (xnul v1 none fun b7 =>
  (xcI (f_X6_size p6 b7 ) fun x9 p8 =>
  (if 10 ≤ x9 then
  (f_X3_code_80 a0 0 p8) else
  (f_X3_code_80 a0 1 p8))))) rT)
def f_X3_code_60 (a0 : Nat)  (v1 : Option Nat) (p0 : PH) : Option (xO × PH) :=
  (f_X3_code_61 a0 v1 0 p0)
def f_X3_code_56 (a0 : Nat)  (v1 : Option Nat) (p0 : PH) : Option (xO × PH) :=
  (f_X3_code_61 a0 v1 1 p0)
def f_X3_code_14 (a0 : Nat)  (v1 : Option Nat) (w1 : Int32) (p0 : PH) : Option (xO × PH) :=
  (xtV (f_X3_need p0 a0 w1 1) (fun p2 =>
  (xgI p2 a0 2 8 fun x3 =>
  (xcI (f_X1_isIn p2 x3 1 99) fun x5 p4 =>
  (if x5 = 0 then
  (f_X3_code_60 a0 v1 p4) else
  (xnul v1 none fun b13 =>
  (xcI (f_X6_size p4 b13 ) fun x15 p14 =>
  (if x15 = 0 then
  (f_X3_code_56 a0 ((some b13)) p14) else
  (xcI (f_X6_size p14 b13 ) fun x17 p16 =>
  (xcI (f_X6_code p16 b13 (x17 - 1)) fun x19 p18 =>
  (xgI p18 a0 2 8 fun x20 =>
  (if x19 = x20 then
  (f_X3_code_60 a0 ((some b13)) p18) else
  (f_X3_code_56 a0 ((some b13)) p18)))))))))))) rT)
def f_X3_code (p0 : PH) (a0 : Nat) (a1 : Option Nat) : Option (xO × PH) :=
  (xcl1 p0 a0 2 (xgI p0 a0 2 7 fun x1 =>
  (if x1 = 3 then
  (f_X3_code_14 a0 a1 1 p0) else
  (f_X3_code_14 a0 a1 0 p0))))
theorem rc_X3_code {p0 : PH} {a0 : Nat} {a1 : Option Nat} : ∀ z, f_X3_code p0 a0 a1 = some z → xco p0 a0 = some 2 := fun z h => xcl1_some h
theorem f_X3_code_80_ok {G : xG} (hO : xOK G) (a0 : Nat)  (w1 : Int32) (p0 : PH) : X G "ForestLegs$Reader" "code" cX3_code 3 (Option.some Jvm.ClassFile.FieldType.int) 5 80 [(0, .ref a0)] [.int w1, .ref a0] p0 (f_X3_code_80 a0 w1 p0) := by
  unfold f_X3_code_80
  refine x_iconst 4 dX3_code_80 rfl (n := 81) rfl ?_
  refine x_callVT_V [.int w1, .int 4] [] (f_X3_need_ok hO p0 a0 w1 4) rc_X3_need md_X3_need rfl q499 q501 qs7 dX3_code_81 rfl rfl (by decide) (Nat.le_of_ble_eq_true rfl) (n := 84) rfl (fun p10 => ?_) (fun q P1 => xt_out (by decide +kernel))
  refine x_aload_nr 0 dX3_code_84 rfl rfl (n := 85) rfl ?_
  refine x_getI fl_X3_61 dX3_code_85 (n := 88) rfl (fun x11 => ?_)
  refine x_istore_n [(2, .int x11), (0, .ref a0)] dX3_code_88 rfl (by decide) rfl (n := 89) rfl ?_
  refine x_aload_nr 1 dX3_code_89 rfl rfl (n := 90) rfl ?_
  refine x_callV_V [] [] (f_X3_go_ok hO p10 a0 ) rc_X3_go md_X3_go rfl q387 q389 qs1 dX3_code_90 rfl rfl (by decide) (Nat.le_of_ble_eq_true rfl) (n := 93) rfl (fun p12 => ?_)
  refine x_iload_n 0 dX3_code_93 rfl rfl (n := 94) rfl ?_
  exact x_ireturn dX3_code_94
theorem f_X3_code_61_ok {G : xG} (hO : xOK G) (a0 : Nat)  (v1 : Option Nat) (w1 : Int32) (p0 : PH) : X G "ForestLegs$Reader" "code" cX3_code 3 (Option.some Jvm.ClassFile.FieldType.int) 5 61 [(0, .ref a0), (1, va_rf v1)] [.int w1, .ref a0] p0 (f_X3_code_61 a0 v1 w1 p0) := by
  unfold f_X3_code_61
  refine x_iconst 2 dX3_code_61 rfl (n := 62) rfl ?_
  refine x_callVT_V [.int w1, .int 2] [] (f_X3_need_ok hO p0 a0 w1 2) rc_X3_need md_X3_need rfl q499 q501 qs7 dX3_code_62 rfl rfl (by decide) (Nat.le_of_ble_eq_true rfl) (n := 65) rfl (fun p6 => ?_) (fun q P1 => xt_out (by decide +kernel))
  refine x_aload_nr 0 dX3_code_65 rfl rfl (n := 66) rfl ?_
  refine x_aload_n 1 dX3_code_66 rfl rfl (n := 67) rfl ?_
  refine x_sm (fun b7 e => ?_)
  subst e
  refine x_callV_I [] [.ref a0] (f_X6_size_ok hO p6 b7 ) rc_X6_size md_X6_size rfl q1198 q1199 q1200 dX3_code_67 rfl rfl (by decide) (Nat.le_of_ble_eq_true rfl) (n := 70) rfl (fun x9 p8 => ?_)
  refine x_bipush 10 dX3_code_70 rfl (n := 72) rfl ?_
  refine x_icmp_ge dX3_code_72 (t := 79) (by decide) (n := 75) rfl (fun _ => ?_) (fun _ => ?_)
  · refine x_iconst 0 dX3_code_79 rfl (n := 80) rfl ?_
    refine x_sub [0] [(0, .ref a0)] rfl ?_
    exact f_X3_code_80_ok hO a0 0 p8
  · refine x_iconst 1 dX3_code_75 rfl (n := 76) rfl ?_
    refine x_goto dX3_code_76 (n := 80) (by decide) ?_
    refine x_sub [0] [(0, .ref a0)] rfl ?_
    exact f_X3_code_80_ok hO a0 1 p8
theorem f_X3_code_60_ok {G : xG} (hO : xOK G) (a0 : Nat)  (v1 : Option Nat) (p0 : PH) : X G "ForestLegs$Reader" "code" cX3_code 3 (Option.some Jvm.ClassFile.FieldType.int) 5 60 [(0, .ref a0), (1, va_rf v1)] [.ref a0] p0 (f_X3_code_60 a0 v1 p0) := by
  unfold f_X3_code_60
  refine x_iconst 0 dX3_code_60 rfl (n := 61) rfl ?_
  exact f_X3_code_61_ok hO a0 v1 0 p0
theorem f_X3_code_56_ok {G : xG} (hO : xOK G) (a0 : Nat)  (v1 : Option Nat) (p0 : PH) : X G "ForestLegs$Reader" "code" cX3_code 3 (Option.some Jvm.ClassFile.FieldType.int) 5 56 [(0, .ref a0), (1, va_rf v1)] [.ref a0] p0 (f_X3_code_56 a0 v1 p0) := by
  unfold f_X3_code_56
  refine x_iconst 1 dX3_code_56 rfl (n := 57) rfl ?_
  refine x_goto dX3_code_57 (n := 61) (by decide) ?_
  exact f_X3_code_61_ok hO a0 v1 1 p0
theorem f_X3_code_14_ok {G : xG} (hO : xOK G) (a0 : Nat)  (v1 : Option Nat) (w1 : Int32) (p0 : PH) : X G "ForestLegs$Reader" "code" cX3_code 3 (Option.some Jvm.ClassFile.FieldType.int) 5 14 [(0, .ref a0), (1, va_rf v1)] [.int w1, .ref a0] p0 (f_X3_code_14 a0 v1 w1 p0) := by
  unfold f_X3_code_14
  refine x_iconst 1 dX3_code_14 rfl (n := 15) rfl ?_
  refine x_callVT_V [.int w1, .int 1] [] (f_X3_need_ok hO p0 a0 w1 1) rc_X3_need md_X3_need rfl q499 q501 qs7 dX3_code_15 rfl rfl (by decide) (Nat.le_of_ble_eq_true rfl) (n := 18) rfl (fun p2 => ?_) (fun q P1 => xt_out (by decide +kernel))
  refine x_aload_nr 0 dX3_code_18 rfl rfl (n := 19) rfl ?_
  refine x_aload_nr 0 dX3_code_19 rfl rfl (n := 20) rfl ?_
  refine x_getI fl_X3_61 dX3_code_20 (n := 23) rfl (fun x3 => ?_)
  refine x_iconst 1 dX3_code_23 rfl (n := 24) rfl ?_
  refine x_bipush 99 dX3_code_24 rfl (n := 26) rfl ?_
  refine x_callSN_I [.int x3, .int 1, .int 99] [.ref a0] (f_X1_isIn_ok hO p2 x3 1 99) md_X1_isIn q399 q248 dX3_code_26 rfl rfl (by decide) (Nat.le_of_ble_eq_true rfl) (n := 29) rfl (fun x5 p4 => ?_)
  refine x_if_eq dX3_code_29 (t := 60) (by decide) (n := 32) rfl (fun _ => ?_) (fun _ => ?_)
  · exact f_X3_code_60_ok hO a0 v1 p4
  · refine x_aload_n 1 dX3_code_32 rfl rfl (n := 33) rfl ?_
    refine x_sm (fun b13 e => ?_)
    subst e
    refine x_callV_I [] [.ref a0] (f_X6_size_ok hO p4 b13 ) rc_X6_size md_X6_size rfl q1198 q1199 q1200 dX3_code_33 rfl rfl (by decide) (Nat.le_of_ble_eq_true rfl) (n := 36) rfl (fun x15 p14 => ?_)
    refine x_if_eq dX3_code_36 (t := 56) (by decide) (n := 39) rfl (fun _ => ?_) (fun _ => ?_)
    · exact f_X3_code_56_ok hO a0 ((some b13)) p14
    · refine x_aload_nr 1 dX3_code_39 rfl rfl (n := 40) rfl ?_
      refine x_aload_nr 1 dX3_code_40 rfl rfl (n := 41) rfl ?_
      refine x_callV_I [] [.ref b13, .ref a0] (f_X6_size_ok hO p14 b13 ) rc_X6_size md_X6_size rfl q1198 q1199 q1200 dX3_code_41 rfl rfl (by decide) (Nat.le_of_ble_eq_true rfl) (n := 44) rfl (fun x17 p16 => ?_)
      refine x_iconst 1 dX3_code_44 rfl (n := 45) rfl ?_
      refine x_isub dX3_code_45 (n := 46) rfl ?_
      refine x_callV_I [.int (x17 - 1)] [.ref a0] (f_X6_code_ok hO p16 b13 (x17 - 1)) rc_X6_code md_X6_code rfl q1204 q1205 q1206 dX3_code_46 rfl rfl (by decide) (Nat.le_of_ble_eq_true rfl) (n := 49) rfl (fun x19 p18 => ?_)
      refine x_aload_nr 0 dX3_code_49 rfl rfl (n := 50) rfl ?_
      refine x_getI fl_X3_61 dX3_code_50 (n := 53) rfl (fun x20 => ?_)
      refine x_icmp_eq dX3_code_53 (t := 60) (by decide) (n := 56) rfl (fun _ => ?_) (fun _ => ?_)
      · exact f_X3_code_60_ok hO a0 ((some b13)) p18
      · exact f_X3_code_56_ok hO a0 ((some b13)) p18
theorem f_X3_code_ok {G : xG} (hO : xOK G) (p0 : PH) (a0 : Nat) (a1 : Option Nat) : CT G 5 yX3_code cX3_code 3 (Option.some Jvm.ClassFile.FieldType.int) [.ref a0, va_rf a1] p0 (f_X3_code p0 a0 a1) := by
  refine CT_of hO (by decide +kernel) (by decide +kernel) (lg_slen _ (by simp only [List.map, xcat]; exact Nat.le_of_ble_eq_true rfl)) ?_
  rw [show lv_args 0 [.ref a0, va_rf a1] = [(0, .ref a0), (1, va_rf a1)] from by simp only [lv_args, xcat] <;> rfl]
  show X G "ForestLegs$Reader" "code" cX3_code 3 (Option.some Jvm.ClassFile.FieldType.int) 5 0 [(0, .ref a0), (1, va_rf a1)] [] p0 (f_X3_code p0 a0 a1)
  refine x_cl1 (fun e0 => ?_)
  refine x_aload_nr 0 dX3_code_0 rfl rfl (n := 1) rfl ?_
  refine x_aload_nr 0 dX3_code_1 rfl rfl (n := 2) rfl ?_
  refine x_getI fl_X3_51 dX3_code_2 (n := 5) rfl (fun x1 => ?_)
  refine x_iconst 3 dX3_code_5 rfl (n := 6) rfl ?_
  refine x_icmp_ne dX3_code_6 (t := 13) (by decide) (n := 9) rfl (fun _ => ?_) (fun _ => ?_)
  · refine x_iconst 0 dX3_code_13 rfl (n := 14) rfl ?_
    exact f_X3_code_14_ok hO a0 a1 0 p0
  · refine x_iconst 1 dX3_code_9 rfl (n := 10) rfl ?_
    refine x_goto dX3_code_10 (n := 14) (by decide) ?_
    exact f_X3_code_14_ok hO a0 a1 1 p0
abbrev cJ18_init : ByteArray := prog_29_method_1_code
def yJ18_init : MethodName := ⟨RJ18, "<init>", "()V"⟩
theorem dJ18_init_0 : decode cJ18_init 0 = .ok (.aload_n 0, 1) := by decide +kernel
theorem dJ18_init_1 : decode cJ18_init 1 = .ok (.invokespecial 1, 3) := by decide +kernel
theorem dJ18_init_4 : decode cJ18_init 4 = .ok (.return_, 1) := by decide +kernel
theorem md_J18_init : xMd yJ18_init cJ18_init 1 (Option.none : Option Jvm.ClassFile.FieldType) 0 := ⟨q1225, q148, by decide, by decide +kernel, by decide +kernel, by decide +kernel⟩
def f_J18_init (p0 : PH) (a0 : Nat) : Option (xO × PH) :=
  (rV p0)
theorem f_J18_init_ok {G : xG} (hO : xOK G) (p0 : PH) (a0 : Nat) : CT G 1 yJ18_init cJ18_init 1 (Option.none : Option Jvm.ClassFile.FieldType) [.ref a0] p0 (f_J18_init p0 a0) := by
  refine CT_of hO (by decide +kernel) (by decide +kernel) (Nat.le_of_ble_eq_true rfl) ?_
  show X G "java/lang/Number" "<init>" cJ18_init 1 (Option.none : Option Jvm.ClassFile.FieldType) 1 0 [(0, .ref a0)] [] p0 (f_J18_init p0 a0)
  refine x_aload_nr 0 dJ18_init_0 rfl rfl (n := 1) rfl ?_
  refine x_objInit q1226 q186 q187 dJ18_init_1 (by decide) (Nat.le_of_ble_eq_true rfl) (n := 4) rfl ?_
  exact x_return dJ18_init_4
abbrev cJ19_init : ByteArray := prog_24_method_23_code
def yJ19_init : MethodName := ⟨RJ19, "<init>", "(I)V"⟩
def dkwJ19_init_0 : List UInt8 := [42, 183, 0, 202, 42, 27, 181, 0, 205, 177]
abbrev dktJ19_init_0 : List UInt8 := dkwJ19_init_0 ++ []
theorem dksJ19_init_0 : cJ19_init.data.toList.drop 0 = dktJ19_init_0 := by decide +kernel
theorem dJ19_init_0 : decode cJ19_init 0 = .ok (.aload_n 0, 1) := dk_42 (dk_at dksJ19_init_0 0 rfl rfl)
theorem dJ19_init_1 : decode cJ19_init 1 = .ok (.invokespecial 202, 3) := dk_183 0 202 (dk_at dksJ19_init_0 1 rfl rfl)
theorem dJ19_init_4 : decode cJ19_init 4 = .ok (.aload_n 0, 1) := dk_42 (dk_at dksJ19_init_0 4 rfl rfl)
theorem dJ19_init_5 : decode cJ19_init 5 = .ok (.iload_n 1, 1) := dk_27 (dk_at dksJ19_init_0 5 rfl rfl)
theorem dJ19_init_6 : decode cJ19_init 6 = .ok (.putfield 205, 3) := dk_181 0 205 (dk_at dksJ19_init_0 6 rfl rfl)
theorem dJ19_init_9 : decode cJ19_init 9 = .ok (.return_, 1) := dk_177 (dk_at dksJ19_init_0 9 rfl rfl)
theorem md_J19_init : xMd yJ19_init cJ19_init 2 (Option.none : Option Jvm.ClassFile.FieldType) 1 := ⟨q1222, q149, by decide, by decide +kernel, by decide +kernel, by decide +kernel⟩
def f_J19_init (p0 : PH) (a0 : Nat) (a1 : Int32) : Option (xO × PH) :=
  (xcV (f_J18_init p0 a0 ) fun p1 =>
  (xpF p1 a0 18 0 (.int a1) fun p2 =>
  (rV p2)))
theorem f_J19_init_ok {G : xG} (hO : xOK G) (p0 : PH) (a0 : Nat) (a1 : Int32) : CT G 2 yJ19_init cJ19_init 2 (Option.none : Option Jvm.ClassFile.FieldType) [.ref a0, .int a1] p0 (f_J19_init p0 a0 a1) := by
  refine CT_of hO (by decide +kernel) (by decide +kernel) (Nat.le_of_ble_eq_true rfl) ?_
  show X G "java/lang/Integer" "<init>" cJ19_init 2 (Option.none : Option Jvm.ClassFile.FieldType) 2 0 [(0, .ref a0), (1, .int a1)] [] p0 (f_J19_init p0 a0 a1)
  refine x_aload_nr 0 dJ19_init_0 rfl rfl (n := 1) rfl ?_
  refine x_callI_V [] [] (f_J18_init_ok hO p0 a0 ) md_J18_init rfl q1223 q1224 dJ19_init_1 rfl rfl (by decide) (Nat.le_of_ble_eq_true rfl) (n := 4) rfl (fun p1 => ?_)
  refine x_aload_nr 0 dJ19_init_4 rfl rfl (n := 5) rfl ?_
  refine x_iload_n 1 dJ19_init_5 rfl rfl (n := 6) rfl ?_
  refine x_pF (pl_J19_205 _ ⟨rfl, rfl⟩) dJ19_init_6 (n := 9) rfl (fun p2 => ?_)
  exact x_return dJ19_init_9
