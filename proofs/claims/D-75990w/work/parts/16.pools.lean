def pJ0 : Pool := ([], [])
theorem pJ0_f : ∀ e ∈ pJ0.1, FldE RJ0 e := List.forall_mem_nil _
theorem pJ0_c : ∀ e ∈ pJ0.2, LdcOK RJ0 e.1 e.2 := List.forall_mem_nil _
theorem pJ0_ok : POK RJ0 pJ0 := ⟨fun i e h => pJ0_f (i, e) h, fun i v h => pJ0_c (i, v) h⟩
theorem fl_J1_3 : FldOK RJ1 3 8 0 (.array (.object "java/lang/Object")) false := ⟨RJ1, TJ1, 3, tyJ1, "java/util/ArrayDeque", rfl, by decide, in_J1, tyJ1_ok, nmJ1, rfl, rfl, (fun _ => rfl), Or.inl rfl, Or.inl q145⟩
theorem fl_J1_24 : FldOK RJ1 24 8 1 (.int) false := ⟨RJ1, TJ1, 3, tyJ1, "java/util/ArrayDeque", rfl, by decide, in_J1, tyJ1_ok, nmJ1, rfl, rfl, (fun _ => rfl), Or.inl rfl, Or.inl q146⟩
theorem fl_J1_20 : FldOK RJ1 20 8 2 (.int) false := ⟨RJ1, TJ1, 3, tyJ1, "java/util/ArrayDeque", rfl, by decide, in_J1, tyJ1_ok, nmJ1, rfl, rfl, (fun _ => rfl), Or.inl rfl, Or.inl q147⟩
def pJ1 : Pool := ([(3, (8, 0, .array (.object "java/lang/Object"), some false)), (24, (8, 1, .int, some false)), (20, (8, 2, .int, some false))], [(9, .int (iZ (2147483639))), (41, .int (iZ (2147483647)))])
theorem pJ1_f : ∀ e ∈ pJ1.1, FldE RJ1 e := List.forall_mem_cons.mpr ⟨fl_J1_3, List.forall_mem_cons.mpr ⟨fl_J1_24, List.forall_mem_cons.mpr ⟨fl_J1_20, List.forall_mem_nil _⟩⟩⟩
theorem pJ1_c : ∀ e ∈ pJ1.2, LdcOK RJ1 e.1 e.2 := List.forall_mem_cons.mpr ⟨Or.inl ⟨(2147483639 : Int32), (by decide +kernel), q1741⟩, List.forall_mem_cons.mpr ⟨Or.inl ⟨(2147483647 : Int32), (by decide +kernel), q1762⟩, List.forall_mem_nil _⟩⟩
theorem pJ1_ok : POK RJ1 pJ1 := ⟨fun i e h => pJ1_f (i, e) h, fun i v h => pJ1_c (i, v) h⟩
theorem pJ1_3 : lkp pJ1.1 3 = some (8, 0, .array (.object "java/lang/Object"), some false) := nrf rfl
theorem pJ1_24 : lkp pJ1.1 24 = some (8, 1, .int, some false) := nrf rfl
theorem pJ1_20 : lkp pJ1.1 20 = some (8, 2, .int, some false) := nrf rfl
theorem pJ1_c9 : lkp pJ1.2 9 = some (.int (iZ (2147483639))) := nrf rfl
theorem pJ1_c41 : lkp pJ1.2 41 = some (.int (iZ (2147483647))) := nrf rfl
theorem fl_J10_198 : FldOK RJ10 198 5 4 (.object "java/lang/Object") false := ⟨RX6, TX6, 8, tyX6, "java/lang/Throwable", rfl, by decide, in_X6, tyX6_ok, nmX6, rfl, rfl, (fun _ => rfl), Or.inl rfl, Or.inl q306⟩
theorem fl_J10_198_X6 : FldOK RJ10 198 5 4 (.object "java/lang/Object") false := ⟨RX6, TX6, 8, tyX6, "java/lang/Throwable", rfl, by decide, in_X6, tyX6_ok, nmX6, rfl, rfl, (fun _ => rfl), Or.inl rfl, Or.inl q550⟩
theorem fl_J10_31 : FldOK RJ10 31 5 3 (.object "java/lang/String") false := ⟨RX6, TX6, 8, tyX6, "java/lang/Throwable", rfl, by decide, in_X6, tyX6_ok, nmX6, rfl, rfl, (fun _ => rfl), Or.inl rfl, Or.inl q551⟩
theorem fl_J10_7 : FldOK RJ10 7 5 0 (.object "java/lang/Throwable") false := ⟨RX6, TX6, 8, tyX6, "java/lang/Throwable", rfl, by decide, in_X6, tyX6_ok, nmX6, rfl, rfl, (fun _ => rfl), Or.inl rfl, Or.inl q552⟩
theorem fl_J10_17 : FldOK RJ10 17 5 1 (.array (.object "java/lang/StackTraceElement")) false := ⟨RX6, TX6, 8, tyX6, "java/lang/Throwable", rfl, by decide, in_X6, tyX6_ok, nmX6, rfl, rfl, (fun _ => rfl), Or.inl rfl, Or.inl q553⟩
theorem fl_J10_24 : FldOK RJ10 24 5 2 (.object "java/util/List") false := ⟨RX6, TX6, 8, tyX6, "java/lang/Throwable", rfl, by decide, in_X6, tyX6_ok, nmX6, rfl, rfl, (fun _ => rfl), Or.inl rfl, Or.inl q554⟩
def pJ10 : Pool := ([(198, (5, 4, .object "java/lang/Object", some false)), (31, (5, 3, .object "java/lang/String", some false)), (7, (5, 0, .object "java/lang/Throwable", some false)), (17, (5, 1, .array (.object "java/lang/StackTraceElement"), some false)), (24, (5, 2, .object "java/util/List", some false))], [])
theorem pJ10_f : ∀ e ∈ pJ10.1, FldE RJ10 e := List.forall_mem_cons.mpr ⟨fl_J10_198, List.forall_mem_cons.mpr ⟨fl_J10_31, List.forall_mem_cons.mpr ⟨fl_J10_7, List.forall_mem_cons.mpr ⟨fl_J10_17, List.forall_mem_cons.mpr ⟨fl_J10_24, List.forall_mem_nil _⟩⟩⟩⟩⟩
theorem pJ10_c : ∀ e ∈ pJ10.2, LdcOK RJ10 e.1 e.2 := List.forall_mem_nil _
theorem pJ10_ok : POK RJ10 pJ10 := ⟨fun i e h => pJ10_f (i, e) h, fun i v h => pJ10_c (i, v) h⟩
theorem pJ10_198 : lkp pJ10.1 198 = some (5, 4, .object "java/lang/Object", some false) := nrf rfl
theorem pJ10_31 : lkp pJ10.1 31 = some (5, 3, .object "java/lang/String", some false) := nrf rfl
theorem pJ10_7 : lkp pJ10.1 7 = some (5, 0, .object "java/lang/Throwable", some false) := nrf rfl
theorem pJ10_17 : lkp pJ10.1 17 = some (5, 1, .array (.object "java/lang/StackTraceElement"), some false) := nrf rfl
theorem pJ10_24 : lkp pJ10.1 24 = some (5, 2, .object "java/util/List", some false) := nrf rfl
def pJ11 : Pool := ([], [])
theorem pJ11_f : ∀ e ∈ pJ11.1, FldE RJ11 e := List.forall_mem_nil _
theorem pJ11_c : ∀ e ∈ pJ11.2, LdcOK RJ11 e.1 e.2 := List.forall_mem_nil _
theorem pJ11_ok : POK RJ11 pJ11 := ⟨fun i e h => pJ11_f (i, e) h, fun i v h => pJ11_c (i, v) h⟩
def pJ12 : Pool := ([], [])
theorem pJ12_f : ∀ e ∈ pJ12.1, FldE RJ12 e := List.forall_mem_nil _
theorem pJ12_c : ∀ e ∈ pJ12.2, LdcOK RJ12 e.1 e.2 := List.forall_mem_nil _
theorem pJ12_ok : POK RJ12 pJ12 := ⟨fun i e h => pJ12_f (i, e) h, fun i v h => pJ12_c (i, v) h⟩
def pJ13 : Pool := ([], [])
theorem pJ13_f : ∀ e ∈ pJ13.1, FldE RJ13 e := List.forall_mem_nil _
theorem pJ13_c : ∀ e ∈ pJ13.2, LdcOK RJ13 e.1 e.2 := List.forall_mem_nil _
theorem pJ13_ok : POK RJ13 pJ13 := ⟨fun i e h => pJ13_f (i, e) h, fun i v h => pJ13_c (i, v) h⟩
theorem fl_J14_15 : FldOK RJ14 15 12 0 (.array .byte) false := ⟨RJ15, TJ15, 4, tyJ15, "java/lang/AbstractStringBuilder", rfl, by decide, in_J15, tyJ15_ok, nmJ15, rfl, rfl, (fun _ => rfl), Or.inl rfl, Or.inl q346⟩
theorem fl_J14_22 : FldOK RJ14 22 12 1 (.byte) false := ⟨RJ15, TJ15, 4, tyJ15, "java/lang/AbstractStringBuilder", rfl, by decide, in_J15, tyJ15_ok, nmJ15, rfl, rfl, (fun _ => rfl), Or.inl rfl, Or.inl q347⟩
theorem fl_J14_79 : FldOK RJ14 79 12 3 (.int) false := ⟨RJ15, TJ15, 4, tyJ15, "java/lang/AbstractStringBuilder", rfl, by decide, in_J15, tyJ15_ok, nmJ15, rfl, rfl, (fun _ => rfl), Or.inl rfl, Or.inl q349⟩
def pJ14 : Pool := ([(15, (12, 0, .array .byte, some false)), (22, (12, 1, .byte, some false)), (79, (12, 3, .int, some false))], [(39, .int (iZ (2147483647)))])
theorem pJ14_f : ∀ e ∈ pJ14.1, FldE RJ14 e := List.forall_mem_cons.mpr ⟨fl_J14_15, List.forall_mem_cons.mpr ⟨fl_J14_22, List.forall_mem_cons.mpr ⟨fl_J14_79, List.forall_mem_nil _⟩⟩⟩
theorem pJ14_c : ∀ e ∈ pJ14.2, LdcOK RJ14 e.1 e.2 := List.forall_mem_cons.mpr ⟨Or.inl ⟨(2147483647 : Int32), (by decide +kernel), q389⟩, List.forall_mem_nil _⟩
theorem pJ14_ok : POK RJ14 pJ14 := ⟨fun i e h => pJ14_f (i, e) h, fun i v h => pJ14_c (i, v) h⟩
theorem pJ14_15 : lkp pJ14.1 15 = some (12, 0, .array .byte, some false) := nrf rfl
theorem pJ14_22 : lkp pJ14.1 22 = some (12, 1, .byte, some false) := nrf rfl
theorem pJ14_79 : lkp pJ14.1 79 = some (12, 3, .int, some false) := nrf rfl
theorem pJ14_c39 : lkp pJ14.2 39 = some (.int (iZ (2147483647))) := nrf rfl
def pJ15 : Pool := ([], [])
theorem pJ15_f : ∀ e ∈ pJ15.1, FldE RJ15 e := List.forall_mem_nil _
theorem pJ15_c : ∀ e ∈ pJ15.2, LdcOK RJ15 e.1 e.2 := List.forall_mem_nil _
theorem pJ15_ok : POK RJ15 pJ15 := ⟨fun i e h => pJ15_f (i, e) h, fun i v h => pJ15_c (i, v) h⟩
def pJ16 : Pool := ([], [])
theorem pJ16_f : ∀ e ∈ pJ16.1, FldE RJ16 e := List.forall_mem_nil _
theorem pJ16_c : ∀ e ∈ pJ16.2, LdcOK RJ16 e.1 e.2 := List.forall_mem_nil _
theorem pJ16_ok : POK RJ16 pJ16 := ⟨fun i e h => pJ16_f (i, e) h, fun i v h => pJ16_c (i, v) h⟩
def pJ17 : Pool := ([], [])
theorem pJ17_f : ∀ e ∈ pJ17.1, FldE RJ17 e := List.forall_mem_nil _
theorem pJ17_c : ∀ e ∈ pJ17.2, LdcOK RJ17 e.1 e.2 := List.forall_mem_nil _
theorem pJ17_ok : POK RJ17 pJ17 := ⟨fun i e h => pJ17_f (i, e) h, fun i v h => pJ17_c (i, v) h⟩
def pJ18 : Pool := ([], [])
theorem pJ18_f : ∀ e ∈ pJ18.1, FldE RJ18 e := List.forall_mem_nil _
theorem pJ18_c : ∀ e ∈ pJ18.2, LdcOK RJ18 e.1 e.2 := List.forall_mem_nil _
theorem pJ18_ok : POK RJ18 pJ18 := ⟨fun i e h => pJ18_f (i, e) h, fun i v h => pJ18_c (i, v) h⟩
def pJ19 : Pool := ([], [])
theorem pJ19_f : ∀ e ∈ pJ19.1, FldE RJ19 e := List.forall_mem_nil _
theorem pJ19_c : ∀ e ∈ pJ19.2, LdcOK RJ19 e.1 e.2 := List.forall_mem_nil _
theorem pJ19_ok : POK RJ19 pJ19 := ⟨fun i e h => pJ19_f (i, e) h, fun i v h => pJ19_c (i, v) h⟩
def pJ2 : Pool := ([], [])
theorem pJ2_f : ∀ e ∈ pJ2.1, FldE RJ2 e := List.forall_mem_nil _
theorem pJ2_c : ∀ e ∈ pJ2.2, LdcOK RJ2 e.1 e.2 := List.forall_mem_nil _
theorem pJ2_ok : POK RJ2 pJ2 := ⟨fun i e h => pJ2_f (i, e) h, fun i v h => pJ2_c (i, v) h⟩
theorem fl_J20_205 : FldOK RJ20 205 13 0 (.int) true := ⟨RJ20, TJ20, 1, tyJ20, "java/lang/Integer", rfl, by decide, in_J20, tyJ20_ok, nmJ20, rfl, rfl, (fun _ => rfl), Or.inl rfl, Or.inl q1462⟩
def pJ20 : Pool := ([(205, (13, 0, .int, some true))], [(264, .int (iZ (65536)))])
theorem pJ20_f : ∀ e ∈ pJ20.1, FldE RJ20 e := List.forall_mem_cons.mpr ⟨fl_J20_205, List.forall_mem_nil _⟩
theorem pJ20_c : ∀ e ∈ pJ20.2, LdcOK RJ20 e.1 e.2 := List.forall_mem_cons.mpr ⟨Or.inl ⟨(65536 : Int32), (by decide +kernel), q1321⟩, List.forall_mem_nil _⟩
theorem pJ20_ok : POK RJ20 pJ20 := ⟨fun i e h => pJ20_f (i, e) h, fun i v h => pJ20_c (i, v) h⟩
theorem pJ20_205 : lkp pJ20.1 205 = some (13, 0, .int, some true) := nrf rfl
theorem pJ20_c264 : lkp pJ20.2 264 = some (.int (iZ (65536))) := nrf rfl
def pJ21 : Pool := ([], [(374, .int (iZ (65535))), (696, .long (lZ (7))), (349, .long (lZ (3))), (205, .long (lZ (4))), (812, .long (lZ (4294967295))), (203, .long (lZ (2))), (702, .long (lZ (6))), (810, .long (lZ (65535))), (707, .long (lZ (5))), (808, .long (lZ (255)))])
theorem pJ21_f : ∀ e ∈ pJ21.1, FldE RJ21 e := List.forall_mem_nil _
theorem pJ21_c : ∀ e ∈ pJ21.2, LdcOK RJ21 e.1 e.2 := List.forall_mem_cons.mpr ⟨Or.inl ⟨(65535 : Int32), (by decide +kernel), q1342⟩, List.forall_mem_cons.mpr ⟨Or.inr ⟨(7 : Int64), (by decide +kernel), q1265⟩, List.forall_mem_cons.mpr ⟨Or.inr ⟨(3 : Int64), (by decide +kernel), q1270⟩, List.forall_mem_cons.mpr ⟨Or.inr ⟨(4 : Int64), (by decide +kernel), q1275⟩, List.forall_mem_cons.mpr ⟨Or.inr ⟨(4294967295 : Int64), (by decide +kernel), q1282⟩, List.forall_mem_cons.mpr ⟨Or.inr ⟨(2 : Int64), (by decide +kernel), q1292⟩, List.forall_mem_cons.mpr ⟨Or.inr ⟨(6 : Int64), (by decide +kernel), q1293⟩, List.forall_mem_cons.mpr ⟨Or.inr ⟨(65535 : Int64), (by decide +kernel), q1300⟩, List.forall_mem_cons.mpr ⟨Or.inr ⟨(5 : Int64), (by decide +kernel), q1305⟩, List.forall_mem_cons.mpr ⟨Or.inr ⟨(255 : Int64), (by decide +kernel), q1312⟩, List.forall_mem_nil _⟩⟩⟩⟩⟩⟩⟩⟩⟩⟩
theorem pJ21_ok : POK RJ21 pJ21 := ⟨fun i e h => pJ21_f (i, e) h, fun i v h => pJ21_c (i, v) h⟩
theorem pJ21_c374 : lkp pJ21.2 374 = some (.int (iZ (65535))) := nrf rfl
theorem pJ21_c696 : lkp pJ21.2 696 = some (.long (lZ (7))) := nrf rfl
theorem pJ21_c349 : lkp pJ21.2 349 = some (.long (lZ (3))) := nrf rfl
theorem pJ21_c205 : lkp pJ21.2 205 = some (.long (lZ (4))) := nrf rfl
theorem pJ21_c812 : lkp pJ21.2 812 = some (.long (lZ (4294967295))) := nrf rfl
theorem pJ21_c203 : lkp pJ21.2 203 = some (.long (lZ (2))) := nrf rfl
theorem pJ21_c702 : lkp pJ21.2 702 = some (.long (lZ (6))) := nrf rfl
theorem pJ21_c810 : lkp pJ21.2 810 = some (.long (lZ (65535))) := nrf rfl
theorem pJ21_c707 : lkp pJ21.2 707 = some (.long (lZ (5))) := nrf rfl
theorem pJ21_c808 : lkp pJ21.2 808 = some (.long (lZ (255))) := nrf rfl
def pJ22 : Pool := ([], [])
theorem pJ22_f : ∀ e ∈ pJ22.1, FldE RJ22 e := List.forall_mem_nil _
theorem pJ22_c : ∀ e ∈ pJ22.2, LdcOK RJ22 e.1 e.2 := List.forall_mem_nil _
theorem pJ22_ok : POK RJ22 pJ22 := ⟨fun i e h => pJ22_f (i, e) h, fun i v h => pJ22_c (i, v) h⟩
def pJ23 : Pool := ([], [])
theorem pJ23_f : ∀ e ∈ pJ23.1, FldE RJ23 e := List.forall_mem_nil _
theorem pJ23_c : ∀ e ∈ pJ23.2, LdcOK RJ23 e.1 e.2 := List.forall_mem_nil _
theorem pJ23_ok : POK RJ23 pJ23 := ⟨fun i e h => pJ23_f (i, e) h, fun i v h => pJ23_c (i, v) h⟩
theorem fl_J24_7 : FldOK RJ24 7 14 0 (.int) true := ⟨RJ24, TJ24, 4, tyJ24, "java/util/HashMap$Node", rfl, by decide, in_J24, tyJ24_ok, nmJ24, rfl, rfl, (fun _ => rfl), Or.inl rfl, Or.inl q1501⟩
theorem fl_J24_7_J26 : FldOK RJ24 7 15 2 (.int) true := ⟨RJ26, TJ26, 11, tyJ26, "java/util/HashMap$Node", rfl, by decide, in_J26, tyJ26_ok, nmJ26, rfl, rfl, (fun _ => rfl), Or.inl rfl, Or.inl q1501⟩
theorem fl_J24_13 : FldOK RJ24 13 14 1 (.object "java/lang/Object") true := ⟨RJ24, TJ24, 4, tyJ24, "java/util/HashMap$Node", rfl, by decide, in_J24, tyJ24_ok, nmJ24, rfl, rfl, (fun _ => rfl), Or.inl rfl, Or.inl q1505⟩
theorem fl_J24_13_J26 : FldOK RJ24 13 15 3 (.object "java/lang/Object") true := ⟨RJ26, TJ26, 11, tyJ26, "java/util/HashMap$Node", rfl, by decide, in_J26, tyJ26_ok, nmJ26, rfl, rfl, (fun _ => rfl), Or.inl rfl, Or.inl q1505⟩
theorem fl_J24_17 : FldOK RJ24 17 14 2 (.object "java/lang/Object") false := ⟨RJ24, TJ24, 4, tyJ24, "java/util/HashMap$Node", rfl, by decide, in_J24, tyJ24_ok, nmJ24, rfl, rfl, (fun _ => rfl), Or.inl rfl, Or.inl q1509⟩
theorem fl_J24_17_J26 : FldOK RJ24 17 15 4 (.object "java/lang/Object") false := ⟨RJ26, TJ26, 11, tyJ26, "java/util/HashMap$Node", rfl, by decide, in_J26, tyJ26_ok, nmJ26, rfl, rfl, (fun _ => rfl), Or.inl rfl, Or.inl q1509⟩
theorem fl_J24_20 : FldOK RJ24 20 14 3 (.object "java/util/HashMap$Node") false := ⟨RJ24, TJ24, 4, tyJ24, "java/util/HashMap$Node", rfl, by decide, in_J24, tyJ24_ok, nmJ24, rfl, rfl, (fun _ => rfl), Or.inl rfl, Or.inl q1511⟩
theorem fl_J24_20_J26 : FldOK RJ24 20 15 5 (.object "java/util/HashMap$Node") false := ⟨RJ26, TJ26, 11, tyJ26, "java/util/HashMap$Node", rfl, by decide, in_J26, tyJ26_ok, nmJ26, rfl, rfl, (fun _ => rfl), Or.inl rfl, Or.inl q1511⟩
def pJ24 : Pool := ([(7, (14, 0, .int, some true)), (13, (14, 1, .object "java/lang/Object", some true)), (17, (14, 2, .object "java/lang/Object", some false)), (20, (14, 3, .object "java/util/HashMap$Node", some false))], [])
theorem pJ24_f : ∀ e ∈ pJ24.1, FldE RJ24 e := List.forall_mem_cons.mpr ⟨fl_J24_7, List.forall_mem_cons.mpr ⟨fl_J24_13, List.forall_mem_cons.mpr ⟨fl_J24_17, List.forall_mem_cons.mpr ⟨fl_J24_20, List.forall_mem_nil _⟩⟩⟩⟩
theorem pJ24_c : ∀ e ∈ pJ24.2, LdcOK RJ24 e.1 e.2 := List.forall_mem_nil _
theorem pJ24_ok : POK RJ24 pJ24 := ⟨fun i e h => pJ24_f (i, e) h, fun i v h => pJ24_c (i, v) h⟩
theorem pJ24_7 : lkp pJ24.1 7 = some (14, 0, .int, some true) := nrf rfl
theorem pJ24_13 : lkp pJ24.1 13 = some (14, 1, .object "java/lang/Object", some true) := nrf rfl
theorem pJ24_17 : lkp pJ24.1 17 = some (14, 2, .object "java/lang/Object", some false) := nrf rfl
theorem pJ24_20 : lkp pJ24.1 20 = some (14, 3, .object "java/util/HashMap$Node", some false) := nrf rfl
def pJ25 : Pool := ([], [])
theorem pJ25_f : ∀ e ∈ pJ25.1, FldE RJ25 e := List.forall_mem_nil _
theorem pJ25_c : ∀ e ∈ pJ25.2, LdcOK RJ25 e.1 e.2 := List.forall_mem_nil _
theorem pJ25_ok : POK RJ25 pJ25 := ⟨fun i e h => pJ25_f (i, e) h, fun i v h => pJ25_c (i, v) h⟩
theorem fl_J26_15 : FldRO RJ26 15 15 2 := ⟨RJ26, TJ26, 11, "java/util/HashMap$TreeNode", rfl, by decide, in_J26, Or.inr q1503, Or.inl q1502⟩
theorem fl_J26_45 : FldRO RJ26 45 15 3 := ⟨RJ26, TJ26, 11, "java/util/HashMap$TreeNode", rfl, by decide, in_J26, Or.inr q1507, Or.inl q1506⟩
theorem fl_J26_22 : FldOK RJ26 22 15 5 (.object "java/util/HashMap$Node") false := ⟨RJ26, TJ26, 11, tyJ26, "java/util/HashMap$TreeNode", rfl, by decide, in_J26, tyJ26_ok, nmJ26, rfl, rfl, (fun h => by cases h), Or.inr q1513, Or.inl q1512⟩
theorem fl_J26_112 : FldOK RJ26 112 14 3 (.object "java/util/HashMap$Node") false := ⟨RJ24, TJ24, 4, tyJ24, "java/util/HashMap$Node", rfl, by decide, in_J24, tyJ24_ok, nmJ24, rfl, rfl, (fun h => by cases h), Or.inl rfl, Or.inl q1514⟩
theorem fl_J26_112_J26 : FldOK RJ26 112 15 5 (.object "java/util/HashMap$Node") false := ⟨RJ26, TJ26, 11, tyJ26, "java/util/HashMap$Node", rfl, by decide, in_J26, tyJ26_ok, nmJ26, rfl, rfl, (fun h => by cases h), Or.inl rfl, Or.inl q1514⟩
theorem fl_J26_9 : FldOK RJ26 9 15 6 (.object "java/util/HashMap$TreeNode") false := ⟨RJ26, TJ26, 11, tyJ26, "java/util/HashMap$TreeNode", rfl, by decide, in_J26, tyJ26_ok, nmJ26, rfl, rfl, (fun _ => rfl), Or.inl rfl, Or.inl q1564⟩
theorem fl_J26_39 : FldOK RJ26 39 15 7 (.object "java/util/HashMap$TreeNode") false := ⟨RJ26, TJ26, 11, tyJ26, "java/util/HashMap$TreeNode", rfl, by decide, in_J26, tyJ26_ok, nmJ26, rfl, rfl, (fun _ => rfl), Or.inl rfl, Or.inl q1565⟩
theorem fl_J26_42 : FldOK RJ26 42 15 8 (.object "java/util/HashMap$TreeNode") false := ⟨RJ26, TJ26, 11, tyJ26, "java/util/HashMap$TreeNode", rfl, by decide, in_J26, tyJ26_ok, nmJ26, rfl, rfl, (fun _ => rfl), Or.inl rfl, Or.inl q1566⟩
theorem fl_J26_19 : FldOK RJ26 19 15 9 (.object "java/util/HashMap$TreeNode") false := ⟨RJ26, TJ26, 11, tyJ26, "java/util/HashMap$TreeNode", rfl, by decide, in_J26, tyJ26_ok, nmJ26, rfl, rfl, (fun _ => rfl), Or.inl rfl, Or.inl q1567⟩
theorem fl_J26_93 : FldOK RJ26 93 15 10 (.boolean) false := ⟨RJ26, TJ26, 11, tyJ26, "java/util/HashMap$TreeNode", rfl, by decide, in_J26, tyJ26_ok, nmJ26, rfl, rfl, (fun _ => rfl), Or.inl rfl, Or.inl q1569⟩
def pJ26 : Pool := ([(15, (15, 2, .int, none)), (45, (15, 3, .object "java/lang/Object", none)), (22, (15, 5, .object "java/util/HashMap$Node", some false)), (112, (14, 3, .object "java/util/HashMap$Node", some false)), (9, (15, 6, .object "java/util/HashMap$TreeNode", some false)), (39, (15, 7, .object "java/util/HashMap$TreeNode", some false)), (42, (15, 8, .object "java/util/HashMap$TreeNode", some false)), (19, (15, 9, .object "java/util/HashMap$TreeNode", some false)), (93, (15, 10, .boolean, some false))], [])
theorem pJ26_f : ∀ e ∈ pJ26.1, FldE RJ26 e := List.forall_mem_cons.mpr ⟨fl_J26_15, List.forall_mem_cons.mpr ⟨fl_J26_45, List.forall_mem_cons.mpr ⟨fl_J26_22, List.forall_mem_cons.mpr ⟨fl_J26_112, List.forall_mem_cons.mpr ⟨fl_J26_9, List.forall_mem_cons.mpr ⟨fl_J26_39, List.forall_mem_cons.mpr ⟨fl_J26_42, List.forall_mem_cons.mpr ⟨fl_J26_19, List.forall_mem_cons.mpr ⟨fl_J26_93, List.forall_mem_nil _⟩⟩⟩⟩⟩⟩⟩⟩⟩
theorem pJ26_c : ∀ e ∈ pJ26.2, LdcOK RJ26 e.1 e.2 := List.forall_mem_nil _
theorem pJ26_ok : POK RJ26 pJ26 := ⟨fun i e h => pJ26_f (i, e) h, fun i v h => pJ26_c (i, v) h⟩
theorem pJ26_15 : lkp pJ26.1 15 = some (15, 2, .int, none) := nrf rfl
theorem pJ26_45 : lkp pJ26.1 45 = some (15, 3, .object "java/lang/Object", none) := nrf rfl
theorem pJ26_22 : lkp pJ26.1 22 = some (15, 5, .object "java/util/HashMap$Node", some false) := nrf rfl
theorem pJ26_112 : lkp pJ26.1 112 = some (14, 3, .object "java/util/HashMap$Node", some false) := nrf rfl
theorem pJ26_9 : lkp pJ26.1 9 = some (15, 6, .object "java/util/HashMap$TreeNode", some false) := nrf rfl
theorem pJ26_39 : lkp pJ26.1 39 = some (15, 7, .object "java/util/HashMap$TreeNode", some false) := nrf rfl
theorem pJ26_42 : lkp pJ26.1 42 = some (15, 8, .object "java/util/HashMap$TreeNode", some false) := nrf rfl
theorem pJ26_19 : lkp pJ26.1 19 = some (15, 9, .object "java/util/HashMap$TreeNode", some false) := nrf rfl
theorem pJ26_93 : lkp pJ26.1 93 = some (15, 10, .boolean, some false) := nrf rfl
def pJ27 : Pool := ([], [])
theorem pJ27_f : ∀ e ∈ pJ27.1, FldE RJ27 e := List.forall_mem_nil _
theorem pJ27_c : ∀ e ∈ pJ27.2, LdcOK RJ27 e.1 e.2 := List.forall_mem_nil _
theorem pJ27_ok : POK RJ27 pJ27 := ⟨fun i e h => pJ27_f (i, e) h, fun i v h => pJ27_c (i, v) h⟩
def pJ28 : Pool := ([], [])
theorem pJ28_f : ∀ e ∈ pJ28.1, FldE RJ28 e := List.forall_mem_nil _
theorem pJ28_c : ∀ e ∈ pJ28.2, LdcOK RJ28 e.1 e.2 := List.forall_mem_nil _
theorem pJ28_ok : POK RJ28 pJ28 := ⟨fun i e h => pJ28_f (i, e) h, fun i v h => pJ28_c (i, v) h⟩
def pJ29 : Pool := ([], [])
theorem pJ29_f : ∀ e ∈ pJ29.1, FldE RJ29 e := List.forall_mem_nil _
theorem pJ29_c : ∀ e ∈ pJ29.2, LdcOK RJ29 e.1 e.2 := List.forall_mem_nil _
theorem pJ29_ok : POK RJ29 pJ29 := ⟨fun i e h => pJ29_f (i, e) h, fun i v h => pJ29_c (i, v) h⟩
theorem fl_J3_105 : FldOK RJ3 105 9 2 (.array (.object "java/util/HashMap$Node")) false := ⟨RJ3, TJ3, 8, tyJ3, "java/util/HashMap", rfl, by decide, in_J3, tyJ3_ok, nmJ3, rfl, rfl, (fun _ => rfl), Or.inl rfl, Or.inl q174⟩
theorem fl_J3_156 : FldOK RJ3 156 9 4 (.int) false := ⟨RJ3, TJ3, 8, tyJ3, "java/util/HashMap", rfl, by decide, in_J3, tyJ3_ok, nmJ3, rfl, rfl, (fun _ => rfl), Or.inl rfl, Or.inl q175⟩
theorem fl_J3_202 : FldOK RJ3 202 9 5 (.int) false := ⟨RJ3, TJ3, 8, tyJ3, "java/util/HashMap", rfl, by decide, in_J3, tyJ3_ok, nmJ3, rfl, rfl, (fun _ => rfl), Or.inl rfl, Or.inl q176⟩
theorem fl_J3_88 : FldOK RJ3 88 9 6 (.int) false := ⟨RJ3, TJ3, 8, tyJ3, "java/util/HashMap", rfl, by decide, in_J3, tyJ3_ok, nmJ3, rfl, rfl, (fun _ => rfl), Or.inl rfl, Or.inl q177⟩
theorem fl_J3_81 : FldOK RJ3 81 9 7 (.float) true := ⟨RJ3, TJ3, 8, tyJ3, "java/util/HashMap", rfl, by decide, in_J3, tyJ3_ok, nmJ3, rfl, rfl, (fun _ => rfl), Or.inl rfl, Or.inl q178⟩
theorem fl_J3_168 : FldRO RJ3 168 14 0 := ⟨RJ24, TJ24, 4, "java/util/HashMap$Node", rfl, by decide, in_J24, Or.inl rfl, Or.inl q1504⟩
theorem fl_J3_168_J26 : FldRO RJ3 168 15 2 := ⟨RJ26, TJ26, 11, "java/util/HashMap$Node", rfl, by decide, in_J26, Or.inl rfl, Or.inl q1504⟩
theorem fl_J3_170 : FldRO RJ3 170 14 1 := ⟨RJ24, TJ24, 4, "java/util/HashMap$Node", rfl, by decide, in_J24, Or.inl rfl, Or.inl q1508⟩
theorem fl_J3_170_J26 : FldRO RJ3 170 15 3 := ⟨RJ26, TJ26, 11, "java/util/HashMap$Node", rfl, by decide, in_J26, Or.inl rfl, Or.inl q1508⟩
theorem fl_J3_162 : FldOK RJ3 162 14 2 (.object "java/lang/Object") false := ⟨RJ24, TJ24, 4, tyJ24, "java/util/HashMap$Node", rfl, by decide, in_J24, tyJ24_ok, nmJ24, rfl, rfl, (fun h => by cases h), Or.inl rfl, Or.inl q1510⟩
theorem fl_J3_162_J26 : FldOK RJ3 162 15 4 (.object "java/lang/Object") false := ⟨RJ26, TJ26, 11, tyJ26, "java/util/HashMap$Node", rfl, by decide, in_J26, tyJ26_ok, nmJ26, rfl, rfl, (fun h => by cases h), Or.inl rfl, Or.inl q1510⟩
theorem fl_J3_177 : FldOK RJ3 177 14 3 (.object "java/util/HashMap$Node") false := ⟨RJ24, TJ24, 4, tyJ24, "java/util/HashMap$Node", rfl, by decide, in_J24, tyJ24_ok, nmJ24, rfl, rfl, (fun h => by cases h), Or.inl rfl, Or.inl q1515⟩
theorem fl_J3_177_J26 : FldOK RJ3 177 15 5 (.object "java/util/HashMap$Node") false := ⟨RJ26, TJ26, 11, tyJ26, "java/util/HashMap$Node", rfl, by decide, in_J26, tyJ26_ok, nmJ26, rfl, rfl, (fun h => by cases h), Or.inl rfl, Or.inl q1515⟩
theorem fl_J3_223 : FldOK RJ3 223 15 5 (.object "java/util/HashMap$Node") false := ⟨RJ26, TJ26, 11, tyJ26, "java/util/HashMap$TreeNode", rfl, by decide, in_J26, tyJ26_ok, nmJ26, rfl, rfl, (fun h => by cases h), Or.inr q1513, Or.inl q1516⟩
theorem fl_J3_219 : FldOK RJ3 219 15 9 (.object "java/util/HashMap$TreeNode") false := ⟨RJ26, TJ26, 11, tyJ26, "java/util/HashMap$TreeNode", rfl, by decide, in_J26, tyJ26_ok, nmJ26, rfl, rfl, (fun h => by cases h), Or.inl rfl, Or.inl q1568⟩
def pJ3 : Pool := ([(105, (9, 2, .array (.object "java/util/HashMap$Node"), some false)), (156, (9, 4, .int, some false)), (202, (9, 5, .int, some false)), (88, (9, 6, .int, some false)), (81, (9, 7, .float, some true)), (168, (14, 0, .int, none)), (170, (14, 1, .object "java/lang/Object", none)), (162, (14, 2, .object "java/lang/Object", some false)), (177, (14, 3, .object "java/util/HashMap$Node", some false)), (223, (15, 5, .object "java/util/HashMap$Node", some false)), (219, (15, 9, .object "java/util/HashMap$TreeNode", some false))], [(42, .int (iZ (1073741824))), (209, .int (iZ (2147483647)))])
theorem pJ3_f : ∀ e ∈ pJ3.1, FldE RJ3 e := List.forall_mem_cons.mpr ⟨fl_J3_105, List.forall_mem_cons.mpr ⟨fl_J3_156, List.forall_mem_cons.mpr ⟨fl_J3_202, List.forall_mem_cons.mpr ⟨fl_J3_88, List.forall_mem_cons.mpr ⟨fl_J3_81, List.forall_mem_cons.mpr ⟨fl_J3_168, List.forall_mem_cons.mpr ⟨fl_J3_170, List.forall_mem_cons.mpr ⟨fl_J3_162, List.forall_mem_cons.mpr ⟨fl_J3_177, List.forall_mem_cons.mpr ⟨fl_J3_223, List.forall_mem_cons.mpr ⟨fl_J3_219, List.forall_mem_nil _⟩⟩⟩⟩⟩⟩⟩⟩⟩⟩⟩
theorem pJ3_c : ∀ e ∈ pJ3.2, LdcOK RJ3 e.1 e.2 := List.forall_mem_cons.mpr ⟨Or.inl ⟨(1073741824 : Int32), (by decide +kernel), q1478⟩, List.forall_mem_cons.mpr ⟨Or.inl ⟨(2147483647 : Int32), (by decide +kernel), q1479⟩, List.forall_mem_nil _⟩⟩
theorem pJ3_ok : POK RJ3 pJ3 := ⟨fun i e h => pJ3_f (i, e) h, fun i v h => pJ3_c (i, v) h⟩
theorem pJ3_105 : lkp pJ3.1 105 = some (9, 2, .array (.object "java/util/HashMap$Node"), some false) := nrf rfl
theorem pJ3_156 : lkp pJ3.1 156 = some (9, 4, .int, some false) := nrf rfl
theorem pJ3_202 : lkp pJ3.1 202 = some (9, 5, .int, some false) := nrf rfl
theorem pJ3_88 : lkp pJ3.1 88 = some (9, 6, .int, some false) := nrf rfl
theorem pJ3_81 : lkp pJ3.1 81 = some (9, 7, .float, some true) := nrf rfl
theorem pJ3_168 : lkp pJ3.1 168 = some (14, 0, .int, none) := nrf rfl
theorem pJ3_170 : lkp pJ3.1 170 = some (14, 1, .object "java/lang/Object", none) := nrf rfl
theorem pJ3_162 : lkp pJ3.1 162 = some (14, 2, .object "java/lang/Object", some false) := nrf rfl
theorem pJ3_177 : lkp pJ3.1 177 = some (14, 3, .object "java/util/HashMap$Node", some false) := nrf rfl
theorem pJ3_223 : lkp pJ3.1 223 = some (15, 5, .object "java/util/HashMap$Node", some false) := nrf rfl
theorem pJ3_219 : lkp pJ3.1 219 = some (15, 9, .object "java/util/HashMap$TreeNode", some false) := nrf rfl
theorem pJ3_c42 : lkp pJ3.2 42 = some (.int (iZ (1073741824))) := nrf rfl
theorem pJ3_c209 : lkp pJ3.2 209 = some (.int (iZ (2147483647))) := nrf rfl
def pJ30 : Pool := ([], [])
theorem pJ30_f : ∀ e ∈ pJ30.1, FldE RJ30 e := List.forall_mem_nil _
theorem pJ30_c : ∀ e ∈ pJ30.2, LdcOK RJ30 e.1 e.2 := List.forall_mem_nil _
theorem pJ30_ok : POK RJ30 pJ30 := ⟨fun i e h => pJ30_f (i, e) h, fun i v h => pJ30_c (i, v) h⟩
def pJ31 : Pool := ([], [])
theorem pJ31_f : ∀ e ∈ pJ31.1, FldE RJ31 e := List.forall_mem_nil _
theorem pJ31_c : ∀ e ∈ pJ31.2, LdcOK RJ31 e.1 e.2 := List.forall_mem_nil _
theorem pJ31_ok : POK RJ31 pJ31 := ⟨fun i e h => pJ31_f (i, e) h, fun i v h => pJ31_c (i, v) h⟩
def pJ32 : Pool := ([], [])
theorem pJ32_f : ∀ e ∈ pJ32.1, FldE RJ32 e := List.forall_mem_nil _
theorem pJ32_c : ∀ e ∈ pJ32.2, LdcOK RJ32 e.1 e.2 := List.forall_mem_nil _
theorem pJ32_ok : POK RJ32 pJ32 := ⟨fun i e h => pJ32_f (i, e) h, fun i v h => pJ32_c (i, v) h⟩
theorem fl_J4_7 : FldOK RJ4 7 10 0 (.int) false := ⟨RJ5, TJ5, 3, tyJ5, "java/util/AbstractList", rfl, by decide, in_J5, tyJ5_ok, nmJ5, rfl, rfl, (fun _ => rfl), Or.inl rfl, Or.inl q209⟩
def pJ4 : Pool := ([(7, (10, 0, .int, some false))], [])
theorem pJ4_f : ∀ e ∈ pJ4.1, FldE RJ4 e := List.forall_mem_cons.mpr ⟨fl_J4_7, List.forall_mem_nil _⟩
theorem pJ4_c : ∀ e ∈ pJ4.2, LdcOK RJ4 e.1 e.2 := List.forall_mem_nil _
theorem pJ4_ok : POK RJ4 pJ4 := ⟨fun i e h => pJ4_f (i, e) h, fun i v h => pJ4_c (i, v) h⟩
theorem pJ4_7 : lkp pJ4.1 7 = some (10, 0, .int, some false) := nrf rfl
theorem fl_J5_9 : FldOK RJ5 9 10 1 (.array (.object "java/lang/Object")) false := ⟨RJ5, TJ5, 3, tyJ5, "java/util/ArrayList", rfl, by decide, in_J5, tyJ5_ok, nmJ5, rfl, rfl, (fun _ => rfl), Or.inl rfl, Or.inl q207⟩
theorem fl_J5_48 : FldOK RJ5 48 10 2 (.int) false := ⟨RJ5, TJ5, 3, tyJ5, "java/util/ArrayList", rfl, by decide, in_J5, tyJ5_ok, nmJ5, rfl, rfl, (fun _ => rfl), Or.inl rfl, Or.inl q208⟩
theorem fl_J5_63 : FldOK RJ5 63 10 0 (.int) false := ⟨RJ5, TJ5, 3, tyJ5, "java/util/ArrayList", rfl, by decide, in_J5, tyJ5_ok, nmJ5, rfl, rfl, (fun h => by cases h), Or.inr q211, Or.inl q210⟩
def pJ5 : Pool := ([(9, (10, 1, .array (.object "java/lang/Object"), some false)), (48, (10, 2, .int, some false)), (63, (10, 0, .int, some false))], [])
theorem pJ5_f : ∀ e ∈ pJ5.1, FldE RJ5 e := List.forall_mem_cons.mpr ⟨fl_J5_9, List.forall_mem_cons.mpr ⟨fl_J5_48, List.forall_mem_cons.mpr ⟨fl_J5_63, List.forall_mem_nil _⟩⟩⟩
theorem pJ5_c : ∀ e ∈ pJ5.2, LdcOK RJ5 e.1 e.2 := List.forall_mem_nil _
theorem pJ5_ok : POK RJ5 pJ5 := ⟨fun i e h => pJ5_f (i, e) h, fun i v h => pJ5_c (i, v) h⟩
theorem pJ5_9 : lkp pJ5.1 9 = some (10, 1, .array (.object "java/lang/Object"), some false) := nrf rfl
theorem pJ5_48 : lkp pJ5.1 48 = some (10, 2, .int, some false) := nrf rfl
theorem pJ5_63 : lkp pJ5.1 63 = some (10, 0, .int, some false) := nrf rfl
theorem fl_J6_1048 : FldOK RJ6 1048 12 2 (.boolean) false := ⟨RJ15, TJ15, 4, tyJ15, "java/lang/AbstractStringBuilder", rfl, by decide, in_J15, tyJ15_ok, nmJ15, rfl, rfl, (fun h => by cases h), Or.inl rfl, Or.inl q348⟩
theorem fl_J6_9 : FldOK RJ6 9 11 0 (.array .byte) true := ⟨RJ6, TJ6, 4, tyJ6, "java/lang/String", rfl, by decide, in_J6, tyJ6_ok, nmJ6, rfl, rfl, (fun _ => rfl), Or.inl rfl, Or.inl q574⟩
theorem fl_J6_15 : FldOK RJ6 15 11 1 (.byte) true := ⟨RJ6, TJ6, 4, tyJ6, "java/lang/String", rfl, by decide, in_J6, tyJ6_ok, nmJ6, rfl, rfl, (fun _ => rfl), Or.inl rfl, Or.inl q575⟩
theorem fl_J6_19 : FldOK RJ6 19 11 2 (.int) false := ⟨RJ6, TJ6, 4, tyJ6, "java/lang/String", rfl, by decide, in_J6, tyJ6_ok, nmJ6, rfl, rfl, (fun _ => rfl), Or.inl rfl, Or.inl q576⟩
theorem fl_J6_23 : FldOK RJ6 23 11 3 (.boolean) false := ⟨RJ6, TJ6, 4, tyJ6, "java/lang/String", rfl, by decide, in_J6, tyJ6_ok, nmJ6, rfl, rfl, (fun _ => rfl), Or.inl rfl, Or.inl q577⟩
def pJ6 : Pool := ([(1048, (12, 2, .boolean, some false)), (9, (11, 0, .array .byte, some true)), (15, (11, 1, .byte, some true)), (19, (11, 2, .int, some false)), (23, (11, 3, .boolean, some false))], [])
theorem pJ6_f : ∀ e ∈ pJ6.1, FldE RJ6 e := List.forall_mem_cons.mpr ⟨fl_J6_1048, List.forall_mem_cons.mpr ⟨fl_J6_9, List.forall_mem_cons.mpr ⟨fl_J6_15, List.forall_mem_cons.mpr ⟨fl_J6_19, List.forall_mem_cons.mpr ⟨fl_J6_23, List.forall_mem_nil _⟩⟩⟩⟩⟩
theorem pJ6_c : ∀ e ∈ pJ6.2, LdcOK RJ6 e.1 e.2 := List.forall_mem_nil _
theorem pJ6_ok : POK RJ6 pJ6 := ⟨fun i e h => pJ6_f (i, e) h, fun i v h => pJ6_c (i, v) h⟩
theorem pJ6_1048 : lkp pJ6.1 1048 = some (12, 2, .boolean, some false) := nrf rfl
theorem pJ6_9 : lkp pJ6.1 9 = some (11, 0, .array .byte, some true) := nrf rfl
theorem pJ6_15 : lkp pJ6.1 15 = some (11, 1, .byte, some true) := nrf rfl
theorem pJ6_19 : lkp pJ6.1 19 = some (11, 2, .int, some false) := nrf rfl
theorem pJ6_23 : lkp pJ6.1 23 = some (11, 3, .boolean, some false) := nrf rfl
def pJ7 : Pool := ([], [])
theorem pJ7_f : ∀ e ∈ pJ7.1, FldE RJ7 e := List.forall_mem_nil _
theorem pJ7_c : ∀ e ∈ pJ7.2, LdcOK RJ7 e.1 e.2 := List.forall_mem_nil _
theorem pJ7_ok : POK RJ7 pJ7 := ⟨fun i e h => pJ7_f (i, e) h, fun i v h => pJ7_c (i, v) h⟩
def pJ8 : Pool := ([], [(200, .int (iZ (2147483639)))])
theorem pJ8_f : ∀ e ∈ pJ8.1, FldE RJ8 e := List.forall_mem_nil _
theorem pJ8_c : ∀ e ∈ pJ8.2, LdcOK RJ8 e.1 e.2 := List.forall_mem_cons.mpr ⟨Or.inl ⟨(2147483639 : Int32), (by decide +kernel), q385⟩, List.forall_mem_nil _⟩
theorem pJ8_ok : POK RJ8 pJ8 := ⟨fun i e h => pJ8_f (i, e) h, fun i v h => pJ8_c (i, v) h⟩
theorem pJ8_c200 : lkp pJ8.2 200 = some (.int (iZ (2147483639))) := nrf rfl
def pJ9 : Pool := ([], [(20, .int (iZ (1073741823)))])
theorem pJ9_f : ∀ e ∈ pJ9.1, FldE RJ9 e := List.forall_mem_nil _
theorem pJ9_c : ∀ e ∈ pJ9.2, LdcOK RJ9 e.1 e.2 := List.forall_mem_cons.mpr ⟨Or.inl ⟨(1073741823 : Int32), (by decide +kernel), q345⟩, List.forall_mem_nil _⟩
theorem pJ9_ok : POK RJ9 pJ9 := ⟨fun i e h => pJ9_f (i, e) h, fun i v h => pJ9_c (i, v) h⟩
theorem pJ9_c20 : lkp pJ9.2 20 = some (.int (iZ (1073741823))) := nrf rfl
def pX0 : Pool := ([], [])
theorem pX0_f : ∀ e ∈ pX0.1, FldE RX0 e := List.forall_mem_nil _
theorem pX0_c : ∀ e ∈ pX0.2, LdcOK RX0 e.1 e.2 := List.forall_mem_nil _
theorem pX0_ok : POK RX0 pX0 := ⟨fun i e h => pX0_f (i, e) h, fun i v h => pX0_c (i, v) h⟩
theorem fl_X1_87 : FldOK RX1 87 0 0 (.array .byte) true := ⟨RX1, TX1, 5, tyX1, "CornerClaims", rfl, by decide, in_X1, tyX1_ok, nmX1, rfl, rfl, (fun _ => rfl), Or.inl rfl, Or.inl q682⟩
theorem fl_X1_94 : FldOK RX1 94 0 1 (.object "java/util/ArrayDeque") true := ⟨RX1, TX1, 5, tyX1, "CornerClaims", rfl, by decide, in_X1, tyX1_ok, nmX1, rfl, rfl, (fun _ => rfl), Or.inl rfl, Or.inl q683⟩
theorem fl_X1_108 : FldOK RX1 108 0 2 (.object "CornerClaims$Field") false := ⟨RX1, TX1, 5, tyX1, "CornerClaims", rfl, by decide, in_X1, tyX1_ok, nmX1, rfl, rfl, (fun _ => rfl), Or.inl rfl, Or.inl q684⟩
theorem fl_X1_183 : FldOK RX1 183 0 3 (.int) false := ⟨RX1, TX1, 5, tyX1, "CornerClaims", rfl, by decide, in_X1, tyX1_ok, nmX1, rfl, rfl, (fun _ => rfl), Or.inl rfl, Or.inl q685⟩
theorem fl_X1_112 : FldOK RX1 112 0 4 (.int) false := ⟨RX1, TX1, 5, tyX1, "CornerClaims", rfl, by decide, in_X1, tyX1_ok, nmX1, rfl, rfl, (fun _ => rfl), Or.inl rfl, Or.inl q686⟩
theorem fl_X1_208 : FldRO RX1 208 2 0 := ⟨RX3, TX3, 6, "CornerClaims$Layout", rfl, by decide, in_X3, Or.inl rfl, Or.inr ⟨_, q635⟩⟩
theorem fl_X1_211 : FldRO RX1 211 2 1 := ⟨RX3, TX3, 6, "CornerClaims$Layout", rfl, by decide, in_X3, Or.inl rfl, Or.inr ⟨_, q638⟩⟩
theorem fl_X1_214 : FldRO RX1 214 2 3 := ⟨RX3, TX3, 6, "CornerClaims$Layout", rfl, by decide, in_X3, Or.inl rfl, Or.inr ⟨_, q644⟩⟩
theorem fl_X1_228 : FldRO RX1 228 2 4 := ⟨RX3, TX3, 6, "CornerClaims$Layout", rfl, by decide, in_X3, Or.inl rfl, Or.inr ⟨_, q647⟩⟩
theorem fl_X1_154 : FldRO RX1 154 1 0 := ⟨RX2, TX2, 2, "CornerClaims$Field", rfl, by decide, in_X2, Or.inl rfl, Or.inr ⟨_, q672⟩⟩
theorem fl_X1_124 : FldRO RX1 124 1 1 := ⟨RX2, TX2, 2, "CornerClaims$Field", rfl, by decide, in_X2, Or.inl rfl, Or.inr ⟨_, q674⟩⟩
theorem fl_X1_203 : FldRO RX1 203 5 6 := ⟨RX6, TX6, 8, "CornerClaims$SetupException", rfl, by decide, in_X6, Or.inl rfl, Or.inr ⟨_, q1025⟩⟩
theorem fl_X1_200 : FldRO RX1 200 5 7 := ⟨RX6, TX6, 8, "CornerClaims$SetupException", rfl, by decide, in_X6, Or.inl rfl, Or.inr ⟨_, q1027⟩⟩
theorem fl_X1_44 : FldRO RX1 44 6 0 := ⟨RX7, TX7, 2, "CornerClaims$Point", rfl, by decide, in_X7, Or.inl rfl, Or.inr ⟨_, q1080⟩⟩
theorem fl_X1_50 : FldRO RX1 50 6 1 := ⟨RX7, TX7, 2, "CornerClaims$Point", rfl, by decide, in_X7, Or.inl rfl, Or.inr ⟨_, q1083⟩⟩
theorem fl_X1_239 : FldRO RX1 239 7 0 := ⟨RX8, TX8, 3, "CornerClaims$Polygon", rfl, by decide, in_X8, Or.inl rfl, Or.inr ⟨_, q1653⟩⟩
theorem fl_X1_297 : FldRO RX1 297 7 1 := ⟨RX8, TX8, 3, "CornerClaims$Polygon", rfl, by decide, in_X8, Or.inl rfl, Or.inr ⟨_, q1657⟩⟩
theorem fl_X1_146 : FldOK RX1 146 7 2 (.boolean) false := ⟨RX8, TX8, 3, tyX8, "CornerClaims$Polygon", rfl, by decide, in_X8, tyX8_ok, nmX8, rfl, rfl, (fun h => by cases h), Or.inl rfl, Or.inr ⟨rfl, _, q1660⟩⟩
def pX1 : Pool := ([(87, (0, 0, .array .byte, some true)), (94, (0, 1, .object "java/util/ArrayDeque", some true)), (108, (0, 2, .object "CornerClaims$Field", some false)), (183, (0, 3, .int, some false)), (112, (0, 4, .int, some false)), (208, (2, 0, .int, none)), (211, (2, 1, .int, none)), (214, (2, 3, .object "java/util/List", none)), (228, (2, 4, .object "java/util/List", none)), (154, (1, 0, .object "CornerClaims$Layout", none)), (124, (1, 1, .object "java/util/List", none)), (203, (5, 6, .int, none)), (200, (5, 7, .int, none)), (44, (6, 0, .int, none)), (50, (6, 1, .int, none)), (239, (7, 0, .int, none)), (297, (7, 1, .object "java/util/List", none)), (146, (7, 2, .boolean, some false))], [(345, .long (lZ (-1000000))), (347, .long (lZ (1000000))), (334, .long (lZ (31))), (206, .long (lZ (5))), (226, .long (lZ (3))), (237, .long (lZ (2)))])
theorem pX1_f : ∀ e ∈ pX1.1, FldE RX1 e := List.forall_mem_cons.mpr ⟨fl_X1_87, List.forall_mem_cons.mpr ⟨fl_X1_94, List.forall_mem_cons.mpr ⟨fl_X1_108, List.forall_mem_cons.mpr ⟨fl_X1_183, List.forall_mem_cons.mpr ⟨fl_X1_112, List.forall_mem_cons.mpr ⟨fl_X1_208, List.forall_mem_cons.mpr ⟨fl_X1_211, List.forall_mem_cons.mpr ⟨fl_X1_214, List.forall_mem_cons.mpr ⟨fl_X1_228, List.forall_mem_cons.mpr ⟨fl_X1_154, List.forall_mem_cons.mpr ⟨fl_X1_124, List.forall_mem_cons.mpr ⟨fl_X1_203, List.forall_mem_cons.mpr ⟨fl_X1_200, List.forall_mem_cons.mpr ⟨fl_X1_44, List.forall_mem_cons.mpr ⟨fl_X1_50, List.forall_mem_cons.mpr ⟨fl_X1_239, List.forall_mem_cons.mpr ⟨fl_X1_297, List.forall_mem_cons.mpr ⟨fl_X1_146, List.forall_mem_nil _⟩⟩⟩⟩⟩⟩⟩⟩⟩⟩⟩⟩⟩⟩⟩⟩⟩⟩
theorem pX1_c : ∀ e ∈ pX1.2, LdcOK RX1 e.1 e.2 := List.forall_mem_cons.mpr ⟨Or.inr ⟨(-1000000 : Int64), (by decide +kernel), q625⟩, List.forall_mem_cons.mpr ⟨Or.inr ⟨(1000000 : Int64), (by decide +kernel), q626⟩, List.forall_mem_cons.mpr ⟨Or.inr ⟨(31 : Int64), (by decide +kernel), q905⟩, List.forall_mem_cons.mpr ⟨Or.inr ⟨(5 : Int64), (by decide +kernel), q1772⟩, List.forall_mem_cons.mpr ⟨Or.inr ⟨(3 : Int64), (by decide +kernel), q1798⟩, List.forall_mem_cons.mpr ⟨Or.inr ⟨(2 : Int64), (by decide +kernel), q1847⟩, List.forall_mem_nil _⟩⟩⟩⟩⟩⟩
theorem pX1_ok : POK RX1 pX1 := ⟨fun i e h => pX1_f (i, e) h, fun i v h => pX1_c (i, v) h⟩
theorem pX1_87 : lkp pX1.1 87 = some (0, 0, .array .byte, some true) := nrf rfl
theorem pX1_94 : lkp pX1.1 94 = some (0, 1, .object "java/util/ArrayDeque", some true) := nrf rfl
theorem pX1_108 : lkp pX1.1 108 = some (0, 2, .object "CornerClaims$Field", some false) := nrf rfl
theorem pX1_183 : lkp pX1.1 183 = some (0, 3, .int, some false) := nrf rfl
theorem pX1_112 : lkp pX1.1 112 = some (0, 4, .int, some false) := nrf rfl
theorem pX1_208 : lkp pX1.1 208 = some (2, 0, .int, none) := nrf rfl
theorem pX1_211 : lkp pX1.1 211 = some (2, 1, .int, none) := nrf rfl
theorem pX1_214 : lkp pX1.1 214 = some (2, 3, .object "java/util/List", none) := nrf rfl
theorem pX1_228 : lkp pX1.1 228 = some (2, 4, .object "java/util/List", none) := nrf rfl
theorem pX1_154 : lkp pX1.1 154 = some (1, 0, .object "CornerClaims$Layout", none) := nrf rfl
theorem pX1_124 : lkp pX1.1 124 = some (1, 1, .object "java/util/List", none) := nrf rfl
theorem pX1_203 : lkp pX1.1 203 = some (5, 6, .int, none) := nrf rfl
theorem pX1_200 : lkp pX1.1 200 = some (5, 7, .int, none) := nrf rfl
theorem pX1_44 : lkp pX1.1 44 = some (6, 0, .int, none) := nrf rfl
theorem pX1_50 : lkp pX1.1 50 = some (6, 1, .int, none) := nrf rfl
theorem pX1_239 : lkp pX1.1 239 = some (7, 0, .int, none) := nrf rfl
theorem pX1_297 : lkp pX1.1 297 = some (7, 1, .object "java/util/List", none) := nrf rfl
theorem pX1_146 : lkp pX1.1 146 = some (7, 2, .boolean, some false) := nrf rfl
theorem pX1_c345 : lkp pX1.2 345 = some (.long (lZ (-1000000))) := nrf rfl
theorem pX1_c347 : lkp pX1.2 347 = some (.long (lZ (1000000))) := nrf rfl
theorem pX1_c334 : lkp pX1.2 334 = some (.long (lZ (31))) := nrf rfl
theorem pX1_c206 : lkp pX1.2 206 = some (.long (lZ (5))) := nrf rfl
theorem pX1_c226 : lkp pX1.2 226 = some (.long (lZ (3))) := nrf rfl
theorem pX1_c237 : lkp pX1.2 237 = some (.long (lZ (2))) := nrf rfl
theorem fl_X2_18 : FldOK RX2 18 1 0 (.object "CornerClaims$Layout") true := ⟨RX2, TX2, 2, tyX2, "CornerClaims$Field", rfl, by decide, in_X2, tyX2_ok, nmX2, rfl, rfl, (fun _ => rfl), Or.inl rfl, Or.inl q670⟩
theorem fl_X2_12 : FldOK RX2 12 1 1 (.object "java/util/List") true := ⟨RX2, TX2, 2, tyX2, "CornerClaims$Field", rfl, by decide, in_X2, tyX2_ok, nmX2, rfl, rfl, (fun _ => rfl), Or.inl rfl, Or.inl q673⟩
theorem fl_X2_51 : FldRO RX2 51 2 2 := ⟨RX3, TX3, 6, "CornerClaims$Layout", rfl, by decide, in_X3, Or.inl rfl, Or.inr ⟨_, q640⟩⟩
theorem fl_X2_80 : FldRO RX2 80 2 3 := ⟨RX3, TX3, 6, "CornerClaims$Layout", rfl, by decide, in_X3, Or.inl rfl, Or.inr ⟨_, q642⟩⟩
theorem fl_X2_131 : FldRO RX2 131 2 4 := ⟨RX3, TX3, 6, "CornerClaims$Layout", rfl, by decide, in_X3, Or.inl rfl, Or.inr ⟨_, q646⟩⟩
theorem fl_X2_139 : FldOK RX2 139 2 5 (.object "CornerClaims$Score") false := ⟨RX3, TX3, 6, tyX3, "CornerClaims$Layout", rfl, by decide, in_X3, tyX3_ok, nmX3, rfl, rfl, (fun h => by cases h), Or.inl rfl, Or.inr ⟨rfl, _, q650⟩⟩
theorem fl_X2_168 : FldRO RX2 168 7 0 := ⟨RX8, TX8, 3, "CornerClaims$Polygon", rfl, by decide, in_X8, Or.inl rfl, Or.inr ⟨_, q1652⟩⟩
theorem fl_X2_45 : FldRO RX2 45 7 1 := ⟨RX8, TX8, 3, "CornerClaims$Polygon", rfl, by decide, in_X8, Or.inl rfl, Or.inr ⟨_, q1655⟩⟩
theorem fl_X2_96 : FldOK RX2 96 7 2 (.boolean) false := ⟨RX8, TX8, 3, tyX8, "CornerClaims$Polygon", rfl, by decide, in_X8, tyX8_ok, nmX8, rfl, rfl, (fun h => by cases h), Or.inl rfl, Or.inr ⟨rfl, _, q1659⟩⟩
def pX2 : Pool := ([(18, (1, 0, .object "CornerClaims$Layout", some true)), (12, (1, 1, .object "java/util/List", some true)), (51, (2, 2, .object "java/util/HashMap", none)), (80, (2, 3, .object "java/util/List", none)), (131, (2, 4, .object "java/util/List", none)), (139, (2, 5, .object "CornerClaims$Score", some false)), (168, (7, 0, .int, none)), (45, (7, 1, .object "java/util/List", none)), (96, (7, 2, .boolean, some false))], [(155, .long (lZ (-99999))), (157, .long (lZ (99999)))])
theorem pX2_f : ∀ e ∈ pX2.1, FldE RX2 e := List.forall_mem_cons.mpr ⟨fl_X2_18, List.forall_mem_cons.mpr ⟨fl_X2_12, List.forall_mem_cons.mpr ⟨fl_X2_51, List.forall_mem_cons.mpr ⟨fl_X2_80, List.forall_mem_cons.mpr ⟨fl_X2_131, List.forall_mem_cons.mpr ⟨fl_X2_139, List.forall_mem_cons.mpr ⟨fl_X2_168, List.forall_mem_cons.mpr ⟨fl_X2_45, List.forall_mem_cons.mpr ⟨fl_X2_96, List.forall_mem_nil _⟩⟩⟩⟩⟩⟩⟩⟩⟩
theorem pX2_c : ∀ e ∈ pX2.2, LdcOK RX2 e.1 e.2 := List.forall_mem_cons.mpr ⟨Or.inr ⟨(-99999 : Int64), (by decide +kernel), q839⟩, List.forall_mem_cons.mpr ⟨Or.inr ⟨(99999 : Int64), (by decide +kernel), q840⟩, List.forall_mem_nil _⟩⟩
theorem pX2_ok : POK RX2 pX2 := ⟨fun i e h => pX2_f (i, e) h, fun i v h => pX2_c (i, v) h⟩
theorem pX2_18 : lkp pX2.1 18 = some (1, 0, .object "CornerClaims$Layout", some true) := nrf rfl
theorem pX2_12 : lkp pX2.1 12 = some (1, 1, .object "java/util/List", some true) := nrf rfl
theorem pX2_51 : lkp pX2.1 51 = some (2, 2, .object "java/util/HashMap", none) := nrf rfl
theorem pX2_80 : lkp pX2.1 80 = some (2, 3, .object "java/util/List", none) := nrf rfl
theorem pX2_131 : lkp pX2.1 131 = some (2, 4, .object "java/util/List", none) := nrf rfl
theorem pX2_139 : lkp pX2.1 139 = some (2, 5, .object "CornerClaims$Score", some false) := nrf rfl
theorem pX2_168 : lkp pX2.1 168 = some (7, 0, .int, none) := nrf rfl
theorem pX2_45 : lkp pX2.1 45 = some (7, 1, .object "java/util/List", none) := nrf rfl
theorem pX2_96 : lkp pX2.1 96 = some (7, 2, .boolean, some false) := nrf rfl
theorem pX2_c155 : lkp pX2.2 155 = some (.long (lZ (-99999))) := nrf rfl
theorem pX2_c157 : lkp pX2.2 157 = some (.long (lZ (99999))) := nrf rfl
theorem fl_X3_43 : FldOK RX3 43 2 0 (.int) true := ⟨RX3, TX3, 6, tyX3, "CornerClaims$Layout", rfl, by decide, in_X3, tyX3_ok, nmX3, rfl, rfl, (fun _ => rfl), Or.inl rfl, Or.inl q633⟩
theorem fl_X3_47 : FldOK RX3 47 2 1 (.int) true := ⟨RX3, TX3, 6, tyX3, "CornerClaims$Layout", rfl, by decide, in_X3, tyX3_ok, nmX3, rfl, rfl, (fun _ => rfl), Or.inl rfl, Or.inl q636⟩
theorem fl_X3_10 : FldOK RX3 10 2 2 (.object "java/util/HashMap") true := ⟨RX3, TX3, 6, tyX3, "CornerClaims$Layout", rfl, by decide, in_X3, tyX3_ok, nmX3, rfl, rfl, (fun _ => rfl), Or.inl rfl, Or.inl q639⟩
theorem fl_X3_19 : FldOK RX3 19 2 3 (.object "java/util/List") true := ⟨RX3, TX3, 6, tyX3, "CornerClaims$Layout", rfl, by decide, in_X3, tyX3_ok, nmX3, rfl, rfl, (fun _ => rfl), Or.inl rfl, Or.inl q641⟩
theorem fl_X3_23 : FldOK RX3 23 2 4 (.object "java/util/List") true := ⟨RX3, TX3, 6, tyX3, "CornerClaims$Layout", rfl, by decide, in_X3, tyX3_ok, nmX3, rfl, rfl, (fun _ => rfl), Or.inl rfl, Or.inl q645⟩
theorem fl_X3_39 : FldOK RX3 39 2 5 (.object "CornerClaims$Score") false := ⟨RX3, TX3, 6, tyX3, "CornerClaims$Layout", rfl, by decide, in_X3, tyX3_ok, nmX3, rfl, rfl, (fun _ => rfl), Or.inl rfl, Or.inl q648⟩
def pX3 : Pool := ([(43, (2, 0, .int, some true)), (47, (2, 1, .int, some true)), (10, (2, 2, .object "java/util/HashMap", some true)), (19, (2, 3, .object "java/util/List", some true)), (23, (2, 4, .object "java/util/List", some true)), (39, (2, 5, .object "CornerClaims$Score", some false))], [])
theorem pX3_f : ∀ e ∈ pX3.1, FldE RX3 e := List.forall_mem_cons.mpr ⟨fl_X3_43, List.forall_mem_cons.mpr ⟨fl_X3_47, List.forall_mem_cons.mpr ⟨fl_X3_10, List.forall_mem_cons.mpr ⟨fl_X3_19, List.forall_mem_cons.mpr ⟨fl_X3_23, List.forall_mem_cons.mpr ⟨fl_X3_39, List.forall_mem_nil _⟩⟩⟩⟩⟩⟩
theorem pX3_c : ∀ e ∈ pX3.2, LdcOK RX3 e.1 e.2 := List.forall_mem_nil _
theorem pX3_ok : POK RX3 pX3 := ⟨fun i e h => pX3_f (i, e) h, fun i v h => pX3_c (i, v) h⟩
theorem pX3_43 : lkp pX3.1 43 = some (2, 0, .int, some true) := nrf rfl
theorem pX3_47 : lkp pX3.1 47 = some (2, 1, .int, some true) := nrf rfl
theorem pX3_10 : lkp pX3.1 10 = some (2, 2, .object "java/util/HashMap", some true) := nrf rfl
theorem pX3_19 : lkp pX3.1 19 = some (2, 3, .object "java/util/List", some true) := nrf rfl
theorem pX3_23 : lkp pX3.1 23 = some (2, 4, .object "java/util/List", some true) := nrf rfl
theorem pX3_39 : lkp pX3.1 39 = some (2, 5, .object "CornerClaims$Score", some false) := nrf rfl
theorem fl_X4_32 : FldOK RX4 32 3 0 (.int) false := ⟨RX4, TX4, 20, tyX4, "CornerClaimsModel", rfl, by decide, in_X4, tyX4_ok, nmX4, rfl, rfl, (fun _ => rfl), Or.inl rfl, Or.inl q2079⟩
theorem fl_X4_9 : FldOK RX4 9 3 1 (.array .int) true := ⟨RX4, TX4, 20, tyX4, "CornerClaimsModel", rfl, by decide, in_X4, tyX4_ok, nmX4, rfl, rfl, (fun _ => rfl), Or.inl rfl, Or.inl q2080⟩
theorem fl_X4_127 : FldOK RX4 127 3 2 (.int) false := ⟨RX4, TX4, 20, tyX4, "CornerClaimsModel", rfl, by decide, in_X4, tyX4_ok, nmX4, rfl, rfl, (fun _ => rfl), Or.inl rfl, Or.inl q2081⟩
theorem fl_X4_130 : FldOK RX4 130 3 3 (.int) false := ⟨RX4, TX4, 20, tyX4, "CornerClaimsModel", rfl, by decide, in_X4, tyX4_ok, nmX4, rfl, rfl, (fun _ => rfl), Or.inl rfl, Or.inl q2082⟩
theorem fl_X4_133 : FldOK RX4 133 3 4 (.int) false := ⟨RX4, TX4, 20, tyX4, "CornerClaimsModel", rfl, by decide, in_X4, tyX4_ok, nmX4, rfl, rfl, (fun _ => rfl), Or.inl rfl, Or.inl q2083⟩
theorem fl_X4_139 : FldOK RX4 139 3 5 (.int) false := ⟨RX4, TX4, 20, tyX4, "CornerClaimsModel", rfl, by decide, in_X4, tyX4_ok, nmX4, rfl, rfl, (fun _ => rfl), Or.inl rfl, Or.inl q2084⟩
theorem fl_X4_142 : FldOK RX4 142 3 6 (.int) false := ⟨RX4, TX4, 20, tyX4, "CornerClaimsModel", rfl, by decide, in_X4, tyX4_ok, nmX4, rfl, rfl, (fun _ => rfl), Or.inl rfl, Or.inl q2085⟩
theorem fl_X4_13 : FldOK RX4 13 3 7 (.int) false := ⟨RX4, TX4, 20, tyX4, "CornerClaimsModel", rfl, by decide, in_X4, tyX4_ok, nmX4, rfl, rfl, (fun _ => rfl), Or.inl rfl, Or.inl q2086⟩
theorem fl_X4_17 : FldOK RX4 17 3 8 (.array .int) true := ⟨RX4, TX4, 20, tyX4, "CornerClaimsModel", rfl, by decide, in_X4, tyX4_ok, nmX4, rfl, rfl, (fun _ => rfl), Or.inl rfl, Or.inl q2087⟩
theorem fl_X4_20 : FldOK RX4 20 3 9 (.array .int) true := ⟨RX4, TX4, 20, tyX4, "CornerClaimsModel", rfl, by decide, in_X4, tyX4_ok, nmX4, rfl, rfl, (fun _ => rfl), Or.inl rfl, Or.inl q2088⟩
theorem fl_X4_25 : FldOK RX4 25 3 10 (.array (.array .int)) true := ⟨RX4, TX4, 20, tyX4, "CornerClaimsModel", rfl, by decide, in_X4, tyX4_ok, nmX4, rfl, rfl, (fun _ => rfl), Or.inl rfl, Or.inl q2089⟩
theorem fl_X4_315 : FldOK RX4 315 3 11 (.int) false := ⟨RX4, TX4, 20, tyX4, "CornerClaimsModel", rfl, by decide, in_X4, tyX4_ok, nmX4, rfl, rfl, (fun _ => rfl), Or.inl rfl, Or.inl q2090⟩
theorem fl_X4_87 : FldOK RX4 87 3 12 (.int) false := ⟨RX4, TX4, 20, tyX4, "CornerClaimsModel", rfl, by decide, in_X4, tyX4_ok, nmX4, rfl, rfl, (fun _ => rfl), Or.inl rfl, Or.inl q2091⟩
theorem fl_X4_90 : FldOK RX4 90 3 13 (.int) false := ⟨RX4, TX4, 20, tyX4, "CornerClaimsModel", rfl, by decide, in_X4, tyX4_ok, nmX4, rfl, rfl, (fun _ => rfl), Or.inl rfl, Or.inl q2092⟩
theorem fl_X4_93 : FldOK RX4 93 3 14 (.int) false := ⟨RX4, TX4, 20, tyX4, "CornerClaimsModel", rfl, by decide, in_X4, tyX4_ok, nmX4, rfl, rfl, (fun _ => rfl), Or.inl rfl, Or.inl q2093⟩
theorem fl_X4_96 : FldOK RX4 96 3 15 (.int) false := ⟨RX4, TX4, 20, tyX4, "CornerClaimsModel", rfl, by decide, in_X4, tyX4_ok, nmX4, rfl, rfl, (fun _ => rfl), Or.inl rfl, Or.inl q2094⟩
theorem fl_X4_169 : FldOK RX4 169 3 16 (.int) false := ⟨RX4, TX4, 20, tyX4, "CornerClaimsModel", rfl, by decide, in_X4, tyX4_ok, nmX4, rfl, rfl, (fun _ => rfl), Or.inl rfl, Or.inl q2095⟩
theorem fl_X4_173 : FldOK RX4 173 3 17 (.int) false := ⟨RX4, TX4, 20, tyX4, "CornerClaimsModel", rfl, by decide, in_X4, tyX4_ok, nmX4, rfl, rfl, (fun _ => rfl), Or.inl rfl, Or.inl q2096⟩
theorem fl_X4_209 : FldOK RX4 209 3 18 (.int) false := ⟨RX4, TX4, 20, tyX4, "CornerClaimsModel", rfl, by decide, in_X4, tyX4_ok, nmX4, rfl, rfl, (fun _ => rfl), Or.inl rfl, Or.inl q2097⟩
theorem fl_X4_28 : FldOK RX4 28 3 19 (.array .long) true := ⟨RX4, TX4, 20, tyX4, "CornerClaimsModel", rfl, by decide, in_X4, tyX4_ok, nmX4, rfl, rfl, (fun _ => rfl), Or.inl rfl, Or.inl q2098⟩
def pX4 : Pool := ([(32, (3, 0, .int, some false)), (9, (3, 1, .array .int, some true)), (127, (3, 2, .int, some false)), (130, (3, 3, .int, some false)), (133, (3, 4, .int, some false)), (139, (3, 5, .int, some false)), (142, (3, 6, .int, some false)), (13, (3, 7, .int, some false)), (17, (3, 8, .array .int, some true)), (20, (3, 9, .array .int, some true)), (25, (3, 10, .array (.array .int), some true)), (315, (3, 11, .int, some false)), (87, (3, 12, .int, some false)), (90, (3, 13, .int, some false)), (93, (3, 14, .int, some false)), (96, (3, 15, .int, some false)), (169, (3, 16, .int, some false)), (173, (3, 17, .int, some false)), (209, (3, 18, .int, some false)), (28, (3, 19, .array .long, some true))], [(172, .int (iZ (1000000))), (293, .int (iZ (-99999))), (296, .int (iZ (99999))), (273, .long (lZ (1000000))), (275, .long (lZ (-1000000))), (291, .long (lZ (-99999))), (294, .long (lZ (99999))), (324, .long (lZ (31)))])
theorem pX4_f : ∀ e ∈ pX4.1, FldE RX4 e := List.forall_mem_cons.mpr ⟨fl_X4_32, List.forall_mem_cons.mpr ⟨fl_X4_9, List.forall_mem_cons.mpr ⟨fl_X4_127, List.forall_mem_cons.mpr ⟨fl_X4_130, List.forall_mem_cons.mpr ⟨fl_X4_133, List.forall_mem_cons.mpr ⟨fl_X4_139, List.forall_mem_cons.mpr ⟨fl_X4_142, List.forall_mem_cons.mpr ⟨fl_X4_13, List.forall_mem_cons.mpr ⟨fl_X4_17, List.forall_mem_cons.mpr ⟨fl_X4_20, List.forall_mem_cons.mpr ⟨fl_X4_25, List.forall_mem_cons.mpr ⟨fl_X4_315, List.forall_mem_cons.mpr ⟨fl_X4_87, List.forall_mem_cons.mpr ⟨fl_X4_90, List.forall_mem_cons.mpr ⟨fl_X4_93, List.forall_mem_cons.mpr ⟨fl_X4_96, List.forall_mem_cons.mpr ⟨fl_X4_169, List.forall_mem_cons.mpr ⟨fl_X4_173, List.forall_mem_cons.mpr ⟨fl_X4_209, List.forall_mem_cons.mpr ⟨fl_X4_28, List.forall_mem_nil _⟩⟩⟩⟩⟩⟩⟩⟩⟩⟩⟩⟩⟩⟩⟩⟩⟩⟩⟩⟩
theorem pX4_c : ∀ e ∈ pX4.2, LdcOK RX4 e.1 e.2 := List.forall_mem_cons.mpr ⟨Or.inl ⟨(1000000 : Int32), (by decide +kernel), q2204⟩, List.forall_mem_cons.mpr ⟨Or.inl ⟨(-99999 : Int32), (by decide +kernel), q2458⟩, List.forall_mem_cons.mpr ⟨Or.inl ⟨(99999 : Int32), (by decide +kernel), q2460⟩, List.forall_mem_cons.mpr ⟨Or.inr ⟨(1000000 : Int64), (by decide +kernel), q2455⟩, List.forall_mem_cons.mpr ⟨Or.inr ⟨(-1000000 : Int64), (by decide +kernel), q2456⟩, List.forall_mem_cons.mpr ⟨Or.inr ⟨(-99999 : Int64), (by decide +kernel), q2457⟩, List.forall_mem_cons.mpr ⟨Or.inr ⟨(99999 : Int64), (by decide +kernel), q2459⟩, List.forall_mem_cons.mpr ⟨Or.inr ⟨(31 : Int64), (by decide +kernel), q2513⟩, List.forall_mem_nil _⟩⟩⟩⟩⟩⟩⟩⟩
theorem pX4_ok : POK RX4 pX4 := ⟨fun i e h => pX4_f (i, e) h, fun i v h => pX4_c (i, v) h⟩
theorem pX4_32 : lkp pX4.1 32 = some (3, 0, .int, some false) := nrf rfl
theorem pX4_9 : lkp pX4.1 9 = some (3, 1, .array .int, some true) := nrf rfl
theorem pX4_127 : lkp pX4.1 127 = some (3, 2, .int, some false) := nrf rfl
theorem pX4_130 : lkp pX4.1 130 = some (3, 3, .int, some false) := nrf rfl
theorem pX4_133 : lkp pX4.1 133 = some (3, 4, .int, some false) := nrf rfl
theorem pX4_139 : lkp pX4.1 139 = some (3, 5, .int, some false) := nrf rfl
theorem pX4_142 : lkp pX4.1 142 = some (3, 6, .int, some false) := nrf rfl
theorem pX4_13 : lkp pX4.1 13 = some (3, 7, .int, some false) := nrf rfl
theorem pX4_17 : lkp pX4.1 17 = some (3, 8, .array .int, some true) := nrf rfl
theorem pX4_20 : lkp pX4.1 20 = some (3, 9, .array .int, some true) := nrf rfl
theorem pX4_25 : lkp pX4.1 25 = some (3, 10, .array (.array .int), some true) := nrf rfl
theorem pX4_315 : lkp pX4.1 315 = some (3, 11, .int, some false) := nrf rfl
theorem pX4_87 : lkp pX4.1 87 = some (3, 12, .int, some false) := nrf rfl
theorem pX4_90 : lkp pX4.1 90 = some (3, 13, .int, some false) := nrf rfl
theorem pX4_93 : lkp pX4.1 93 = some (3, 14, .int, some false) := nrf rfl
theorem pX4_96 : lkp pX4.1 96 = some (3, 15, .int, some false) := nrf rfl
theorem pX4_169 : lkp pX4.1 169 = some (3, 16, .int, some false) := nrf rfl
theorem pX4_173 : lkp pX4.1 173 = some (3, 17, .int, some false) := nrf rfl
theorem pX4_209 : lkp pX4.1 209 = some (3, 18, .int, some false) := nrf rfl
theorem pX4_28 : lkp pX4.1 28 = some (3, 19, .array .long, some true) := nrf rfl
theorem pX4_c172 : lkp pX4.2 172 = some (.int (iZ (1000000))) := nrf rfl
theorem pX4_c293 : lkp pX4.2 293 = some (.int (iZ (-99999))) := nrf rfl
theorem pX4_c296 : lkp pX4.2 296 = some (.int (iZ (99999))) := nrf rfl
theorem pX4_c273 : lkp pX4.2 273 = some (.long (lZ (1000000))) := nrf rfl
theorem pX4_c275 : lkp pX4.2 275 = some (.long (lZ (-1000000))) := nrf rfl
theorem pX4_c291 : lkp pX4.2 291 = some (.long (lZ (-99999))) := nrf rfl
theorem pX4_c294 : lkp pX4.2 294 = some (.long (lZ (99999))) := nrf rfl
theorem pX4_c324 : lkp pX4.2 324 = some (.long (lZ (31))) := nrf rfl
theorem fl_X5_15 : FldOK RX5 15 4 0 (.int) true := ⟨RX5, TX5, 7, tyX5, "CornerClaims$Parser", rfl, by decide, in_X5, tyX5_ok, nmX5, rfl, rfl, (fun _ => rfl), Or.inl rfl, Or.inl q936⟩
theorem fl_X5_119 : FldOK RX5 119 4 1 (.object "CornerClaims$Field") false := ⟨RX5, TX5, 7, tyX5, "CornerClaims$Parser", rfl, by decide, in_X5, tyX5_ok, nmX5, rfl, rfl, (fun _ => rfl), Or.inl rfl, Or.inl q937⟩
theorem fl_X5_19 : FldOK RX5 19 4 2 (.int) false := ⟨RX5, TX5, 7, tyX5, "CornerClaims$Parser", rfl, by decide, in_X5, tyX5_ok, nmX5, rfl, rfl, (fun _ => rfl), Or.inl rfl, Or.inl q938⟩
theorem fl_X5_70 : FldOK RX5 70 4 3 (.int) false := ⟨RX5, TX5, 7, tyX5, "CornerClaims$Parser", rfl, by decide, in_X5, tyX5_ok, nmX5, rfl, rfl, (fun _ => rfl), Or.inl rfl, Or.inl q939⟩
theorem fl_X5_91 : FldOK RX5 91 4 4 (.int) false := ⟨RX5, TX5, 7, tyX5, "CornerClaims$Parser", rfl, by decide, in_X5, tyX5_ok, nmX5, rfl, rfl, (fun _ => rfl), Or.inl rfl, Or.inl q940⟩
theorem fl_X5_206 : FldOK RX5 206 4 5 (.boolean) false := ⟨RX5, TX5, 7, tyX5, "CornerClaims$Parser", rfl, by decide, in_X5, tyX5_ok, nmX5, rfl, rfl, (fun _ => rfl), Or.inl rfl, Or.inl q941⟩
theorem fl_X5_3 : FldOK RX5 3 4 6 (.object "CornerClaims") true := ⟨RX5, TX5, 7, tyX5, "CornerClaims$Parser", rfl, by decide, in_X5, tyX5_ok, nmX5, rfl, rfl, (fun _ => rfl), Or.inl rfl, Or.inl q942⟩
theorem fl_X5_129 : FldRO RX5 129 2 0 := ⟨RX3, TX3, 6, "CornerClaims$Layout", rfl, by decide, in_X3, Or.inl rfl, Or.inr ⟨_, q634⟩⟩
theorem fl_X5_136 : FldRO RX5 136 2 1 := ⟨RX3, TX3, 6, "CornerClaims$Layout", rfl, by decide, in_X3, Or.inl rfl, Or.inr ⟨_, q637⟩⟩
theorem fl_X5_140 : FldRO RX5 140 2 3 := ⟨RX3, TX3, 6, "CornerClaims$Layout", rfl, by decide, in_X3, Or.inl rfl, Or.inr ⟨_, q643⟩⟩
theorem fl_X5_209 : FldOK RX5 209 2 5 (.object "CornerClaims$Score") false := ⟨RX3, TX3, 6, tyX3, "CornerClaims$Layout", rfl, by decide, in_X3, tyX3_ok, nmX3, rfl, rfl, (fun h => by cases h), Or.inl rfl, Or.inr ⟨rfl, _, q649⟩⟩
theorem fl_X5_123 : FldRO RX5 123 1 0 := ⟨RX2, TX2, 2, "CornerClaims$Field", rfl, by decide, in_X2, Or.inl rfl, Or.inr ⟨_, q671⟩⟩
theorem fl_X5_164 : FldRO RX5 164 1 1 := ⟨RX2, TX2, 2, "CornerClaims$Field", rfl, by decide, in_X2, Or.inl rfl, Or.inr ⟨_, q675⟩⟩
theorem fl_X5_22 : FldRO RX5 22 0 0 := ⟨RX1, TX1, 5, "CornerClaims", rfl, by decide, in_X1, Or.inl rfl, Or.inr ⟨_, q681⟩⟩
theorem fl_X5_171 : FldRO RX5 171 7 1 := ⟨RX8, TX8, 3, "CornerClaims$Polygon", rfl, by decide, in_X8, Or.inl rfl, Or.inr ⟨_, q1656⟩⟩
theorem fl_X5_186 : FldOK RX5 186 7 2 (.boolean) false := ⟨RX8, TX8, 3, tyX8, "CornerClaims$Polygon", rfl, by decide, in_X8, tyX8_ok, nmX8, rfl, rfl, (fun h => by cases h), Or.inl rfl, Or.inr ⟨rfl, _, q1661⟩⟩
def pX5 : Pool := ([(15, (4, 0, .int, some true)), (119, (4, 1, .object "CornerClaims$Field", some false)), (19, (4, 2, .int, some false)), (70, (4, 3, .int, some false)), (91, (4, 4, .int, some false)), (206, (4, 5, .boolean, some false)), (3, (4, 6, .object "CornerClaims", some true)), (129, (2, 0, .int, none)), (136, (2, 1, .int, none)), (140, (2, 3, .object "java/util/List", none)), (209, (2, 5, .object "CornerClaims$Score", some false)), (123, (1, 0, .object "CornerClaims$Layout", none)), (164, (1, 1, .object "java/util/List", none)), (22, (0, 0, .array .byte, none)), (171, (7, 1, .object "java/util/List", none)), (186, (7, 2, .boolean, some false))], [(73, .int (iZ (1000000))), (26, .long (lZ (97))), (28, .long (lZ (122))), (62, .long (lZ (48))), (64, .long (lZ (57)))])
theorem pX5_f : ∀ e ∈ pX5.1, FldE RX5 e := List.forall_mem_cons.mpr ⟨fl_X5_15, List.forall_mem_cons.mpr ⟨fl_X5_119, List.forall_mem_cons.mpr ⟨fl_X5_19, List.forall_mem_cons.mpr ⟨fl_X5_70, List.forall_mem_cons.mpr ⟨fl_X5_91, List.forall_mem_cons.mpr ⟨fl_X5_206, List.forall_mem_cons.mpr ⟨fl_X5_3, List.forall_mem_cons.mpr ⟨fl_X5_129, List.forall_mem_cons.mpr ⟨fl_X5_136, List.forall_mem_cons.mpr ⟨fl_X5_140, List.forall_mem_cons.mpr ⟨fl_X5_209, List.forall_mem_cons.mpr ⟨fl_X5_123, List.forall_mem_cons.mpr ⟨fl_X5_164, List.forall_mem_cons.mpr ⟨fl_X5_22, List.forall_mem_cons.mpr ⟨fl_X5_171, List.forall_mem_cons.mpr ⟨fl_X5_186, List.forall_mem_nil _⟩⟩⟩⟩⟩⟩⟩⟩⟩⟩⟩⟩⟩⟩⟩⟩
theorem pX5_c : ∀ e ∈ pX5.2, LdcOK RX5 e.1 e.2 := List.forall_mem_cons.mpr ⟨Or.inl ⟨(1000000 : Int32), (by decide +kernel), q1044⟩, List.forall_mem_cons.mpr ⟨Or.inr ⟨(97 : Int64), (by decide +kernel), q976⟩, List.forall_mem_cons.mpr ⟨Or.inr ⟨(122 : Int64), (by decide +kernel), q977⟩, List.forall_mem_cons.mpr ⟨Or.inr ⟨(48 : Int64), (by decide +kernel), q1042⟩, List.forall_mem_cons.mpr ⟨Or.inr ⟨(57 : Int64), (by decide +kernel), q1043⟩, List.forall_mem_nil _⟩⟩⟩⟩⟩
theorem pX5_ok : POK RX5 pX5 := ⟨fun i e h => pX5_f (i, e) h, fun i v h => pX5_c (i, v) h⟩
theorem pX5_15 : lkp pX5.1 15 = some (4, 0, .int, some true) := nrf rfl
theorem pX5_119 : lkp pX5.1 119 = some (4, 1, .object "CornerClaims$Field", some false) := nrf rfl
theorem pX5_19 : lkp pX5.1 19 = some (4, 2, .int, some false) := nrf rfl
theorem pX5_70 : lkp pX5.1 70 = some (4, 3, .int, some false) := nrf rfl
theorem pX5_91 : lkp pX5.1 91 = some (4, 4, .int, some false) := nrf rfl
theorem pX5_206 : lkp pX5.1 206 = some (4, 5, .boolean, some false) := nrf rfl
theorem pX5_3 : lkp pX5.1 3 = some (4, 6, .object "CornerClaims", some true) := nrf rfl
theorem pX5_129 : lkp pX5.1 129 = some (2, 0, .int, none) := nrf rfl
theorem pX5_136 : lkp pX5.1 136 = some (2, 1, .int, none) := nrf rfl
theorem pX5_140 : lkp pX5.1 140 = some (2, 3, .object "java/util/List", none) := nrf rfl
theorem pX5_209 : lkp pX5.1 209 = some (2, 5, .object "CornerClaims$Score", some false) := nrf rfl
theorem pX5_123 : lkp pX5.1 123 = some (1, 0, .object "CornerClaims$Layout", none) := nrf rfl
theorem pX5_164 : lkp pX5.1 164 = some (1, 1, .object "java/util/List", none) := nrf rfl
theorem pX5_22 : lkp pX5.1 22 = some (0, 0, .array .byte, none) := nrf rfl
theorem pX5_171 : lkp pX5.1 171 = some (7, 1, .object "java/util/List", none) := nrf rfl
theorem pX5_186 : lkp pX5.1 186 = some (7, 2, .boolean, some false) := nrf rfl
theorem pX5_c73 : lkp pX5.2 73 = some (.int (iZ (1000000))) := nrf rfl
theorem pX5_c26 : lkp pX5.2 26 = some (.long (lZ (97))) := nrf rfl
theorem pX5_c28 : lkp pX5.2 28 = some (.long (lZ (122))) := nrf rfl
theorem pX5_c62 : lkp pX5.2 62 = some (.long (lZ (48))) := nrf rfl
theorem pX5_c64 : lkp pX5.2 64 = some (.long (lZ (57))) := nrf rfl
theorem fl_X6_7 : FldOK RX6 7 5 6 (.int) true := ⟨RX6, TX6, 8, tyX6, "CornerClaims$SetupException", rfl, by decide, in_X6, tyX6_ok, nmX6, rfl, rfl, (fun _ => rfl), Or.inl rfl, Or.inl q1024⟩
theorem fl_X6_13 : FldOK RX6 13 5 7 (.int) true := ⟨RX6, TX6, 8, tyX6, "CornerClaims$SetupException", rfl, by decide, in_X6, tyX6_ok, nmX6, rfl, rfl, (fun _ => rfl), Or.inl rfl, Or.inl q1026⟩
def pX6 : Pool := ([(7, (5, 6, .int, some true)), (13, (5, 7, .int, some true))], [])
theorem pX6_f : ∀ e ∈ pX6.1, FldE RX6 e := List.forall_mem_cons.mpr ⟨fl_X6_7, List.forall_mem_cons.mpr ⟨fl_X6_13, List.forall_mem_nil _⟩⟩
theorem pX6_c : ∀ e ∈ pX6.2, LdcOK RX6 e.1 e.2 := List.forall_mem_nil _
theorem pX6_ok : POK RX6 pX6 := ⟨fun i e h => pX6_f (i, e) h, fun i v h => pX6_c (i, v) h⟩
theorem pX6_7 : lkp pX6.1 7 = some (5, 6, .int, some true) := nrf rfl
theorem pX6_13 : lkp pX6.1 13 = some (5, 7, .int, some true) := nrf rfl
theorem fl_X7_7 : FldOK RX7 7 6 0 (.int) true := ⟨RX7, TX7, 2, tyX7, "CornerClaims$Point", rfl, by decide, in_X7, tyX7_ok, nmX7, rfl, rfl, (fun _ => rfl), Or.inl rfl, Or.inl q1079⟩
theorem fl_X7_13 : FldOK RX7 13 6 1 (.int) true := ⟨RX7, TX7, 2, tyX7, "CornerClaims$Point", rfl, by decide, in_X7, tyX7_ok, nmX7, rfl, rfl, (fun _ => rfl), Or.inl rfl, Or.inl q1082⟩
def pX7 : Pool := ([(7, (6, 0, .int, some true)), (13, (6, 1, .int, some true))], [])
theorem pX7_f : ∀ e ∈ pX7.1, FldE RX7 e := List.forall_mem_cons.mpr ⟨fl_X7_7, List.forall_mem_cons.mpr ⟨fl_X7_13, List.forall_mem_nil _⟩⟩
theorem pX7_c : ∀ e ∈ pX7.2, LdcOK RX7 e.1 e.2 := List.forall_mem_nil _
theorem pX7_ok : POK RX7 pX7 := ⟨fun i e h => pX7_f (i, e) h, fun i v h => pX7_c (i, v) h⟩
theorem pX7_7 : lkp pX7.1 7 = some (6, 0, .int, some true) := nrf rfl
theorem pX7_13 : lkp pX7.1 13 = some (6, 1, .int, some true) := nrf rfl
theorem fl_X8_18 : FldOK RX8 18 7 0 (.int) true := ⟨RX8, TX8, 3, tyX8, "CornerClaims$Polygon", rfl, by decide, in_X8, tyX8_ok, nmX8, rfl, rfl, (fun _ => rfl), Or.inl rfl, Or.inl q1651⟩
theorem fl_X8_12 : FldOK RX8 12 7 1 (.object "java/util/List") true := ⟨RX8, TX8, 3, tyX8, "CornerClaims$Polygon", rfl, by decide, in_X8, tyX8_ok, nmX8, rfl, rfl, (fun _ => rfl), Or.inl rfl, Or.inl q1654⟩
theorem fl_X8_41 : FldOK RX8 41 7 2 (.boolean) false := ⟨RX8, TX8, 3, tyX8, "CornerClaims$Polygon", rfl, by decide, in_X8, tyX8_ok, nmX8, rfl, rfl, (fun _ => rfl), Or.inl rfl, Or.inl q1658⟩
theorem fl_X8_50 : FldRO RX8 50 6 0 := ⟨RX7, TX7, 2, "CornerClaims$Point", rfl, by decide, in_X7, Or.inl rfl, Or.inr ⟨_, q1081⟩⟩
theorem fl_X8_56 : FldRO RX8 56 6 1 := ⟨RX7, TX7, 2, "CornerClaims$Point", rfl, by decide, in_X7, Or.inl rfl, Or.inr ⟨_, q1084⟩⟩
def pX8 : Pool := ([(18, (7, 0, .int, some true)), (12, (7, 1, .object "java/util/List", some true)), (41, (7, 2, .boolean, some false)), (50, (6, 0, .int, none)), (56, (6, 1, .int, none))], [])
theorem pX8_f : ∀ e ∈ pX8.1, FldE RX8 e := List.forall_mem_cons.mpr ⟨fl_X8_18, List.forall_mem_cons.mpr ⟨fl_X8_12, List.forall_mem_cons.mpr ⟨fl_X8_41, List.forall_mem_cons.mpr ⟨fl_X8_50, List.forall_mem_cons.mpr ⟨fl_X8_56, List.forall_mem_nil _⟩⟩⟩⟩⟩
theorem pX8_c : ∀ e ∈ pX8.2, LdcOK RX8 e.1 e.2 := List.forall_mem_nil _
theorem pX8_ok : POK RX8 pX8 := ⟨fun i e h => pX8_f (i, e) h, fun i v h => pX8_c (i, v) h⟩
theorem pX8_18 : lkp pX8.1 18 = some (7, 0, .int, some true) := nrf rfl
theorem pX8_12 : lkp pX8.1 12 = some (7, 1, .object "java/util/List", some true) := nrf rfl
theorem pX8_41 : lkp pX8.1 41 = some (7, 2, .boolean, some false) := nrf rfl
theorem pX8_50 : lkp pX8.1 50 = some (6, 0, .int, none) := nrf rfl
theorem pX8_56 : lkp pX8.1 56 = some (6, 1, .int, none) := nrf rfl
