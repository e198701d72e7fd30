section
-- ===== PART A: goes FIRST, ahead of the names: the tables' words, and 'selects' of the private methods out of them =====
/-- a private method of a class that the tables say can be made, by its rows of tables_1 -/
def lw_okq (q : MethodName × Nat) : Prop := (q.1.cls ≠ "java/lang/invoke/MethodHandle" ∧ q.1.cls ≠ "java/lang/invoke/VarHandle") ∧ Cond.instantiable q.1.cls q.2 ∈ tables_1 ∧ Cond.privateMethod q.1 ∈ tables_1 ∧ Cond.instanceMethod q.1 ∈ tables_1
theorem lw_p0 : lw_okq (⟨"PlannedTables$Checker", "source", "()V"⟩, 7) := ⟨⟨by decide +kernel, by decide +kernel⟩, List.mem_of_getElem? (i := 40) (by decide +kernel), List.mem_of_getElem? (i := 145) (by decide +kernel), List.mem_of_getElem? (i := 146) (by decide +kernel)⟩
theorem lw_p1 : lw_okq (⟨"PlannedTables$Checker", "from", "(II)I"⟩, 7) := ⟨⟨by decide +kernel, by decide +kernel⟩, List.mem_of_getElem? (i := 40) (by decide +kernel), List.mem_of_getElem? (i := 149) (by decide +kernel), List.mem_of_getElem? (i := 150) (by decide +kernel)⟩
theorem lw_p2 : lw_okq (⟨"PlannedTables$Checker", "word", "()I"⟩, 7) := ⟨⟨by decide +kernel, by decide +kernel⟩, List.mem_of_getElem? (i := 40) (by decide +kernel), List.mem_of_getElem? (i := 153) (by decide +kernel), List.mem_of_getElem? (i := 154) (by decide +kernel)⟩
theorem lw_p3 : lw_okq (⟨"PlannedTables$Checker", "want", "(ZI)V"⟩, 7) := ⟨⟨by decide +kernel, by decide +kernel⟩, List.mem_of_getElem? (i := 40) (by decide +kernel), List.mem_of_getElem? (i := 157) (by decide +kernel), List.mem_of_getElem? (i := 158) (by decide +kernel)⟩
theorem lw_p4 : lw_okq (⟨"java/lang/Throwable", "fillInStackTrace", "(I)Ljava/lang/Throwable;"⟩, 6) := ⟨⟨by decide +kernel, by decide +kernel⟩, List.mem_of_getElem? (i := 201) (by decide +kernel), List.mem_of_getElem? (i := 199) (by decide +kernel), List.mem_of_getElem? (i := 200) (by decide +kernel)⟩
theorem lw_p5 : lw_okq (⟨"PlannedTables$Checker", "table", "()LPlannedTables$Table;"⟩, 7) := ⟨⟨by decide +kernel, by decide +kernel⟩, List.mem_of_getElem? (i := 40) (by decide +kernel), List.mem_of_getElem? (i := 231) (by decide +kernel), List.mem_of_getElem? (i := 232) (by decide +kernel)⟩
theorem lw_p6 : lw_okq (⟨"PlannedTables$Checker", "indexed", "(LPlannedTables$Table;)V"⟩, 7) := ⟨⟨by decide +kernel, by decide +kernel⟩, List.mem_of_getElem? (i := 40) (by decide +kernel), List.mem_of_getElem? (i := 235) (by decide +kernel), List.mem_of_getElem? (i := 236) (by decide +kernel)⟩
theorem lw_p7 : lw_okq (⟨"PlannedTables$Checker", "step", "()V"⟩, 7) := ⟨⟨by decide +kernel, by decide +kernel⟩, List.mem_of_getElem? (i := 40) (by decide +kernel), List.mem_of_getElem? (i := 247) (by decide +kernel), List.mem_of_getElem? (i := 248) (by decide +kernel)⟩
theorem lw_p8 : lw_okq (⟨"PlannedTables$Checker", "pick", "()V"⟩, 7) := ⟨⟨by decide +kernel, by decide +kernel⟩, List.mem_of_getElem? (i := 40) (by decide +kernel), List.mem_of_getElem? (i := 251) (by decide +kernel), List.mem_of_getElem? (i := 252) (by decide +kernel)⟩
theorem lw_p9 : lw_okq (⟨"PlannedTables$Checker", "join", "()V"⟩, 7) := ⟨⟨by decide +kernel, by decide +kernel⟩, List.mem_of_getElem? (i := 40) (by decide +kernel), List.mem_of_getElem? (i := 255) (by decide +kernel), List.mem_of_getElem? (i := 256) (by decide +kernel)⟩
theorem lw_p10 : lw_okq (⟨"PlannedTables", "find", "(I)LPlannedTables$Table;"⟩, 11) := ⟨⟨by decide +kernel, by decide +kernel⟩, List.mem_of_getElem? (i := 30) (by decide +kernel), List.mem_of_getElem? (i := 396) (by decide +kernel), List.mem_of_getElem? (i := 397) (by decide +kernel)⟩
theorem lw_p11 : lw_okq (⟨"PlannedTables", "build", "()LPlannedTables$Stage;"⟩, 11) := ⟨⟨by decide +kernel, by decide +kernel⟩, List.mem_of_getElem? (i := 30) (by decide +kernel), List.mem_of_getElem? (i := 616) (by decide +kernel), List.mem_of_getElem? (i := 617) (by decide +kernel)⟩
theorem lw_p12 : lw_okq (⟨"PlannedTables", "step", "(LPlannedTables$Stage;II)LPlannedTables$Stage;"⟩, 11) := ⟨⟨by decide +kernel, by decide +kernel⟩, List.mem_of_getElem? (i := 30) (by decide +kernel), List.mem_of_getElem? (i := 673) (by decide +kernel), List.mem_of_getElem? (i := 674) (by decide +kernel)⟩
theorem lw_p13 : lw_okq (⟨"PlannedTables", "drain", "(LPlannedTables$Stage;)I"⟩, 11) := ⟨⟨by decide +kernel, by decide +kernel⟩, List.mem_of_getElem? (i := 30) (by decide +kernel), List.mem_of_getElem? (i := 820) (by decide +kernel), List.mem_of_getElem? (i := 821) (by decide +kernel)⟩
theorem lw_p14 : lw_okq (⟨"PlannedTables$Filter", "fits", "(I)Z"⟩, 6) := ⟨⟨by decide +kernel, by decide +kernel⟩, List.mem_of_getElem? (i := 677) (by decide +kernel), List.mem_of_getElem? (i := 893) (by decide +kernel), List.mem_of_getElem? (i := 894) (by decide +kernel)⟩
theorem lw_p15 : lw_okq (⟨"PlannedTablesModel", "isTable", "(I)Z"⟩, 32) := ⟨⟨by decide +kernel, by decide +kernel⟩, List.mem_of_getElem? (i := 910) (by decide +kernel), List.mem_of_getElem? (i := 1026) (by decide +kernel), List.mem_of_getElem? (i := 1027) (by decide +kernel)⟩
def lw_privs_1 : List (MethodName × Nat) := [(⟨"PlannedTables$Checker", "source", "()V"⟩, 7), (⟨"PlannedTables$Checker", "from", "(II)I"⟩, 7), (⟨"PlannedTables$Checker", "word", "()I"⟩, 7), (⟨"PlannedTables$Checker", "want", "(ZI)V"⟩, 7), (⟨"java/lang/Throwable", "fillInStackTrace", "(I)Ljava/lang/Throwable;"⟩, 6), (⟨"PlannedTables$Checker", "table", "()LPlannedTables$Table;"⟩, 7), (⟨"PlannedTables$Checker", "indexed", "(LPlannedTables$Table;)V"⟩, 7), (⟨"PlannedTables$Checker", "step", "()V"⟩, 7), (⟨"PlannedTables$Checker", "pick", "()V"⟩, 7), (⟨"PlannedTables$Checker", "join", "()V"⟩, 7), (⟨"PlannedTables", "find", "(I)LPlannedTables$Table;"⟩, 11), (⟨"PlannedTables", "build", "()LPlannedTables$Stage;"⟩, 11), (⟨"PlannedTables", "step", "(LPlannedTables$Stage;II)LPlannedTables$Stage;"⟩, 11), (⟨"PlannedTables", "drain", "(LPlannedTables$Stage;)I"⟩, 11), (⟨"PlannedTables$Filter", "fits", "(I)Z"⟩, 6), (⟨"PlannedTablesModel", "isTable", "(I)Z"⟩, 32)]
theorem lw_r1 : ∀ q ∈ lw_privs_1, lw_okq q := List.forall_mem_cons.mpr ⟨lw_p0, List.forall_mem_cons.mpr ⟨lw_p1, List.forall_mem_cons.mpr ⟨lw_p2, List.forall_mem_cons.mpr ⟨lw_p3, List.forall_mem_cons.mpr ⟨lw_p4, List.forall_mem_cons.mpr ⟨lw_p5, List.forall_mem_cons.mpr ⟨lw_p6, List.forall_mem_cons.mpr ⟨lw_p7, List.forall_mem_cons.mpr ⟨lw_p8, List.forall_mem_cons.mpr ⟨lw_p9, List.forall_mem_cons.mpr ⟨lw_p10, List.forall_mem_cons.mpr ⟨lw_p11, List.forall_mem_cons.mpr ⟨lw_p12, List.forall_mem_cons.mpr ⟨lw_p13, List.forall_mem_cons.mpr ⟨lw_p14, List.forall_mem_cons.mpr ⟨lw_p15, fun _ h => absurd h List.not_mem_nil⟩⟩⟩⟩⟩⟩⟩⟩⟩⟩⟩⟩⟩⟩⟩⟩
theorem lw_p16 : lw_okq (⟨"PlannedTablesModel", "isColumn", "(II)Z"⟩, 32) := ⟨⟨by decide +kernel, by decide +kernel⟩, List.mem_of_getElem? (i := 910) (by decide +kernel), List.mem_of_getElem? (i := 1030) (by decide +kernel), List.mem_of_getElem? (i := 1031) (by decide +kernel)⟩
theorem lw_p17 : lw_okq (⟨"PlannedTablesModel", "rowWith", "(II)I"⟩, 32) := ⟨⟨by decide +kernel, by decide +kernel⟩, List.mem_of_getElem? (i := 910) (by decide +kernel), List.mem_of_getElem? (i := 1042) (by decide +kernel), List.mem_of_getElem? (i := 1043) (by decide +kernel)⟩
theorem lw_p18 : lw_okq (⟨"PlannedTablesModel", "rowsOf", "(I)I"⟩, 32) := ⟨⟨by decide +kernel, by decide +kernel⟩, List.mem_of_getElem? (i := 910) (by decide +kernel), List.mem_of_getElem? (i := 1046) (by decide +kernel), List.mem_of_getElem? (i := 1047) (by decide +kernel)⟩
theorem lw_p19 : lw_okq (⟨"PlannedTablesModel", "readPlan", "()V"⟩, 32) := ⟨⟨by decide +kernel, by decide +kernel⟩, List.mem_of_getElem? (i := 910) (by decide +kernel), List.mem_of_getElem? (i := 1078) (by decide +kernel), List.mem_of_getElem? (i := 1079) (by decide +kernel)⟩
theorem lw_p20 : lw_okq (⟨"PlannedTablesModel", "readSource", "()V"⟩, 32) := ⟨⟨by decide +kernel, by decide +kernel⟩, List.mem_of_getElem? (i := 910) (by decide +kernel), List.mem_of_getElem? (i := 1082) (by decide +kernel), List.mem_of_getElem? (i := 1083) (by decide +kernel)⟩
theorem lw_p21 : lw_okq (⟨"PlannedTablesModel", "wordAt", "(I)I"⟩, 32) := ⟨⟨by decide +kernel, by decide +kernel⟩, List.mem_of_getElem? (i := 910) (by decide +kernel), List.mem_of_getElem? (i := 1086) (by decide +kernel), List.mem_of_getElem? (i := 1087) (by decide +kernel)⟩
theorem lw_p22 : lw_okq (⟨"PlannedTablesModel", "demand", "(IZ)V"⟩, 32) := ⟨⟨by decide +kernel, by decide +kernel⟩, List.mem_of_getElem? (i := 910) (by decide +kernel), List.mem_of_getElem? (i := 1090) (by decide +kernel), List.mem_of_getElem? (i := 1091) (by decide +kernel)⟩
theorem lw_p23 : lw_okq (⟨"PlannedTablesModel", "readStep", "(II)I"⟩, 32) := ⟨⟨by decide +kernel, by decide +kernel⟩, List.mem_of_getElem? (i := 910) (by decide +kernel), List.mem_of_getElem? (i := 1094) (by decide +kernel), List.mem_of_getElem? (i := 1095) (by decide +kernel)⟩
theorem lw_p24 : lw_okq (⟨"PlannedTablesModel", "isCell", "(I)Z"⟩, 32) := ⟨⟨by decide +kernel, by decide +kernel⟩, List.mem_of_getElem? (i := 910) (by decide +kernel), List.mem_of_getElem? (i := 1098) (by decide +kernel), List.mem_of_getElem? (i := 1099) (by decide +kernel)⟩
theorem lw_p25 : lw_okq (⟨"PlannedTablesModel", "readCells", "(I)I"⟩, 32) := ⟨⟨by decide +kernel, by decide +kernel⟩, List.mem_of_getElem? (i := 910) (by decide +kernel), List.mem_of_getElem? (i := 1102) (by decide +kernel), List.mem_of_getElem? (i := 1103) (by decide +kernel)⟩
theorem lw_p26 : lw_okq (⟨"PlannedTablesModel", "readJoin", "(I)I"⟩, 32) := ⟨⟨by decide +kernel, by decide +kernel⟩, List.mem_of_getElem? (i := 910) (by decide +kernel), List.mem_of_getElem? (i := 1106) (by decide +kernel), List.mem_of_getElem? (i := 1107) (by decide +kernel)⟩
theorem lw_p27 : lw_okq (⟨"PlannedTablesModel", "ready", "(I)V"⟩, 32) := ⟨⟨by decide +kernel, by decide +kernel⟩, List.mem_of_getElem? (i := 910) (by decide +kernel), List.mem_of_getElem? (i := 1118) (by decide +kernel), List.mem_of_getElem? (i := 1119) (by decide +kernel)⟩
theorem lw_p28 : lw_okq (⟨"PlannedTablesModel", "go", "()V"⟩, 32) := ⟨⟨by decide +kernel, by decide +kernel⟩, List.mem_of_getElem? (i := 910) (by decide +kernel), List.mem_of_getElem? (i := 1122) (by decide +kernel), List.mem_of_getElem? (i := 1123) (by decide +kernel)⟩
theorem lw_p29 : lw_okq (⟨"PlannedTablesModel", "waiting", "(I)I"⟩, 32) := ⟨⟨by decide +kernel, by decide +kernel⟩, List.mem_of_getElem? (i := 910) (by decide +kernel), List.mem_of_getElem? (i := 1126) (by decide +kernel), List.mem_of_getElem? (i := 1127) (by decide +kernel)⟩
theorem lw_p30 : lw_okq (⟨"PlannedTablesModel", "satisfied", "(I)I"⟩, 32) := ⟨⟨by decide +kernel, by decide +kernel⟩, List.mem_of_getElem? (i := 910) (by decide +kernel), List.mem_of_getElem? (i := 1130) (by decide +kernel), List.mem_of_getElem? (i := 1131) (by decide +kernel)⟩
theorem lw_p31 : lw_okq (⟨"PlannedTablesModel", "follow", "(I)V"⟩, 32) := ⟨⟨by decide +kernel, by decide +kernel⟩, List.mem_of_getElem? (i := 910) (by decide +kernel), List.mem_of_getElem? (i := 1134) (by decide +kernel), List.mem_of_getElem? (i := 1135) (by decide +kernel)⟩
def lw_privs_2 : List (MethodName × Nat) := [(⟨"PlannedTablesModel", "isColumn", "(II)Z"⟩, 32), (⟨"PlannedTablesModel", "rowWith", "(II)I"⟩, 32), (⟨"PlannedTablesModel", "rowsOf", "(I)I"⟩, 32), (⟨"PlannedTablesModel", "readPlan", "()V"⟩, 32), (⟨"PlannedTablesModel", "readSource", "()V"⟩, 32), (⟨"PlannedTablesModel", "wordAt", "(I)I"⟩, 32), (⟨"PlannedTablesModel", "demand", "(IZ)V"⟩, 32), (⟨"PlannedTablesModel", "readStep", "(II)I"⟩, 32), (⟨"PlannedTablesModel", "isCell", "(I)Z"⟩, 32), (⟨"PlannedTablesModel", "readCells", "(I)I"⟩, 32), (⟨"PlannedTablesModel", "readJoin", "(I)I"⟩, 32), (⟨"PlannedTablesModel", "ready", "(I)V"⟩, 32), (⟨"PlannedTablesModel", "go", "()V"⟩, 32), (⟨"PlannedTablesModel", "waiting", "(I)I"⟩, 32), (⟨"PlannedTablesModel", "satisfied", "(I)I"⟩, 32), (⟨"PlannedTablesModel", "follow", "(I)V"⟩, 32)]
theorem lw_r2 : ∀ q ∈ lw_privs_2, lw_okq q := List.forall_mem_cons.mpr ⟨lw_p16, List.forall_mem_cons.mpr ⟨lw_p17, List.forall_mem_cons.mpr ⟨lw_p18, List.forall_mem_cons.mpr ⟨lw_p19, List.forall_mem_cons.mpr ⟨lw_p20, List.forall_mem_cons.mpr ⟨lw_p21, List.forall_mem_cons.mpr ⟨lw_p22, List.forall_mem_cons.mpr ⟨lw_p23, List.forall_mem_cons.mpr ⟨lw_p24, List.forall_mem_cons.mpr ⟨lw_p25, List.forall_mem_cons.mpr ⟨lw_p26, List.forall_mem_cons.mpr ⟨lw_p27, List.forall_mem_cons.mpr ⟨lw_p28, List.forall_mem_cons.mpr ⟨lw_p29, List.forall_mem_cons.mpr ⟨lw_p30, List.forall_mem_cons.mpr ⟨lw_p31, fun _ h => absurd h List.not_mem_nil⟩⟩⟩⟩⟩⟩⟩⟩⟩⟩⟩⟩⟩⟩⟩⟩
theorem lw_p32 : lw_okq (⟨"PlannedTablesModel", "nextOfStep", "(I)I"⟩, 32) := ⟨⟨by decide +kernel, by decide +kernel⟩, List.mem_of_getElem? (i := 910) (by decide +kernel), List.mem_of_getElem? (i := 1138) (by decide +kernel), List.mem_of_getElem? (i := 1139) (by decide +kernel)⟩
theorem lw_p33 : lw_okq (⟨"PlannedTablesModel", "visit", "()Z"⟩, 32) := ⟨⟨by decide +kernel, by decide +kernel⟩, List.mem_of_getElem? (i := 910) (by decide +kernel), List.mem_of_getElem? (i := 1142) (by decide +kernel), List.mem_of_getElem? (i := 1143) (by decide +kernel)⟩
theorem lw_p34 : lw_okq (⟨"PlannedTablesModel", "load", "(III)V"⟩, 32) := ⟨⟨by decide +kernel, by decide +kernel⟩, List.mem_of_getElem? (i := 910) (by decide +kernel), List.mem_of_getElem? (i := 1146) (by decide +kernel), List.mem_of_getElem? (i := 1147) (by decide +kernel)⟩
theorem lw_p35 : lw_okq (⟨"PlannedTablesModel", "push", "(I)V"⟩, 32) := ⟨⟨by decide +kernel, by decide +kernel⟩, List.mem_of_getElem? (i := 910) (by decide +kernel), List.mem_of_getElem? (i := 1150) (by decide +kernel), List.mem_of_getElem? (i := 1151) (by decide +kernel)⟩
theorem lw_p36 : lw_okq (⟨"PlannedTablesModel", "goesOn", "(I)Z"⟩, 32) := ⟨⟨by decide +kernel, by decide +kernel⟩, List.mem_of_getElem? (i := 910) (by decide +kernel), List.mem_of_getElem? (i := 1154) (by decide +kernel), List.mem_of_getElem? (i := 1155) (by decide +kernel)⟩
theorem lw_p37 : lw_okq (⟨"PlannedTablesModel", "choose", "(I)V"⟩, 32) := ⟨⟨by decide +kernel, by decide +kernel⟩, List.mem_of_getElem? (i := 910) (by decide +kernel), List.mem_of_getElem? (i := 1161) (by decide +kernel), List.mem_of_getElem? (i := 1162) (by decide +kernel)⟩
theorem lw_p38 : lw_okq (⟨"PlannedTablesModel", "hold", "(II)V"⟩, 32) := ⟨⟨by decide +kernel, by decide +kernel⟩, List.mem_of_getElem? (i := 910) (by decide +kernel), List.mem_of_getElem? (i := 1165) (by decide +kernel), List.mem_of_getElem? (i := 1166) (by decide +kernel)⟩
theorem lw_p39 : lw_okq (⟨"PlannedTablesModel", "runEnds", "(I)Z"⟩, 32) := ⟨⟨by decide +kernel, by decide +kernel⟩, List.mem_of_getElem? (i := 910) (by decide +kernel), List.mem_of_getElem? (i := 1169) (by decide +kernel), List.mem_of_getElem? (i := 1170) (by decide +kernel)⟩
theorem lw_p40 : lw_okq (⟨"PlannedTablesModel", "close", "(I)V"⟩, 32) := ⟨⟨by decide +kernel, by decide +kernel⟩, List.mem_of_getElem? (i := 910) (by decide +kernel), List.mem_of_getElem? (i := 1173) (by decide +kernel), List.mem_of_getElem? (i := 1174) (by decide +kernel)⟩
theorem lw_p41 : lw_okq (⟨"PlannedTablesModel", "begin", "()Z"⟩, 32) := ⟨⟨by decide +kernel, by decide +kernel⟩, List.mem_of_getElem? (i := 910) (by decide +kernel), List.mem_of_getElem? (i := 1177) (by decide +kernel), List.mem_of_getElem? (i := 1178) (by decide +kernel)⟩
theorem lw_p42 : lw_okq (⟨"PlannedTablesModel", "nextOfSource", "()I"⟩, 32) := ⟨⟨by decide +kernel, by decide +kernel⟩, List.mem_of_getElem? (i := 910) (by decide +kernel), List.mem_of_getElem? (i := 1181) (by decide +kernel), List.mem_of_getElem? (i := 1182) (by decide +kernel)⟩
def lw_privs_3 : List (MethodName × Nat) := [(⟨"PlannedTablesModel", "nextOfStep", "(I)I"⟩, 32), (⟨"PlannedTablesModel", "visit", "()Z"⟩, 32), (⟨"PlannedTablesModel", "load", "(III)V"⟩, 32), (⟨"PlannedTablesModel", "push", "(I)V"⟩, 32), (⟨"PlannedTablesModel", "goesOn", "(I)Z"⟩, 32), (⟨"PlannedTablesModel", "choose", "(I)V"⟩, 32), (⟨"PlannedTablesModel", "hold", "(II)V"⟩, 32), (⟨"PlannedTablesModel", "runEnds", "(I)Z"⟩, 32), (⟨"PlannedTablesModel", "close", "(I)V"⟩, 32), (⟨"PlannedTablesModel", "begin", "()Z"⟩, 32), (⟨"PlannedTablesModel", "nextOfSource", "()I"⟩, 32)]
theorem lw_r3 : ∀ q ∈ lw_privs_3, lw_okq q := List.forall_mem_cons.mpr ⟨lw_p32, List.forall_mem_cons.mpr ⟨lw_p33, List.forall_mem_cons.mpr ⟨lw_p34, List.forall_mem_cons.mpr ⟨lw_p35, List.forall_mem_cons.mpr ⟨lw_p36, List.forall_mem_cons.mpr ⟨lw_p37, List.forall_mem_cons.mpr ⟨lw_p38, List.forall_mem_cons.mpr ⟨lw_p39, List.forall_mem_cons.mpr ⟨lw_p40, List.forall_mem_cons.mpr ⟨lw_p41, List.forall_mem_cons.mpr ⟨lw_p42, fun _ h => absurd h List.not_mem_nil⟩⟩⟩⟩⟩⟩⟩⟩⟩⟩⟩
def lw_privs : List (MethodName × Nat) := lw_privs_1 ++ (lw_privs_2 ++ (lw_privs_3))
def lw_tbl : List Cond := k2_sels lw_privs ++ tables_1
theorem lw_privs_ok : ∀ q ∈ lw_privs, lw_okq q := by
  show ∀ q ∈ lw_privs_1 ++ (lw_privs_2 ++ (lw_privs_3)), lw_okq q
  exact List.forall_mem_append.mpr ⟨lw_r1, List.forall_mem_append.mpr ⟨lw_r2, lw_r3⟩⟩
end
section
/-! ===== ABSTRACT VALUES AND HEAPS ===== -/
abbrev AV : Type := Int32 ⊕ Int64 ⊕ Option Nat ⊕ Unit
abbrev vI (x : Int32) : AV := Sum.inl x
abbrev vL (x : Int64) : AV := Sum.inr (Sum.inl x)
abbrev vR (r : Option Nat) : AV := Sum.inr (Sum.inr (Sum.inl r))
abbrev vU : AV := Sum.inr (Sum.inr (Sum.inr ()))
def av_V (v : AV) : Value := match v with
  | .inl x => .int x
  | .inr (.inl x) => .long x
  | .inr (.inr (.inl r)) => va_rf r
  | .inr (.inr (.inr _)) => .null
/-- tags (code, length); ints, longs, references by (address, field id or index); next address; cells and slots left -/
abbrev AH : Type := (Nat → Option (Nat × Nat)) × (Nat → Nat → Int32) × (Nat → Nat → Int64) × (Nat → Nat → Option Nat) × Nat × Nat × Nat
def hT (h : AH) : Nat → Option (Nat × Nat) := h.1
def hI (h : AH) : Nat → Nat → Int32 := h.2.1
def hL (h : AH) : Nat → Nat → Int64 := h.2.2.1
def hR (h : AH) : Nat → Nat → Option Nat := h.2.2.2.1
def hN (h : AH) : Nat := h.2.2.2.2.1
def hC (h : AH) : Nat := h.2.2.2.2.2.1
def hS (h : AH) : Nat := h.2.2.2.2.2.2
def u2 {α : Type} (f : Nat → Nat → α) (a k : Nat) (v : α) : Nat → Nat → α := fun b j => if b = a ∧ j = k then v else f b j
def wI (h : AH) (a k : Nat) (v : Int32) : AH := (hT h, u2 (hI h) a k v, hL h, hR h, hN h, hC h, hS h)
def wL (h : AH) (a k : Nat) (v : Int64) : AH := (hT h, hI h, u2 (hL h) a k v, hR h, hN h, hC h, hS h)
def wR (h : AH) (a k : Nat) (v : Option Nat) : AH := (hT h, hI h, hL h, u2 (hR h) a k v, hN h, hC h, hS h)
/-- a new cell with tag t and n slots -/
def al (h : AH) (t : Nat × Nat) (n : Nat) : AH :=
  (fun b => if b = hN h then some t else hT h b, fun b j => if b = hN h then 0 else hI h b j, fun b j => if b = hN h then 0 else hL h b j, fun b j => if b = hN h then none else hR h b j, hN h + 1, hC h - 1, hS h - n)
/-- System.arraycopy of ints -/
def cpI (h : AH) (s sp d dp n : Nat) : AH := (hT h, fun b j => if b = d ∧ dp ≤ j ∧ j < dp + n then hI h s (sp + (j - dp)) else hI h b j, hL h, hR h, hN h, hC h, hS h)
theorem hT_wI (h : AH) (a k v) : hT (wI h a k v) = hT h := rfl
theorem hL_wI (h : AH) (a k v) : hL (wI h a k v) = hL h := rfl
theorem hR_wI (h : AH) (a k v) : hR (wI h a k v) = hR h := rfl
theorem hN_wI (h : AH) (a k v) : hN (wI h a k v) = hN h := rfl
theorem hC_wI (h : AH) (a k v) : hC (wI h a k v) = hC h := rfl
theorem hS_wI (h : AH) (a k v) : hS (wI h a k v) = hS h := rfl
theorem hT_wL (h : AH) (a k v) : hT (wL h a k v) = hT h := rfl
theorem hI_wL (h : AH) (a k v) : hI (wL h a k v) = hI h := rfl
theorem hR_wL (h : AH) (a k v) : hR (wL h a k v) = hR h := rfl
theorem hN_wL (h : AH) (a k v) : hN (wL h a k v) = hN h := rfl
theorem hC_wL (h : AH) (a k v) : hC (wL h a k v) = hC h := rfl
theorem hS_wL (h : AH) (a k v) : hS (wL h a k v) = hS h := rfl
theorem hT_wR (h : AH) (a k v) : hT (wR h a k v) = hT h := rfl
theorem hI_wR (h : AH) (a k v) : hI (wR h a k v) = hI h := rfl
theorem hL_wR (h : AH) (a k v) : hL (wR h a k v) = hL h := rfl
theorem hN_wR (h : AH) (a k v) : hN (wR h a k v) = hN h := rfl
theorem hC_wR (h : AH) (a k v) : hC (wR h a k v) = hC h := rfl
theorem hS_wR (h : AH) (a k v) : hS (wR h a k v) = hS h := rfl
theorem hI_wI (h : AH) (a k v b j) : hI (wI h a k v) b j = if b = a ∧ j = k then v else hI h b j := rfl
theorem hL_wL (h : AH) (a k v b j) : hL (wL h a k v) b j = if b = a ∧ j = k then v else hL h b j := rfl
theorem hR_wR (h : AH) (a k v b j) : hR (wR h a k v) b j = if b = a ∧ j = k then v else hR h b j := rfl
theorem hT_al (h : AH) (t n b) : hT (al h t n) b = if b = hN h then some t else hT h b := rfl
theorem hI_al (h : AH) (t n b j) : hI (al h t n) b j = if b = hN h then 0 else hI h b j := rfl
theorem hL_al (h : AH) (t n b j) : hL (al h t n) b j = if b = hN h then 0 else hL h b j := rfl
theorem hR_al (h : AH) (t n b j) : hR (al h t n) b j = if b = hN h then none else hR h b j := rfl
theorem hN_al (h : AH) (t n) : hN (al h t n) = hN h + 1 := rfl
theorem hC_al (h : AH) (t n) : hC (al h t n) = hC h - 1 := rfl
theorem hS_al (h : AH) (t n) : hS (al h t n) = hS h - n := rfl
theorem hT_cp (h : AH) (s sp d dp n) : hT (cpI h s sp d dp n) = hT h := rfl
theorem hI_cp (h : AH) (s sp d dp n b j) : hI (cpI h s sp d dp n) b j = if b = d ∧ dp ≤ j ∧ j < dp + n then hI h s (sp + (j - dp)) else hI h b j := rfl
theorem hL_cp (h : AH) (s sp d dp n) : hL (cpI h s sp d dp n) = hL h := rfl
theorem hR_cp (h : AH) (s sp d dp n) : hR (cpI h s sp d dp n) = hR h := rfl
theorem hN_cp (h : AH) (s sp d dp n) : hN (cpI h s sp d dp n) = hN h := rfl
theorem hC_cp (h : AH) (s sp d dp n) : hC (cpI h s sp d dp n) = hC h := rfl
theorem hS_cp (h : AH) (s sp d dp n) : hS (cpI h s sp d dp n) = hS h := rfl
/-- an instruction of the table: the instruction, its length, a number, a constant, numbers -/
abbrev EI : Type := Instr × Nat × Nat × AV × List Nat
end
section
/-! ===== STATIC TABLES (printed by print_code.py): classes, fields, methods, their instructions ===== -/
def x_own : List String := ["PlannedTables", "PlannedTables$Checker", "PlannedTables$Filter", "PlannedTables$Grouper", "PlannedTables$Head", "PlannedTables$Joiner", "PlannedTables$Meter", "PlannedTables$Page", "PlannedTables$Picker", "PlannedTables$Row", "PlannedTables$Skipper", "PlannedTables$Source", "PlannedTables$Table", "PlannedTables$Total", "PlannedTables$Tree", "PlannedTables$Walker", "PlannedTablesModel", "PlannedTables$Stage", "PlannedTables$Step", "PlannedTablesLaw"]
def x_exc : List String := ["java/lang/IllegalArgumentException", "java/lang/IllegalStateException", "java/lang/IndexOutOfBoundsException", "java/lang/UnsupportedOperationException", "java/util/NoSuchElementException"]
/-- fields: declaring class, name, descriptor, final; a field's id is 4 * place + kind (0 int, 1 long, 2 reference, 3 boolean) -/
def x_fld : List (String × String × String × Bool) := [("PlannedTables$Checker", "plan", "[I", true),
  ("PlannedTables$Checker", "tables", "[LPlannedTables$Table;", true),
  ("PlannedTables$Checker", "length", "I", false),
  ("PlannedTables$Checker", "count", "I", false),
  ("PlannedTables$Checker", "at", "I", false),
  ("PlannedTables$Checker", "width", "I", false),
  ("PlannedTables$Checker", "fault", "I", false),
  ("PlannedTables$Meter", "fuel", "I", false),
  ("PlannedTables$Meter", "visits", "I", false),
  ("PlannedTables", "tables", "[LPlannedTables$Table;", true),
  ("PlannedTables", "count", "I", false),
  ("PlannedTables", "rowCount", "I", false),
  ("PlannedTables", "staged", "[I", true),
  ("PlannedTables", "plan", "[I", true),
  ("PlannedTables", "length", "I", false),
  ("PlannedTables", "checker", "LPlannedTables$Checker;", true),
  ("PlannedTables", "meter", "LPlannedTables$Meter;", true),
  ("PlannedTables", "output", "[I", true),
  ("PlannedTables", "size", "I", false),
  ("PlannedTables", "visits", "I", false),
  ("PlannedTables$Page", "leaf", "Z", true),
  ("PlannedTables$Page", "keys", "[J", true),
  ("PlannedTables$Page", "rows", "[LPlannedTables$Row;", true),
  ("PlannedTables$Page", "below", "[LPlannedTables$Page;", true),
  ("PlannedTables$Page", "count", "I", false),
  ("PlannedTables$Page", "next", "LPlannedTables$Page;", false),
  ("PlannedTables$Tree", "root", "LPlannedTables$Page;", false),
  ("PlannedTables$Table", "columns", "I", true),
  ("PlannedTables$Table", "rows", "I", false),
  ("PlannedTables$Table", "trees", "[LPlannedTables$Tree;", true),
  ("PlannedTables$Walker", "page", "LPlannedTables$Page;", false),
  ("PlannedTables$Walker", "at", "I", false),
  ("PlannedTables$Walker", "last", "J", false),
  ("PlannedTables$Row", "cells", "[I", true),
  ("PlannedTables$Source", "walker", "LPlannedTables$Walker;", true),
  ("PlannedTables$Source", "meter", "LPlannedTables$Meter;", true),
  ("PlannedTables$Stage", "cells", "[I", true),
  ("PlannedTables$Stage", "width", "I", false),
  ("PlannedTables$Filter", "column", "I", true),
  ("PlannedTables$Filter", "relation", "I", true),
  ("PlannedTables$Filter", "value", "I", true),
  ("PlannedTables$Step", "before", "LPlannedTables$Stage;", true),
  ("PlannedTables$Picker", "columns", "[I", true),
  ("PlannedTables$Joiner", "walker", "LPlannedTables$Walker;", true),
  ("PlannedTables$Joiner", "meter", "LPlannedTables$Meter;", true),
  ("PlannedTables$Joiner", "table", "LPlannedTables$Table;", true),
  ("PlannedTables$Joiner", "indexed", "I", true),
  ("PlannedTables$Joiner", "column", "I", true),
  ("PlannedTables$Joiner", "open", "Z", false),
  ("PlannedTables$Skipper", "left", "I", false),
  ("PlannedTables$Head", "left", "I", false),
  ("PlannedTables$Total", "column", "I", true),
  ("PlannedTables$Total", "done", "Z", false),
  ("PlannedTables$Grouper", "column", "I", true),
  ("PlannedTables$Grouper", "held", "Z", false),
  ("PlannedTables$Grouper", "ended", "Z", false),
  ("PlannedTablesModel", "code", "I", false),
  ("PlannedTablesModel", "tables", "I", false),
  ("PlannedTablesModel", "columns", "[I", true),
  ("PlannedTablesModel", "indexed", "[Z", true),
  ("PlannedTablesModel", "staged", "[I", true),
  ("PlannedTablesModel", "rows", "I", false),
  ("PlannedTablesModel", "of", "[I", true),
  ("PlannedTablesModel", "cells", "[I", true),
  ("PlannedTablesModel", "words", "I", false),
  ("PlannedTablesModel", "plan", "[I", true),
  ("PlannedTablesModel", "steps", "I", false),
  ("PlannedTablesModel", "wrong", "I", false),
  ("PlannedTablesModel", "ops", "[I", true),
  ("PlannedTablesModel", "at", "[I", true),
  ("PlannedTablesModel", "wide", "[I", true),
  ("PlannedTablesModel", "width", "I", false),
  ("PlannedTablesModel", "fuel", "I", false),
  ("PlannedTablesModel", "visited", "I", false),
  ("PlannedTablesModel", "spent", "Z", false),
  ("PlannedTablesModel", "full", "Z", false),
  ("PlannedTablesModel", "carried", "I", false),
  ("PlannedTablesModel", "row", "[I", true),
  ("PlannedTablesModel", "numbers", "[I", true),
  ("PlannedTablesModel", "latest", "[I", true),
  ("PlannedTablesModel", "has", "[Z", true),
  ("PlannedTablesModel", "lefts", "[I", true),
  ("PlannedTablesModel", "lastCell", "I", false),
  ("PlannedTablesModel", "lastKey", "I", false),
  ("PlannedTablesModel", "begun", "Z", false),
  ("PlannedTablesModel", "visits", "I", false),
  ("PlannedTablesModel", "size", "I", false),
  ("PlannedTablesModel", "output", "[I", true)]
def x_ids : List (List Nat) := [[38, 40, 44, 50, 54, 56, 62, 66, 70, 72, 76], [2, 6, 8, 12, 16, 20, 24], [152, 156, 160, 166, 146, 148], [212, 219, 223, 166, 146, 148], [200, 166, 146, 148], [174, 178, 182, 184, 188, 195, 166, 146, 148], [28, 32], [83, 86, 90, 94, 96, 102], [170, 166, 146, 148], [134], [196, 166, 146, 148], [138, 142, 146, 148], [108, 112, 118], [204, 211, 166, 146, 148], [106], [122, 124, 129], [224, 228, 234, 238, 242, 244, 250, 254, 256, 262, 264, 268, 274, 278, 282, 284, 288, 292, 299, 303, 304, 310, 314, 318, 322, 326, 328, 332, 339, 340, 344, 350]]
/-- PlannedTables.<init>.()V -/
def c_0 : List (Nat × EI) := [(0, (.aload_n 0, 1, 0, vU, [])),
  (1, (.invokespecial 1, 3, 1, vU, [9999])),
  (4, (.aload_n 0, 1, 0, vU, [])),
  (5, (.iconst 4, 1, 0, vI 4, [])),
  (6, (.anewarray 7, 3, 6, vU, [])),
  (9, (.putfield 9, 3, 38, vU, [])),
  (12, (.aload_n 0, 1, 0, vU, [])),
  (13, (.iconst 4, 1, 0, vI 4, [])),
  (14, (.newarray .int, 2, 0, vU, [])),
  (16, (.putfield 15, 3, 50, vU, [])),
  (19, (.aload_n 0, 1, 0, vU, [])),
  (20, (.bipush 40, 2, 0, vI 40, [])),
  (22, (.newarray .int, 2, 0, vU, [])),
  (24, (.putfield 19, 3, 54, vU, [])),
  (27, (.aload_n 0, 1, 0, vU, [])),
  (28, (.new 22, 3, 1, vU, [])),
  (31, (.dup, 1, 0, vU, [])),
  (32, (.aload_n 0, 1, 0, vU, [])),
  (33, (.getfield 19, 3, 54, vU, [])),
  (36, (.aload_n 0, 1, 0, vU, [])),
  (37, (.getfield 9, 3, 38, vU, [])),
  (40, (.invokespecial 24, 3, 3, vU, [22])),
  (43, (.putfield 27, 3, 62, vU, [])),
  (46, (.aload_n 0, 1, 0, vU, [])),
  (47, (.new 31, 3, 6, vU, [])),
  (50, (.dup, 1, 0, vU, [])),
  (51, (.invokespecial 33, 3, 1, vU, [42])),
  (54, (.putfield 34, 3, 66, vU, [])),
  (57, (.aload_n 0, 1, 0, vU, [])),
  (58, (.bipush 64, 2, 0, vI 64, [])),
  (60, (.newarray .int, 2, 0, vU, [])),
  (62, (.putfield 38, 3, 70, vU, [])),
  (65, (.return_, 1, 0, vU, []))]
/-- PlannedTables.stage.(II)Z -/
def c_1 : List (Nat × EI) := [(0, (.iload_n 1, 1, 1, vU, [])),
  (1, (.ifCond .lt 8, 3, 9, vU, [])),
  (4, (.iload_n 1, 1, 1, vU, [])),
  (5, (.iconst 4, 1, 0, vI 4, [])),
  (6, (.if_icmp .lt 5, 3, 11, vU, [])),
  (9, (.iconst 0, 1, 0, vI 0, [])),
  (10, (.ireturn, 1, 0, vU, [])),
  (11, (.aload_n 0, 1, 0, vU, [])),
  (12, (.getfield 15, 3, 50, vU, [])),
  (15, (.iload_n 1, 1, 1, vU, [])),
  (16, (.iload_n 2, 1, 2, vU, [])),
  (17, (.iastore, 1, 0, vU, [])),
  (18, (.iconst 1, 1, 0, vI 1, [])),
  (19, (.ireturn, 1, 0, vU, []))]
/-- PlannedTables.rows.(I)I -/
def c_2 : List (Nat × EI) := [(0, (.iload_n 1, 1, 1, vU, [])),
  (1, (.ifCond .lt 11, 3, 12, vU, [])),
  (4, (.iload_n 1, 1, 1, vU, [])),
  (5, (.aload_n 0, 1, 0, vU, [])),
  (6, (.getfield 48, 3, 40, vU, [])),
  (9, (.if_icmp .lt 7, 3, 16, vU, [])),
  (12, (.iconst (-1), 1, 0, vI (-1), [])),
  (13, (.goto 12, 3, 25, vU, [])),
  (16, (.aload_n 0, 1, 0, vU, [])),
  (17, (.getfield 9, 3, 38, vU, [])),
  (20, (.iload_n 1, 1, 1, vU, [])),
  (21, (.aaload, 1, 0, vU, [])),
  (22, (.getfield 113, 3, 112, vU, [])),
  (25, (.ireturn, 1, 0, vU, []))]
/-- PlannedTables.word.(I)Z -/
def c_3 : List (Nat × EI) := [(0, (.aload_n 0, 1, 0, vU, [])),
  (1, (.getfield 144, 3, 56, vU, [])),
  (4, (.bipush 40, 2, 0, vI 40, [])),
  (6, (.if_icmp .ne 5, 3, 11, vU, [])),
  (9, (.iconst 0, 1, 0, vI 0, [])),
  (10, (.ireturn, 1, 0, vU, [])),
  (11, (.aload_n 0, 1, 0, vU, [])),
  (12, (.getfield 19, 3, 54, vU, [])),
  (15, (.aload_n 0, 1, 0, vU, [])),
  (16, (.dup, 1, 0, vU, [])),
  (17, (.getfield 144, 3, 56, vU, [])),
  (20, (.dup_x1, 1, 0, vU, [])),
  (21, (.iconst 1, 1, 0, vI 1, [])),
  (22, (.iadd, 1, 0, vU, [])),
  (23, (.putfield 144, 3, 56, vU, [])),
  (26, (.iload_n 1, 1, 1, vU, [])),
  (27, (.iastore, 1, 0, vU, [])),
  (28, (.iconst 1, 1, 0, vI 1, [])),
  (29, (.ireturn, 1, 0, vU, []))]
/-- PlannedTables.clear.()I -/
def c_4 : List (Nat × EI) := [(0, (.aload_n 0, 1, 0, vU, [])),
  (1, (.getfield 144, 3, 56, vU, [])),
  (4, (.istore_n 1, 1, 1, vU, [])),
  (5, (.aload_n 0, 1, 0, vU, [])),
  (6, (.iconst 0, 1, 0, vI 0, [])),
  (7, (.putfield 144, 3, 56, vU, [])),
  (10, (.iload_n 1, 1, 1, vU, [])),
  (11, (.ireturn, 1, 0, vU, []))]
/-- PlannedTables.fault.()I -/
def c_5 : List (Nat × EI) := [(0, (.aload_n 0, 1, 0, vU, [])),
  (1, (.getfield 27, 3, 62, vU, [])),
  (4, (.aload_n 0, 1, 0, vU, [])),
  (5, (.getfield 144, 3, 56, vU, [])),
  (8, (.aload_n 0, 1, 0, vU, [])),
  (9, (.getfield 48, 3, 40, vU, [])),
  (12, (.invokevirtual 147, 3, 2, vU, [1, 23])),
  (15, (.goto 12, 3, 27, vU, [])),
  (18, (.astore_n 1, 1, 1, vU, [])),
  (19, (.aload_n 0, 1, 0, vU, [])),
  (20, (.getfield 27, 3, 62, vU, [])),
  (23, (.getfield 151, 3, 24, vU, [])),
  (26, (.ireturn, 1, 0, vU, [])),
  (27, (.iconst (-1), 1, 0, vI (-1), [])),
  (28, (.ireturn, 1, 0, vU, []))]
/-- PlannedTables.width.()I -/
def c_6 : List (Nat × EI) := [(0, (.aload_n 0, 1, 0, vU, [])),
  (1, (.invokevirtual 154, 3, 0, vU, [0, 5])),
  (4, (.ifCond .lt 7, 3, 11, vU, [])),
  (7, (.iconst (-1), 1, 0, vI (-1), [])),
  (8, (.goto 10, 3, 18, vU, [])),
  (11, (.aload_n 0, 1, 0, vU, [])),
  (12, (.getfield 27, 3, 62, vU, [])),
  (15, (.getfield 157, 3, 20, vU, [])),
  (18, (.ireturn, 1, 0, vU, []))]
/-- PlannedTables.visits.()I -/
def c_7 : List (Nat × EI) := [(0, (.aload_n 0, 1, 0, vU, [])),
  (1, (.getfield 231, 3, 76, vU, [])),
  (4, (.ireturn, 1, 0, vU, []))]
/-- PlannedTables.size.()I -/
def c_8 : List (Nat × EI) := [(0, (.aload_n 0, 1, 0, vU, [])),
  (1, (.getfield 204, 3, 72, vU, [])),
  (4, (.ireturn, 1, 0, vU, []))]
/-- PlannedTables.out.(I)I -/
def c_9 : List (Nat × EI) := [(0, (.iload_n 1, 1, 1, vU, [])),
  (1, (.ifCond .lt 11, 3, 12, vU, [])),
  (4, (.iload_n 1, 1, 1, vU, [])),
  (5, (.aload_n 0, 1, 0, vU, [])),
  (6, (.getfield 204, 3, 72, vU, [])),
  (9, (.if_icmp .lt 7, 3, 16, vU, [])),
  (12, (.iconst 0, 1, 0, vI 0, [])),
  (13, (.goto 9, 3, 22, vU, [])),
  (16, (.aload_n 0, 1, 0, vU, [])),
  (17, (.getfield 38, 3, 70, vU, [])),
  (20, (.iload_n 1, 1, 1, vU, [])),
  (21, (.iaload, 1, 0, vU, [])),
  (22, (.ireturn, 1, 0, vU, []))]
/-- PlannedTables.table.(I)I -/
def c_10 : List (Nat × EI) := [(0, (.iload_n 1, 1, 1, vU, [])),
  (1, (.iconst 1, 1, 0, vI 1, [])),
  (2, (.if_icmp .lt 8, 3, 10, vU, [])),
  (5, (.iload_n 1, 1, 1, vU, [])),
  (6, (.iconst 4, 1, 0, vI 4, [])),
  (7, (.if_icmp .le 13, 3, 20, vU, [])),
  (10, (.new 41, 3, 60, vU, [])),
  (13, (.dup, 1, 0, vU, [])),
  (14, (.ldc 43, 2, 1, vU, [])),
  (16, (.invokespecial 45, 3, 2, vU, [])),
  (19, (.athrow, 1, 0, vU, [])),
  (20, (.aload_n 0, 1, 0, vU, [])),
  (21, (.getfield 48, 3, 40, vU, [])),
  (24, (.iconst 4, 1, 0, vI 4, [])),
  (25, (.if_icmp .ne 13, 3, 38, vU, [])),
  (28, (.new 52, 3, 63, vU, [])),
  (31, (.dup, 1, 0, vU, [])),
  (32, (.ldc 54, 2, 1, vU, [])),
  (34, (.invokespecial 56, 3, 2, vU, [])),
  (37, (.athrow, 1, 0, vU, [])),
  (38, (.aload_n 0, 1, 0, vU, [])),
  (39, (.getfield 9, 3, 38, vU, [])),
  (42, (.aload_n 0, 1, 0, vU, [])),
  (43, (.getfield 48, 3, 40, vU, [])),
  (46, (.new 7, 3, 12, vU, [])),
  (49, (.dup, 1, 0, vU, [])),
  (50, (.iload_n 1, 1, 1, vU, [])),
  (51, (.invokespecial 57, 3, 2, vU, [59])),
  (54, (.aastore, 1, 0, vU, [])),
  (55, (.aload_n 0, 1, 0, vU, [])),
  (56, (.dup, 1, 0, vU, [])),
  (57, (.getfield 48, 3, 40, vU, [])),
  (60, (.dup_x1, 1, 0, vU, [])),
  (61, (.iconst 1, 1, 0, vI 1, [])),
  (62, (.iadd, 1, 0, vU, [])),
  (63, (.putfield 48, 3, 40, vU, [])),
  (66, (.ireturn, 1, 0, vU, []))]
/-- PlannedTables.index.(II)Z -/
def c_11 : List (Nat × EI) := [(0, (.aload_n 0, 1, 0, vU, [])),
  (1, (.iload_n 1, 1, 1, vU, [])),
  (2, (.invokevirtual 65, 3, 1, vU, [0, 12])),
  (5, (.astore_n 3, 1, 3, vU, [])),
  (6, (.aload_n 3, 1, 3, vU, [])),
  (7, (.iload_n 2, 1, 2, vU, [])),
  (8, (.invokevirtual 69, 3, 1, vU, [12, 58])),
  (11, (.ifCond .ne 13, 3, 24, vU, [])),
  (14, (.new 60, 3, 62, vU, [])),
  (17, (.dup, 1, 0, vU, [])),
  (18, (.ldc 73, 2, 1, vU, [])),
  (20, (.invokespecial 64, 3, 2, vU, [])),
  (23, (.athrow, 1, 0, vU, [])),
  (24, (.aload_n 3, 1, 3, vU, [])),
  (25, (.iload_n 2, 1, 2, vU, [])),
  (26, (.invokevirtual 75, 3, 1, vU, [12, 57])),
  (29, (.ifCond .eq 5, 3, 34, vU, [])),
  (32, (.iconst 0, 1, 0, vI 0, [])),
  (33, (.ireturn, 1, 0, vU, [])),
  (34, (.aload_n 3, 1, 3, vU, [])),
  (35, (.iload_n 2, 1, 2, vU, [])),
  (36, (.invokevirtual 78, 3, 1, vU, [12, 60])),
  (39, (.iconst 1, 1, 0, vI 1, [])),
  (40, (.ireturn, 1, 0, vU, []))]
/-- PlannedTables.find.(I)LPlannedTables$Table; -/
def c_12 : List (Nat × EI) := [(0, (.iload_n 1, 1, 1, vU, [])),
  (1, (.ifCond .lt 11, 3, 12, vU, [])),
  (4, (.iload_n 1, 1, 1, vU, [])),
  (5, (.aload_n 0, 1, 0, vU, [])),
  (6, (.getfield 48, 3, 40, vU, [])),
  (9, (.if_icmp .lt 13, 3, 22, vU, [])),
  (12, (.new 60, 3, 62, vU, [])),
  (15, (.dup, 1, 0, vU, [])),
  (16, (.ldc 62, 2, 1, vU, [])),
  (18, (.invokespecial 64, 3, 2, vU, [])),
  (21, (.athrow, 1, 0, vU, [])),
  (22, (.aload_n 0, 1, 0, vU, [])),
  (23, (.getfield 9, 3, 38, vU, [])),
  (26, (.iload_n 1, 1, 1, vU, [])),
  (27, (.aaload, 1, 0, vU, [])),
  (28, (.areturn, 1, 0, vU, []))]
/-- PlannedTables.insert.(I)I -/
def c_13 : List (Nat × EI) := [(0, (.aload_n 0, 1, 0, vU, [])),
  (1, (.iload_n 1, 1, 1, vU, [])),
  (2, (.invokevirtual 65, 3, 1, vU, [0, 12])),
  (5, (.astore_n 2, 1, 2, vU, [])),
  (6, (.aload_n 2, 1, 2, vU, [])),
  (7, (.aload_n 0, 1, 0, vU, [])),
  (8, (.getfield 15, 3, 50, vU, [])),
  (11, (.iconst 0, 1, 0, vI 0, [])),
  (12, (.iaload, 1, 0, vU, [])),
  (13, (.invokevirtual 81, 3, 1, vU, [12, 63])),
  (16, (.ifnull 13, 3, 29, vU, [])),
  (19, (.new 84, 3, 61, vU, [])),
  (22, (.dup, 1, 0, vU, [])),
  (23, (.ldc 86, 2, 1, vU, [])),
  (25, (.invokespecial 88, 3, 2, vU, [])),
  (28, (.athrow, 1, 0, vU, [])),
  (29, (.aload_n 0, 1, 0, vU, [])),
  (30, (.getfield 89, 3, 44, vU, [])),
  (33, (.bipush 48, 2, 0, vI 48, [])),
  (35, (.if_icmp .ne 13, 3, 48, vU, [])),
  (38, (.new 52, 3, 63, vU, [])),
  (41, (.dup, 1, 0, vU, [])),
  (42, (.ldc 92, 2, 1, vU, [])),
  (44, (.invokespecial 56, 3, 2, vU, [])),
  (47, (.athrow, 1, 0, vU, [])),
  (48, (.new 94, 3, 9, vU, [])),
  (51, (.dup, 1, 0, vU, [])),
  (52, (.invokespecial 96, 3, 1, vU, [52])),
  (55, (.astore_n 3, 1, 3, vU, [])),
  (56, (.aload_n 0, 1, 0, vU, [])),
  (57, (.getfield 15, 3, 50, vU, [])),
  (60, (.iconst 0, 1, 0, vI 0, [])),
  (61, (.aload_n 3, 1, 3, vU, [])),
  (62, (.getfield 97, 3, 134, vU, [])),
  (65, (.iconst 0, 1, 0, vI 0, [])),
  (66, (.aload_n 2, 1, 2, vU, [])),
  (67, (.getfield 100, 3, 108, vU, [])),
  (70, (.invokestatic 103, 3, 5, vU, [9998])),
  (73, (.aload_n 2, 1, 2, vU, [])),
  (74, (.aload_n 3, 1, 3, vU, [])),
  (75, (.invokevirtual 109, 3, 1, vU, [12, 64])),
  (78, (.aload_n 0, 1, 0, vU, [])),
  (79, (.dup, 1, 0, vU, [])),
  (80, (.getfield 89, 3, 44, vU, [])),
  (83, (.iconst 1, 1, 0, vI 1, [])),
  (84, (.iadd, 1, 0, vU, [])),
  (85, (.putfield 89, 3, 44, vU, [])),
  (88, (.aload_n 2, 1, 2, vU, [])),
  (89, (.getfield 113, 3, 112, vU, [])),
  (92, (.ireturn, 1, 0, vU, []))]
/-- PlannedTables.delete.(II)I -/
def c_14 : List (Nat × EI) := [(0, (.aload_n 0, 1, 0, vU, [])),
  (1, (.iload_n 1, 1, 1, vU, [])),
  (2, (.invokevirtual 65, 3, 1, vU, [0, 12])),
  (5, (.astore_n 3, 1, 3, vU, [])),
  (6, (.aload_n 3, 1, 3, vU, [])),
  (7, (.aload_n 3, 1, 3, vU, [])),
  (8, (.iload_n 2, 1, 2, vU, [])),
  (9, (.invokestatic 121, 3, 2, vU, [15])),
  (12, (.invokevirtual 125, 3, 1, vU, [12, 65])),
  (15, (.aload_n 0, 1, 0, vU, [])),
  (16, (.dup, 1, 0, vU, [])),
  (17, (.getfield 89, 3, 44, vU, [])),
  (20, (.iconst 1, 1, 0, vI 1, [])),
  (21, (.isub, 1, 0, vU, [])),
  (22, (.putfield 89, 3, 44, vU, [])),
  (25, (.aload_n 3, 1, 3, vU, [])),
  (26, (.getfield 113, 3, 112, vU, [])),
  (29, (.ireturn, 1, 0, vU, []))]
/-- PlannedTables.wanted.(LPlannedTables$Table;I)LPlannedTables$Row; -/
def c_15 : List (Nat × EI) := [(0, (.aload_n 0, 1, 0, vU, [])),
  (1, (.iload_n 1, 1, 1, vU, [])),
  (2, (.invokevirtual 81, 3, 1, vU, [12, 63])),
  (5, (.astore_n 2, 1, 2, vU, [])),
  (6, (.aload_n 2, 1, 2, vU, [])),
  (7, (.ifnonnull 13, 3, 20, vU, [])),
  (10, (.new 116, 3, 64, vU, [])),
  (13, (.dup, 1, 0, vU, [])),
  (14, (.ldc 118, 2, 1, vU, [])),
  (16, (.invokespecial 120, 3, 2, vU, [])),
  (19, (.athrow, 1, 0, vU, [])),
  (20, (.aload_n 2, 1, 2, vU, [])),
  (21, (.areturn, 1, 0, vU, []))]
/-- PlannedTables.cell.(III)I -/
def c_16 : List (Nat × EI) := [(0, (.aload_n 0, 1, 0, vU, [])),
  (1, (.iload_n 1, 1, 1, vU, [])),
  (2, (.invokevirtual 65, 3, 1, vU, [0, 12])),
  (5, (.astore 4, 2, 4, vU, [])),
  (7, (.aload 4, 2, 4, vU, [])),
  (9, (.iload_n 3, 1, 3, vU, [])),
  (10, (.invokevirtual 69, 3, 1, vU, [12, 58])),
  (13, (.ifCond .ne 13, 3, 26, vU, [])),
  (16, (.new 60, 3, 62, vU, [])),
  (19, (.dup, 1, 0, vU, [])),
  (20, (.ldc 73, 2, 1, vU, [])),
  (22, (.invokespecial 64, 3, 2, vU, [])),
  (25, (.athrow, 1, 0, vU, [])),
  (26, (.aload 4, 2, 4, vU, [])),
  (28, (.iload_n 2, 1, 2, vU, [])),
  (29, (.invokestatic 121, 3, 2, vU, [15])),
  (32, (.getfield 97, 3, 134, vU, [])),
  (35, (.iload_n 3, 1, 3, vU, [])),
  (36, (.iaload, 1, 0, vU, [])),
  (37, (.ireturn, 1, 0, vU, []))]
/-- PlannedTables.keyFrom.(II)I -/
def c_17 : List (Nat × EI) := [(0, (.aload_n 0, 1, 0, vU, [])),
  (1, (.iload_n 1, 1, 1, vU, [])),
  (2, (.invokevirtual 65, 3, 1, vU, [0, 12])),
  (5, (.astore_n 3, 1, 3, vU, [])),
  (6, (.new 128, 3, 15, vU, [])),
  (9, (.dup, 1, 0, vU, [])),
  (10, (.invokespecial 130, 3, 1, vU, [81])),
  (13, (.astore 4, 2, 4, vU, [])),
  (15, (.aload_n 3, 1, 3, vU, [])),
  (16, (.aload 4, 2, 4, vU, [])),
  (18, (.iconst 0, 1, 0, vI 0, [])),
  (19, (.iload_n 2, 1, 2, vU, [])),
  (20, (.ldc 133, 2, 0, vI 2147483647, [])),
  (22, (.invokevirtual 134, 3, 4, vU, [12, 66])),
  (25, (.aload 4, 2, 4, vU, [])),
  (27, (.invokevirtual 138, 3, 0, vU, [15, 83])),
  (30, (.astore 5, 2, 5, vU, [])),
  (32, (.aload 5, 2, 5, vU, [])),
  (34, (.ifnonnull 13, 3, 47, vU, [])),
  (37, (.new 116, 3, 64, vU, [])),
  (40, (.dup, 1, 0, vU, [])),
  (41, (.ldc 142, 2, 1, vU, [])),
  (43, (.invokespecial 120, 3, 2, vU, [])),
  (46, (.athrow, 1, 0, vU, [])),
  (47, (.aload 5, 2, 5, vU, [])),
  (49, (.getfield 97, 3, 134, vU, [])),
  (52, (.iconst 0, 1, 0, vI 0, [])),
  (53, (.iaload, 1, 0, vU, [])),
  (54, (.ireturn, 1, 0, vU, []))]
/-- PlannedTables.run.(I)I -/
def c_18 : List (Nat × EI) := [(0, (.aload_n 0, 1, 0, vU, [])),
  (1, (.iconst 0, 1, 0, vI 0, [])),
  (2, (.putfield 204, 3, 72, vU, [])),
  (5, (.aload_n 0, 1, 0, vU, [])),
  (6, (.invokevirtual 154, 3, 0, vU, [0, 5])),
  (9, (.ifCond .ge 7, 3, 16, vU, [])),
  (12, (.iload_n 1, 1, 1, vU, [])),
  (13, (.ifCond .ge 13, 3, 26, vU, [])),
  (16, (.new 41, 3, 60, vU, [])),
  (19, (.dup, 1, 0, vU, [])),
  (20, (.ldc 211, 2, 1, vU, [])),
  (22, (.invokespecial 45, 3, 2, vU, [])),
  (25, (.athrow, 1, 0, vU, [])),
  (26, (.aload_n 0, 1, 0, vU, [])),
  (27, (.getfield 34, 3, 66, vU, [])),
  (30, (.iload_n 1, 1, 1, vU, [])),
  (31, (.putfield 213, 3, 28, vU, [])),
  (34, (.aload_n 0, 1, 0, vU, [])),
  (35, (.getfield 34, 3, 66, vU, [])),
  (38, (.iconst 0, 1, 0, vI 0, [])),
  (39, (.putfield 216, 3, 32, vU, [])),
  (42, (.aload_n 0, 1, 0, vU, [])),
  (43, (.invokevirtual 219, 3, 0, vU, [0, 19])),
  (46, (.astore_n 2, 1, 2, vU, [])),
  (47, (.iconst 0, 1, 0, vI 0, [])),
  (48, (.istore_n 3, 1, 3, vU, [])),
  (49, (.aload_n 0, 1, 0, vU, [])),
  (50, (.aload_n 2, 1, 2, vU, [])),
  (51, (.invokevirtual 223, 3, 1, vU, [0, 21])),
  (54, (.istore_n 3, 1, 3, vU, [])),
  (55, (.goto 37, 3, 92, vU, [])),
  (58, (.astore 4, 2, 4, vU, [])),
  (60, (.aload_n 0, 1, 0, vU, [])),
  (61, (.iconst 0, 1, 0, vI 0, [])),
  (62, (.putfield 204, 3, 72, vU, [])),
  (65, (.new 52, 3, 63, vU, [])),
  (68, (.dup, 1, 0, vU, [])),
  (69, (.ldc 227, 2, 1, vU, [])),
  (71, (.invokespecial 56, 3, 2, vU, [])),
  (74, (.athrow, 1, 0, vU, [])),
  (75, (.astore 4, 2, 4, vU, [])),
  (77, (.aload_n 0, 1, 0, vU, [])),
  (78, (.iconst 0, 1, 0, vI 0, [])),
  (79, (.putfield 204, 3, 72, vU, [])),
  (82, (.new 84, 3, 61, vU, [])),
  (85, (.dup, 1, 0, vU, [])),
  (86, (.ldc 229, 2, 1, vU, [])),
  (88, (.invokespecial 88, 3, 2, vU, [])),
  (91, (.athrow, 1, 0, vU, [])),
  (92, (.aload_n 0, 1, 0, vU, [])),
  (93, (.aload_n 0, 1, 0, vU, [])),
  (94, (.getfield 34, 3, 66, vU, [])),
  (97, (.getfield 216, 3, 32, vU, [])),
  (100, (.putfield 231, 3, 76, vU, [])),
  (103, (.iload_n 3, 1, 3, vU, [])),
  (104, (.ireturn, 1, 0, vU, []))]
/-- PlannedTables.build.()LPlannedTables$Stage; -/
def c_19 : List (Nat × EI) := [(0, (.aload_n 0, 1, 0, vU, [])),
  (1, (.getfield 9, 3, 38, vU, [])),
  (4, (.aload_n 0, 1, 0, vU, [])),
  (5, (.getfield 19, 3, 54, vU, [])),
  (8, (.iconst 1, 1, 0, vI 1, [])),
  (9, (.iaload, 1, 0, vU, [])),
  (10, (.aaload, 1, 0, vU, [])),
  (11, (.astore_n 1, 1, 1, vU, [])),
  (12, (.aload_n 0, 1, 0, vU, [])),
  (13, (.getfield 19, 3, 54, vU, [])),
  (16, (.iconst 0, 1, 0, vI 0, [])),
  (17, (.iaload, 1, 0, vU, [])),
  (18, (.iconst 1, 1, 0, vI 1, [])),
  (19, (.if_icmp .ne 7, 3, 26, vU, [])),
  (22, (.iconst 1, 1, 0, vI 1, [])),
  (23, (.goto 4, 3, 27, vU, [])),
  (26, (.iconst 0, 1, 0, vI 0, [])),
  (27, (.istore_n 2, 1, 2, vU, [])),
  (28, (.iload_n 2, 1, 2, vU, [])),
  (29, (.ifCond .eq 23, 3, 52, vU, [])),
  (32, (.new 160, 3, 11, vU, [])),
  (35, (.dup, 1, 0, vU, [])),
  (36, (.aload_n 0, 1, 0, vU, [])),
  (37, (.getfield 34, 3, 66, vU, [])),
  (40, (.aload_n 1, 1, 1, vU, [])),
  (41, (.iconst 0, 1, 0, vI 0, [])),
  (42, (.ldc 162, 2, 0, vI (-2147483648), [])),
  (44, (.ldc 133, 2, 0, vI 2147483647, [])),
  (46, (.invokespecial 163, 3, 6, vU, [55])),
  (49, (.goto 33, 3, 82, vU, [])),
  (52, (.new 160, 3, 11, vU, [])),
  (55, (.dup, 1, 0, vU, [])),
  (56, (.aload_n 0, 1, 0, vU, [])),
  (57, (.getfield 34, 3, 66, vU, [])),
  (60, (.aload_n 1, 1, 1, vU, [])),
  (61, (.aload_n 0, 1, 0, vU, [])),
  (62, (.getfield 19, 3, 54, vU, [])),
  (65, (.iconst 2, 1, 0, vI 2, [])),
  (66, (.iaload, 1, 0, vU, [])),
  (67, (.aload_n 0, 1, 0, vU, [])),
  (68, (.getfield 19, 3, 54, vU, [])),
  (71, (.iconst 3, 1, 0, vI 3, [])),
  (72, (.iaload, 1, 0, vU, [])),
  (73, (.aload_n 0, 1, 0, vU, [])),
  (74, (.getfield 19, 3, 54, vU, [])),
  (77, (.iconst 4, 1, 0, vI 4, [])),
  (78, (.iaload, 1, 0, vU, [])),
  (79, (.invokespecial 163, 3, 6, vU, [55])),
  (82, (.astore_n 3, 1, 3, vU, [])),
  (83, (.iload_n 2, 1, 2, vU, [])),
  (84, (.ifCond .eq 7, 3, 91, vU, [])),
  (87, (.iconst 2, 1, 0, vI 2, [])),
  (88, (.goto 4, 3, 92, vU, [])),
  (91, (.iconst 5, 1, 0, vI 5, [])),
  (92, (.istore 4, 2, 4, vU, [])),
  (94, (.iload 4, 2, 4, vU, [])),
  (96, (.aload_n 0, 1, 0, vU, [])),
  (97, (.getfield 144, 3, 56, vU, [])),
  (100, (.if_icmp .ge 80, 3, 180, vU, [])),
  (103, (.aload_n 0, 1, 0, vU, [])),
  (104, (.getfield 19, 3, 54, vU, [])),
  (107, (.iload 4, 2, 4, vU, [])),
  (109, (.iaload, 1, 0, vU, [])),
  (110, (.istore 5, 2, 5, vU, [])),
  (112, (.aload_n 0, 1, 0, vU, [])),
  (113, (.aload_n 3, 1, 3, vU, [])),
  (114, (.iload 5, 2, 5, vU, [])),
  (116, (.iload 4, 2, 4, vU, [])),
  (118, (.iconst 1, 1, 0, vI 1, [])),
  (119, (.iadd, 1, 0, vU, [])),
  (120, (.invokevirtual 166, 3, 3, vU, [0, 20])),
  (123, (.astore_n 3, 1, 3, vU, [])),
  (124, (.iload 4, 2, 4, vU, [])),
  (126, (.iload 5, 2, 5, vU, [])),
  (128, (.iconst 4, 1, 0, vI 4, [])),
  (129, (.if_icmp .ne 17, 3, 146, vU, [])),
  (132, (.iconst 2, 1, 0, vI 2, [])),
  (133, (.aload_n 0, 1, 0, vU, [])),
  (134, (.getfield 19, 3, 54, vU, [])),
  (137, (.iload 4, 2, 4, vU, [])),
  (139, (.iconst 1, 1, 0, vI 1, [])),
  (140, (.iadd, 1, 0, vU, [])),
  (141, (.iaload, 1, 0, vU, [])),
  (142, (.iadd, 1, 0, vU, [])),
  (143, (.goto 31, 3, 174, vU, [])),
  (146, (.iload 5, 2, 5, vU, [])),
  (148, (.iconst 3, 1, 0, vI 3, [])),
  (149, (.if_icmp .eq 9, 3, 158, vU, [])),
  (152, (.iload 5, 2, 5, vU, [])),
  (154, (.iconst 5, 1, 0, vI 5, [])),
  (155, (.if_icmp .ne 7, 3, 162, vU, [])),
  (158, (.iconst 4, 1, 0, vI 4, [])),
  (159, (.goto 15, 3, 174, vU, [])),
  (162, (.iload 5, 2, 5, vU, [])),
  (164, (.bipush 8, 2, 0, vI 8, [])),
  (166, (.if_icmp .ne 7, 3, 173, vU, [])),
  (169, (.iconst 1, 1, 0, vI 1, [])),
  (170, (.goto 4, 3, 174, vU, [])),
  (173, (.iconst 2, 1, 0, vI 2, [])),
  (174, (.iadd, 1, 0, vU, [])),
  (175, (.istore 4, 2, 4, vU, [])),
  (177, (.goto (-83), 3, 94, vU, [])),
  (180, (.aload_n 3, 1, 3, vU, [])),
  (181, (.areturn, 1, 0, vU, []))]
/-- PlannedTables.step.(LPlannedTables$Stage;II)LPlannedTables$Stage; -/
def c_20 : List (Nat × EI) := [(0, (.iload_n 2, 1, 2, vU, [])),
  (1, (.tableswitch 191 3 9 #[43, 74, 96, 136, 151, 166, 176], 43, 192, vI 3, [44, 75, 97, 137, 152, 167, 177])),
  (44, (.new 170, 3, 2, vU, [])),
  (47, (.dup, 1, 0, vU, [])),
  (48, (.aload_n 1, 1, 1, vU, [])),
  (49, (.aload_n 0, 1, 0, vU, [])),
  (50, (.getfield 19, 3, 54, vU, [])),
  (53, (.iload_n 3, 1, 3, vU, [])),
  (54, (.iaload, 1, 0, vU, [])),
  (55, (.aload_n 0, 1, 0, vU, [])),
  (56, (.getfield 19, 3, 54, vU, [])),
  (59, (.iload_n 3, 1, 3, vU, [])),
  (60, (.iconst 1, 1, 0, vI 1, [])),
  (61, (.iadd, 1, 0, vU, [])),
  (62, (.iaload, 1, 0, vU, [])),
  (63, (.aload_n 0, 1, 0, vU, [])),
  (64, (.getfield 19, 3, 54, vU, [])),
  (67, (.iload_n 3, 1, 3, vU, [])),
  (68, (.iconst 2, 1, 0, vI 2, [])),
  (69, (.iadd, 1, 0, vU, [])),
  (70, (.iaload, 1, 0, vU, [])),
  (71, (.invokespecial 172, 3, 5, vU, [33])),
  (74, (.areturn, 1, 0, vU, [])),
  (75, (.new 175, 3, 8, vU, [])),
  (78, (.dup, 1, 0, vU, [])),
  (79, (.aload_n 1, 1, 1, vU, [])),
  (80, (.aload_n 0, 1, 0, vU, [])),
  (81, (.getfield 19, 3, 54, vU, [])),
  (84, (.iload_n 3, 1, 3, vU, [])),
  (85, (.iconst 1, 1, 0, vI 1, [])),
  (86, (.iadd, 1, 0, vU, [])),
  (87, (.aload_n 0, 1, 0, vU, [])),
  (88, (.getfield 19, 3, 54, vU, [])),
  (91, (.iload_n 3, 1, 3, vU, [])),
  (92, (.iaload, 1, 0, vU, [])),
  (93, (.invokespecial 177, 3, 5, vU, [50])),
  (96, (.areturn, 1, 0, vU, [])),
  (97, (.new 180, 3, 5, vU, [])),
  (100, (.dup, 1, 0, vU, [])),
  (101, (.aload_n 1, 1, 1, vU, [])),
  (102, (.aload_n 0, 1, 0, vU, [])),
  (103, (.getfield 34, 3, 66, vU, [])),
  (106, (.aload_n 0, 1, 0, vU, [])),
  (107, (.getfield 9, 3, 38, vU, [])),
  (110, (.aload_n 0, 1, 0, vU, [])),
  (111, (.getfield 19, 3, 54, vU, [])),
  (114, (.iload_n 3, 1, 3, vU, [])),
  (115, (.iaload, 1, 0, vU, [])),
  (116, (.aaload, 1, 0, vU, [])),
  (117, (.aload_n 0, 1, 0, vU, [])),
  (118, (.getfield 19, 3, 54, vU, [])),
  (121, (.iload_n 3, 1, 3, vU, [])),
  (122, (.iconst 1, 1, 0, vI 1, [])),
  (123, (.iadd, 1, 0, vU, [])),
  (124, (.iaload, 1, 0, vU, [])),
  (125, (.aload_n 0, 1, 0, vU, [])),
  (126, (.getfield 19, 3, 54, vU, [])),
  (129, (.iload_n 3, 1, 3, vU, [])),
  (130, (.iconst 2, 1, 0, vI 2, [])),
  (131, (.iadd, 1, 0, vU, [])),
  (132, (.iaload, 1, 0, vU, [])),
  (133, (.invokespecial 182, 3, 6, vU, [40])),
  (136, (.areturn, 1, 0, vU, [])),
  (137, (.new 185, 3, 10, vU, [])),
  (140, (.dup, 1, 0, vU, [])),
  (141, (.aload_n 1, 1, 1, vU, [])),
  (142, (.aload_n 0, 1, 0, vU, [])),
  (143, (.getfield 19, 3, 54, vU, [])),
  (146, (.iload_n 3, 1, 3, vU, [])),
  (147, (.iaload, 1, 0, vU, [])),
  (148, (.invokespecial 187, 3, 3, vU, [53])),
  (151, (.areturn, 1, 0, vU, [])),
  (152, (.new 190, 3, 4, vU, [])),
  (155, (.dup, 1, 0, vU, [])),
  (156, (.aload_n 1, 1, 1, vU, [])),
  (157, (.aload_n 0, 1, 0, vU, [])),
  (158, (.getfield 19, 3, 54, vU, [])),
  (161, (.iload_n 3, 1, 3, vU, [])),
  (162, (.iaload, 1, 0, vU, [])),
  (163, (.invokespecial 192, 3, 3, vU, [38])),
  (166, (.areturn, 1, 0, vU, [])),
  (167, (.new 193, 3, 13, vU, [])),
  (170, (.dup, 1, 0, vU, [])),
  (171, (.aload_n 1, 1, 1, vU, [])),
  (172, (.iconst (-1), 1, 0, vI (-1), [])),
  (173, (.invokespecial 195, 3, 3, vU, [67])),
  (176, (.areturn, 1, 0, vU, [])),
  (177, (.new 193, 3, 13, vU, [])),
  (180, (.dup, 1, 0, vU, [])),
  (181, (.aload_n 1, 1, 1, vU, [])),
  (182, (.aload_n 0, 1, 0, vU, [])),
  (183, (.getfield 19, 3, 54, vU, [])),
  (186, (.iload_n 3, 1, 3, vU, [])),
  (187, (.iaload, 1, 0, vU, [])),
  (188, (.invokespecial 195, 3, 3, vU, [67])),
  (191, (.areturn, 1, 0, vU, [])),
  (192, (.new 196, 3, 3, vU, [])),
  (195, (.dup, 1, 0, vU, [])),
  (196, (.aload_n 1, 1, 1, vU, [])),
  (197, (.aload_n 0, 1, 0, vU, [])),
  (198, (.getfield 19, 3, 54, vU, [])),
  (201, (.iload_n 3, 1, 3, vU, [])),
  (202, (.iaload, 1, 0, vU, [])),
  (203, (.invokespecial 198, 3, 3, vU, [36])),
  (206, (.areturn, 1, 0, vU, []))]
/-- PlannedTables.drain.(LPlannedTables$Stage;)I -/
def c_21 : List (Nat × EI) := [(0, (.iconst 0, 1, 0, vI 0, [])),
  (1, (.istore_n 2, 1, 2, vU, [])),
  (2, (.aload_n 1, 1, 1, vU, [])),
  (3, (.invokevirtual 199, 3, 0, vU, [2, 34, 3, 37, 4, 39, 5, 41, 8, 51, 10, 54, 11, 56, 13, 68])),
  (6, (.ifCond .eq 66, 3, 72, vU, [])),
  (9, (.aload_n 0, 1, 0, vU, [])),
  (10, (.getfield 204, 3, 72, vU, [])),
  (13, (.aload_n 1, 1, 1, vU, [])),
  (14, (.getfield 207, 3, 148, vU, [])),
  (17, (.iadd, 1, 0, vU, [])),
  (18, (.bipush 64, 2, 0, vI 64, [])),
  (20, (.if_icmp .le 13, 3, 33, vU, [])),
  (23, (.new 52, 3, 63, vU, [])),
  (26, (.dup, 1, 0, vU, [])),
  (27, (.ldc 208, 2, 1, vU, [])),
  (29, (.invokespecial 56, 3, 2, vU, [])),
  (32, (.athrow, 1, 0, vU, [])),
  (33, (.aload_n 1, 1, 1, vU, [])),
  (34, (.getfield 210, 3, 146, vU, [])),
  (37, (.iconst 0, 1, 0, vI 0, [])),
  (38, (.aload_n 0, 1, 0, vU, [])),
  (39, (.getfield 38, 3, 70, vU, [])),
  (42, (.aload_n 0, 1, 0, vU, [])),
  (43, (.getfield 204, 3, 72, vU, [])),
  (46, (.aload_n 1, 1, 1, vU, [])),
  (47, (.getfield 207, 3, 148, vU, [])),
  (50, (.invokestatic 103, 3, 5, vU, [9998])),
  (53, (.aload_n 0, 1, 0, vU, [])),
  (54, (.dup, 1, 0, vU, [])),
  (55, (.getfield 204, 3, 72, vU, [])),
  (58, (.aload_n 1, 1, 1, vU, [])),
  (59, (.getfield 207, 3, 148, vU, [])),
  (62, (.iadd, 1, 0, vU, [])),
  (63, (.putfield 204, 3, 72, vU, [])),
  (66, (.iinc 2 1, 3, 2, vI 1, [])),
  (69, (.goto (-67), 3, 2, vU, [])),
  (72, (.iload_n 2, 1, 2, vU, [])),
  (73, (.ireturn, 1, 0, vU, []))]
/-- PlannedTables$Checker.<init>.([I[LPlannedTables$Table;)V -/
def c_22 : List (Nat × EI) := [(0, (.aload_n 0, 1, 0, vU, [])),
  (1, (.invokespecial 3, 3, 1, vU, [9999])),
  (4, (.aload_n 0, 1, 0, vU, [])),
  (5, (.aload_n 1, 1, 1, vU, [])),
  (6, (.putfield 9, 3, 2, vU, [])),
  (9, (.aload_n 0, 1, 0, vU, [])),
  (10, (.aload_n 2, 1, 2, vU, [])),
  (11, (.putfield 15, 3, 6, vU, [])),
  (14, (.return_, 1, 0, vU, []))]
/-- PlannedTables$Checker.check.(II)V -/
def c_23 : List (Nat × EI) := [(0, (.aload_n 0, 1, 0, vU, [])),
  (1, (.iload_n 1, 1, 1, vU, [])),
  (2, (.putfield 33, 3, 8, vU, [])),
  (5, (.aload_n 0, 1, 0, vU, [])),
  (6, (.iload_n 2, 1, 2, vU, [])),
  (7, (.putfield 44, 3, 12, vU, [])),
  (10, (.aload_n 0, 1, 0, vU, [])),
  (11, (.iconst 0, 1, 0, vI 0, [])),
  (12, (.putfield 30, 3, 16, vU, [])),
  (15, (.aload_n 0, 1, 0, vU, [])),
  (16, (.iconst (-1), 1, 0, vI (-1), [])),
  (17, (.putfield 19, 3, 24, vU, [])),
  (20, (.aload_n 0, 1, 0, vU, [])),
  (21, (.invokevirtual 80, 3, 0, vU, [1, 24])),
  (24, (.aload_n 0, 1, 0, vU, [])),
  (25, (.getfield 30, 3, 16, vU, [])),
  (28, (.aload_n 0, 1, 0, vU, [])),
  (29, (.getfield 33, 3, 8, vU, [])),
  (32, (.if_icmp .ge 10, 3, 42, vU, [])),
  (35, (.aload_n 0, 1, 0, vU, [])),
  (36, (.invokevirtual 83, 3, 0, vU, [1, 30])),
  (39, (.goto (-15), 3, 24, vU, [])),
  (42, (.return_, 1, 0, vU, []))]
/-- PlannedTables$Checker.source.()V -/
def c_24 : List (Nat × EI) := [(0, (.aload_n 0, 1, 0, vU, [])),
  (1, (.iconst 1, 1, 0, vI 1, [])),
  (2, (.iconst 2, 1, 0, vI 2, [])),
  (3, (.invokevirtual 47, 3, 2, vU, [1, 25])),
  (6, (.istore_n 1, 1, 1, vU, [])),
  (7, (.aload_n 0, 1, 0, vU, [])),
  (8, (.invokevirtual 57, 3, 0, vU, [1, 28])),
  (11, (.astore_n 2, 1, 2, vU, [])),
  (12, (.aload_n 0, 1, 0, vU, [])),
  (13, (.aload_n 2, 1, 2, vU, [])),
  (14, (.getfield 61, 3, 108, vU, [])),
  (17, (.putfield 64, 3, 20, vU, [])),
  (20, (.iload_n 1, 1, 1, vU, [])),
  (21, (.iconst 2, 1, 0, vI 2, [])),
  (22, (.if_icmp .ne 18, 3, 40, vU, [])),
  (25, (.aload_n 0, 1, 0, vU, [])),
  (26, (.aload_n 2, 1, 2, vU, [])),
  (27, (.invokevirtual 67, 3, 1, vU, [1, 29])),
  (30, (.aload_n 0, 1, 0, vU, [])),
  (31, (.invokevirtual 40, 3, 0, vU, [1, 26])),
  (34, (.pop, 1, 0, vU, [])),
  (35, (.aload_n 0, 1, 0, vU, [])),
  (36, (.invokevirtual 40, 3, 0, vU, [1, 26])),
  (39, (.pop, 1, 0, vU, [])),
  (40, (.return_, 1, 0, vU, []))]
/-- PlannedTables$Checker.from.(II)I -/
def c_25 : List (Nat × EI) := [(0, (.aload_n 0, 1, 0, vU, [])),
  (1, (.invokevirtual 40, 3, 0, vU, [1, 26])),
  (4, (.istore_n 3, 1, 3, vU, [])),
  (5, (.aload_n 0, 1, 0, vU, [])),
  (6, (.iload_n 3, 1, 3, vU, [])),
  (7, (.iload_n 1, 1, 1, vU, [])),
  (8, (.if_icmp .lt 12, 3, 20, vU, [])),
  (11, (.iload_n 3, 1, 3, vU, [])),
  (12, (.iload_n 2, 1, 2, vU, [])),
  (13, (.if_icmp .gt 7, 3, 20, vU, [])),
  (16, (.iconst 1, 1, 0, vI 1, [])),
  (17, (.goto 4, 3, 21, vU, [])),
  (20, (.iconst 0, 1, 0, vI 0, [])),
  (21, (.aload_n 0, 1, 0, vU, [])),
  (22, (.getfield 30, 3, 16, vU, [])),
  (25, (.iconst 1, 1, 0, vI 1, [])),
  (26, (.isub, 1, 0, vU, [])),
  (27, (.invokevirtual 36, 3, 2, vU, [1, 27])),
  (30, (.iload_n 3, 1, 3, vU, [])),
  (31, (.ireturn, 1, 0, vU, []))]
/-- PlannedTables$Checker.word.()I -/
def c_26 : List (Nat × EI) := [(0, (.aload_n 0, 1, 0, vU, [])),
  (1, (.aload_n 0, 1, 0, vU, [])),
  (2, (.getfield 30, 3, 16, vU, [])),
  (5, (.aload_n 0, 1, 0, vU, [])),
  (6, (.getfield 33, 3, 8, vU, [])),
  (9, (.if_icmp .ge 7, 3, 16, vU, [])),
  (12, (.iconst 1, 1, 0, vI 1, [])),
  (13, (.goto 4, 3, 17, vU, [])),
  (16, (.iconst 0, 1, 0, vI 0, [])),
  (17, (.aload_n 0, 1, 0, vU, [])),
  (18, (.getfield 33, 3, 8, vU, [])),
  (21, (.invokevirtual 36, 3, 2, vU, [1, 27])),
  (24, (.aload_n 0, 1, 0, vU, [])),
  (25, (.getfield 9, 3, 2, vU, [])),
  (28, (.aload_n 0, 1, 0, vU, [])),
  (29, (.dup, 1, 0, vU, [])),
  (30, (.getfield 30, 3, 16, vU, [])),
  (33, (.dup_x1, 1, 0, vU, [])),
  (34, (.iconst 1, 1, 0, vI 1, [])),
  (35, (.iadd, 1, 0, vU, [])),
  (36, (.putfield 30, 3, 16, vU, [])),
  (39, (.iaload, 1, 0, vU, [])),
  (40, (.ireturn, 1, 0, vU, []))]
/-- PlannedTables$Checker.want.(ZI)V -/
def c_27 : List (Nat × EI) := [(0, (.iload_n 1, 1, 1, vU, [])),
  (1, (.ifCond .ne 18, 3, 19, vU, [])),
  (4, (.aload_n 0, 1, 0, vU, [])),
  (5, (.iload_n 2, 1, 2, vU, [])),
  (6, (.putfield 19, 3, 24, vU, [])),
  (9, (.new 23, 3, 61, vU, [])),
  (12, (.dup, 1, 0, vU, [])),
  (13, (.ldc 25, 2, 1, vU, [])),
  (15, (.invokespecial 27, 3, 2, vU, [])),
  (18, (.athrow, 1, 0, vU, [])),
  (19, (.return_, 1, 0, vU, []))]
/-- PlannedTables$Checker.table.()LPlannedTables$Table; -/
def c_28 : List (Nat × EI) := [(0, (.aload_n 0, 1, 0, vU, [])),
  (1, (.getfield 15, 3, 6, vU, [])),
  (4, (.aload_n 0, 1, 0, vU, [])),
  (5, (.iconst 0, 1, 0, vI 0, [])),
  (6, (.aload_n 0, 1, 0, vU, [])),
  (7, (.getfield 44, 3, 12, vU, [])),
  (10, (.iconst 1, 1, 0, vI 1, [])),
  (11, (.isub, 1, 0, vU, [])),
  (12, (.invokevirtual 47, 3, 2, vU, [1, 25])),
  (15, (.aaload, 1, 0, vU, [])),
  (16, (.areturn, 1, 0, vU, []))]
/-- PlannedTables$Checker.indexed.(LPlannedTables$Table;)V -/
def c_29 : List (Nat × EI) := [(0, (.aload_n 0, 1, 0, vU, [])),
  (1, (.invokevirtual 40, 3, 0, vU, [1, 26])),
  (4, (.istore_n 2, 1, 2, vU, [])),
  (5, (.aload_n 0, 1, 0, vU, [])),
  (6, (.aload_n 1, 1, 1, vU, [])),
  (7, (.iload_n 2, 1, 2, vU, [])),
  (8, (.invokevirtual 51, 3, 1, vU, [12, 57])),
  (11, (.aload_n 0, 1, 0, vU, [])),
  (12, (.getfield 30, 3, 16, vU, [])),
  (15, (.iconst 1, 1, 0, vI 1, [])),
  (16, (.isub, 1, 0, vU, [])),
  (17, (.invokevirtual 36, 3, 2, vU, [1, 27])),
  (20, (.return_, 1, 0, vU, []))]
/-- PlannedTables$Checker.step.()V -/
def c_30 : List (Nat × EI) := [(0, (.aload_n 0, 1, 0, vU, [])),
  (1, (.iconst 3, 1, 0, vI 3, [])),
  (2, (.bipush 10, 2, 0, vI 10, [])),
  (4, (.invokevirtual 47, 3, 2, vU, [1, 25])),
  (7, (.tableswitch 121 3 9 #[41, 68, 75, 82, 82, 93, 101], 41, 128, vI 3, [48, 75, 82, 89, 89, 100, 108])),
  (48, (.aload_n 0, 1, 0, vU, [])),
  (49, (.iconst 0, 1, 0, vI 0, [])),
  (50, (.aload_n 0, 1, 0, vU, [])),
  (51, (.getfield 64, 3, 20, vU, [])),
  (54, (.iconst 1, 1, 0, vI 1, [])),
  (55, (.isub, 1, 0, vU, [])),
  (56, (.invokevirtual 47, 3, 2, vU, [1, 25])),
  (59, (.pop, 1, 0, vU, [])),
  (60, (.aload_n 0, 1, 0, vU, [])),
  (61, (.iconst 0, 1, 0, vI 0, [])),
  (62, (.iconst 5, 1, 0, vI 5, [])),
  (63, (.invokevirtual 47, 3, 2, vU, [1, 25])),
  (66, (.pop, 1, 0, vU, [])),
  (67, (.aload_n 0, 1, 0, vU, [])),
  (68, (.invokevirtual 40, 3, 0, vU, [1, 26])),
  (71, (.pop, 1, 0, vU, [])),
  (72, (.goto 73, 3, 145, vU, [])),
  (75, (.aload_n 0, 1, 0, vU, [])),
  (76, (.invokevirtual 71, 3, 0, vU, [1, 31])),
  (79, (.goto 66, 3, 145, vU, [])),
  (82, (.aload_n 0, 1, 0, vU, [])),
  (83, (.invokevirtual 74, 3, 0, vU, [1, 32])),
  (86, (.goto 59, 3, 145, vU, [])),
  (89, (.aload_n 0, 1, 0, vU, [])),
  (90, (.iconst 0, 1, 0, vI 0, [])),
  (91, (.ldc 79, 2, 0, vI 2147483647, [])),
  (93, (.invokevirtual 47, 3, 2, vU, [1, 25])),
  (96, (.pop, 1, 0, vU, [])),
  (97, (.goto 48, 3, 145, vU, [])),
  (100, (.aload_n 0, 1, 0, vU, [])),
  (101, (.iconst 1, 1, 0, vI 1, [])),
  (102, (.putfield 64, 3, 20, vU, [])),
  (105, (.goto 40, 3, 145, vU, [])),
  (108, (.aload_n 0, 1, 0, vU, [])),
  (109, (.iconst 0, 1, 0, vI 0, [])),
  (110, (.aload_n 0, 1, 0, vU, [])),
  (111, (.getfield 64, 3, 20, vU, [])),
  (114, (.iconst 1, 1, 0, vI 1, [])),
  (115, (.isub, 1, 0, vU, [])),
  (116, (.invokevirtual 47, 3, 2, vU, [1, 25])),
  (119, (.pop, 1, 0, vU, [])),
  (120, (.aload_n 0, 1, 0, vU, [])),
  (121, (.iconst 1, 1, 0, vI 1, [])),
  (122, (.putfield 64, 3, 20, vU, [])),
  (125, (.goto 20, 3, 145, vU, [])),
  (128, (.aload_n 0, 1, 0, vU, [])),
  (129, (.iconst 0, 1, 0, vI 0, [])),
  (130, (.aload_n 0, 1, 0, vU, [])),
  (131, (.getfield 64, 3, 20, vU, [])),
  (134, (.iconst 1, 1, 0, vI 1, [])),
  (135, (.isub, 1, 0, vU, [])),
  (136, (.invokevirtual 47, 3, 2, vU, [1, 25])),
  (139, (.pop, 1, 0, vU, [])),
  (140, (.aload_n 0, 1, 0, vU, [])),
  (141, (.iconst 2, 1, 0, vI 2, [])),
  (142, (.putfield 64, 3, 20, vU, [])),
  (145, (.return_, 1, 0, vU, []))]
/-- PlannedTables$Checker.pick.()V -/
def c_31 : List (Nat × EI) := [(0, (.aload_n 0, 1, 0, vU, [])),
  (1, (.iconst 1, 1, 0, vI 1, [])),
  (2, (.bipush 8, 2, 0, vI 8, [])),
  (4, (.invokevirtual 47, 3, 2, vU, [1, 25])),
  (7, (.istore_n 1, 1, 1, vU, [])),
  (8, (.iconst 0, 1, 0, vI 0, [])),
  (9, (.istore_n 2, 1, 2, vU, [])),
  (10, (.iload_n 2, 1, 2, vU, [])),
  (11, (.iload_n 1, 1, 1, vU, [])),
  (12, (.if_icmp .ge 21, 3, 33, vU, [])),
  (15, (.aload_n 0, 1, 0, vU, [])),
  (16, (.iconst 0, 1, 0, vI 0, [])),
  (17, (.aload_n 0, 1, 0, vU, [])),
  (18, (.getfield 64, 3, 20, vU, [])),
  (21, (.iconst 1, 1, 0, vI 1, [])),
  (22, (.isub, 1, 0, vU, [])),
  (23, (.invokevirtual 47, 3, 2, vU, [1, 25])),
  (26, (.pop, 1, 0, vU, [])),
  (27, (.iinc 2 1, 3, 2, vI 1, [])),
  (30, (.goto (-20), 3, 10, vU, [])),
  (33, (.aload_n 0, 1, 0, vU, [])),
  (34, (.iload_n 1, 1, 1, vU, [])),
  (35, (.putfield 64, 3, 20, vU, [])),
  (38, (.return_, 1, 0, vU, []))]
/-- PlannedTables$Checker.join.()V -/
def c_32 : List (Nat × EI) := [(0, (.aload_n 0, 1, 0, vU, [])),
  (1, (.getfield 30, 3, 16, vU, [])),
  (4, (.istore_n 1, 1, 1, vU, [])),
  (5, (.aload_n 0, 1, 0, vU, [])),
  (6, (.invokevirtual 57, 3, 0, vU, [1, 28])),
  (9, (.astore_n 2, 1, 2, vU, [])),
  (10, (.aload_n 0, 1, 0, vU, [])),
  (11, (.aload_n 0, 1, 0, vU, [])),
  (12, (.getfield 64, 3, 20, vU, [])),
  (15, (.aload_n 2, 1, 2, vU, [])),
  (16, (.getfield 61, 3, 108, vU, [])),
  (19, (.iadd, 1, 0, vU, [])),
  (20, (.bipush 8, 2, 0, vI 8, [])),
  (22, (.if_icmp .gt 7, 3, 29, vU, [])),
  (25, (.iconst 1, 1, 0, vI 1, [])),
  (26, (.goto 4, 3, 30, vU, [])),
  (29, (.iconst 0, 1, 0, vI 0, [])),
  (30, (.iload_n 1, 1, 1, vU, [])),
  (31, (.invokevirtual 36, 3, 2, vU, [1, 27])),
  (34, (.aload_n 0, 1, 0, vU, [])),
  (35, (.aload_n 2, 1, 2, vU, [])),
  (36, (.invokevirtual 67, 3, 1, vU, [1, 29])),
  (39, (.aload_n 0, 1, 0, vU, [])),
  (40, (.iconst 0, 1, 0, vI 0, [])),
  (41, (.aload_n 0, 1, 0, vU, [])),
  (42, (.getfield 64, 3, 20, vU, [])),
  (45, (.iconst 1, 1, 0, vI 1, [])),
  (46, (.isub, 1, 0, vU, [])),
  (47, (.invokevirtual 47, 3, 2, vU, [1, 25])),
  (50, (.pop, 1, 0, vU, [])),
  (51, (.aload_n 0, 1, 0, vU, [])),
  (52, (.dup, 1, 0, vU, [])),
  (53, (.getfield 64, 3, 20, vU, [])),
  (56, (.aload_n 2, 1, 2, vU, [])),
  (57, (.getfield 61, 3, 108, vU, [])),
  (60, (.iadd, 1, 0, vU, [])),
  (61, (.putfield 64, 3, 20, vU, [])),
  (64, (.return_, 1, 0, vU, []))]
/-- PlannedTables$Filter.<init>.(LPlannedTables$Stage;III)V -/
def c_33 : List (Nat × EI) := [(0, (.aload_n 0, 1, 0, vU, [])),
  (1, (.aload_n 1, 1, 1, vU, [])),
  (2, (.invokespecial 1, 3, 2, vU, [133])),
  (5, (.aload_n 0, 1, 0, vU, [])),
  (6, (.iload_n 2, 1, 2, vU, [])),
  (7, (.putfield 7, 3, 152, vU, [])),
  (10, (.aload_n 0, 1, 0, vU, [])),
  (11, (.iload_n 3, 1, 3, vU, [])),
  (12, (.putfield 13, 3, 156, vU, [])),
  (15, (.aload_n 0, 1, 0, vU, [])),
  (16, (.iload 4, 2, 4, vU, [])),
  (18, (.putfield 16, 3, 160, vU, [])),
  (21, (.return_, 1, 0, vU, []))]
/-- PlannedTables$Filter.next.()Z -/
def c_34 : List (Nat × EI) := [(0, (.aload_n 0, 1, 0, vU, [])),
  (1, (.getfield 19, 3, 166, vU, [])),
  (4, (.invokevirtual 23, 3, 0, vU, [2, 34, 3, 37, 4, 39, 5, 41, 8, 51, 10, 54, 11, 56, 13, 68])),
  (7, (.ifCond .eq 28, 3, 35, vU, [])),
  (10, (.aload_n 0, 1, 0, vU, [])),
  (11, (.aload_n 0, 1, 0, vU, [])),
  (12, (.getfield 19, 3, 166, vU, [])),
  (15, (.getfield 29, 3, 146, vU, [])),
  (18, (.aload_n 0, 1, 0, vU, [])),
  (19, (.getfield 7, 3, 152, vU, [])),
  (22, (.iaload, 1, 0, vU, [])),
  (23, (.invokevirtual 33, 3, 1, vU, [2, 35])),
  (26, (.ifCond .eq (-26), 3, 0, vU, [])),
  (29, (.aload_n 0, 1, 0, vU, [])),
  (30, (.invokevirtual 37, 3, 0, vU, [2, 134])),
  (33, (.iconst 1, 1, 0, vI 1, [])),
  (34, (.ireturn, 1, 0, vU, [])),
  (35, (.iconst 0, 1, 0, vI 0, [])),
  (36, (.ireturn, 1, 0, vU, []))]
/-- PlannedTables$Filter.fits.(I)Z -/
def c_35 : List (Nat × EI) := [(0, (.aload_n 0, 1, 0, vU, [])),
  (1, (.getfield 13, 3, 156, vU, [])),
  (4, (.tableswitch 106 0 4 #[36, 50, 64, 78, 92], 36, 110, vI 0, [40, 54, 68, 82, 96])),
  (40, (.iload_n 1, 1, 1, vU, [])),
  (41, (.aload_n 0, 1, 0, vU, [])),
  (42, (.getfield 16, 3, 160, vU, [])),
  (45, (.if_icmp .ge 7, 3, 52, vU, [])),
  (48, (.iconst 1, 1, 0, vI 1, [])),
  (49, (.goto 4, 3, 53, vU, [])),
  (52, (.iconst 0, 1, 0, vI 0, [])),
  (53, (.ireturn, 1, 0, vU, [])),
  (54, (.iload_n 1, 1, 1, vU, [])),
  (55, (.aload_n 0, 1, 0, vU, [])),
  (56, (.getfield 16, 3, 160, vU, [])),
  (59, (.if_icmp .gt 7, 3, 66, vU, [])),
  (62, (.iconst 1, 1, 0, vI 1, [])),
  (63, (.goto 4, 3, 67, vU, [])),
  (66, (.iconst 0, 1, 0, vI 0, [])),
  (67, (.ireturn, 1, 0, vU, [])),
  (68, (.iload_n 1, 1, 1, vU, [])),
  (69, (.aload_n 0, 1, 0, vU, [])),
  (70, (.getfield 16, 3, 160, vU, [])),
  (73, (.if_icmp .ne 7, 3, 80, vU, [])),
  (76, (.iconst 1, 1, 0, vI 1, [])),
  (77, (.goto 4, 3, 81, vU, [])),
  (80, (.iconst 0, 1, 0, vI 0, [])),
  (81, (.ireturn, 1, 0, vU, [])),
  (82, (.iload_n 1, 1, 1, vU, [])),
  (83, (.aload_n 0, 1, 0, vU, [])),
  (84, (.getfield 16, 3, 160, vU, [])),
  (87, (.if_icmp .eq 7, 3, 94, vU, [])),
  (90, (.iconst 1, 1, 0, vI 1, [])),
  (91, (.goto 4, 3, 95, vU, [])),
  (94, (.iconst 0, 1, 0, vI 0, [])),
  (95, (.ireturn, 1, 0, vU, [])),
  (96, (.iload_n 1, 1, 1, vU, [])),
  (97, (.aload_n 0, 1, 0, vU, [])),
  (98, (.getfield 16, 3, 160, vU, [])),
  (101, (.if_icmp .lt 7, 3, 108, vU, [])),
  (104, (.iconst 1, 1, 0, vI 1, [])),
  (105, (.goto 4, 3, 109, vU, [])),
  (108, (.iconst 0, 1, 0, vI 0, [])),
  (109, (.ireturn, 1, 0, vU, [])),
  (110, (.iload_n 1, 1, 1, vU, [])),
  (111, (.aload_n 0, 1, 0, vU, [])),
  (112, (.getfield 16, 3, 160, vU, [])),
  (115, (.if_icmp .le 7, 3, 122, vU, [])),
  (118, (.iconst 1, 1, 0, vI 1, [])),
  (119, (.goto 4, 3, 123, vU, [])),
  (122, (.iconst 0, 1, 0, vI 0, [])),
  (123, (.ireturn, 1, 0, vU, []))]
/-- PlannedTables$Grouper.<init>.(LPlannedTables$Stage;I)V -/
def c_36 : List (Nat × EI) := [(0, (.aload_n 0, 1, 0, vU, [])),
  (1, (.aload_n 1, 1, 1, vU, [])),
  (2, (.invokespecial 1, 3, 2, vU, [133])),
  (5, (.aload_n 0, 1, 0, vU, [])),
  (6, (.iload_n 2, 1, 2, vU, [])),
  (7, (.putfield 7, 3, 212, vU, [])),
  (10, (.aload_n 0, 1, 0, vU, [])),
  (11, (.iconst 2, 1, 0, vI 2, [])),
  (12, (.putfield 13, 3, 148, vU, [])),
  (15, (.return_, 1, 0, vU, []))]
/-- PlannedTables$Grouper.next.()Z -/
def c_37 : List (Nat × EI) := [(0, (.aload_n 0, 1, 0, vU, [])),
  (1, (.getfield 16, 3, 223, vU, [])),
  (4, (.ifCond .ne 20, 3, 24, vU, [])),
  (7, (.aload_n 0, 1, 0, vU, [])),
  (8, (.getfield 20, 3, 219, vU, [])),
  (11, (.ifCond .ne 20, 3, 31, vU, [])),
  (14, (.aload_n 0, 1, 0, vU, [])),
  (15, (.getfield 23, 3, 166, vU, [])),
  (18, (.invokevirtual 27, 3, 0, vU, [2, 34, 3, 37, 4, 39, 5, 41, 8, 51, 10, 54, 11, 56, 13, 68])),
  (21, (.ifCond .ne 10, 3, 31, vU, [])),
  (24, (.aload_n 0, 1, 0, vU, [])),
  (25, (.iconst 1, 1, 0, vI 1, [])),
  (26, (.putfield 16, 3, 223, vU, [])),
  (29, (.iconst 0, 1, 0, vI 0, [])),
  (30, (.ireturn, 1, 0, vU, [])),
  (31, (.aload_n 0, 1, 0, vU, [])),
  (32, (.getfield 33, 3, 146, vU, [])),
  (35, (.iconst 0, 1, 0, vI 0, [])),
  (36, (.aload_n 0, 1, 0, vU, [])),
  (37, (.getfield 23, 3, 166, vU, [])),
  (40, (.getfield 37, 3, 146, vU, [])),
  (43, (.aload_n 0, 1, 0, vU, [])),
  (44, (.getfield 7, 3, 212, vU, [])),
  (47, (.iaload, 1, 0, vU, [])),
  (48, (.iastore, 1, 0, vU, [])),
  (49, (.aload_n 0, 1, 0, vU, [])),
  (50, (.getfield 33, 3, 146, vU, [])),
  (53, (.iconst 1, 1, 0, vI 1, [])),
  (54, (.iconst 0, 1, 0, vI 0, [])),
  (55, (.iastore, 1, 0, vU, [])),
  (56, (.aload_n 0, 1, 0, vU, [])),
  (57, (.iconst 1, 1, 0, vI 1, [])),
  (58, (.putfield 20, 3, 219, vU, [])),
  (61, (.aload_n 0, 1, 0, vU, [])),
  (62, (.getfield 20, 3, 219, vU, [])),
  (65, (.ifCond .eq 48, 3, 113, vU, [])),
  (68, (.aload_n 0, 1, 0, vU, [])),
  (69, (.getfield 23, 3, 166, vU, [])),
  (72, (.getfield 37, 3, 146, vU, [])),
  (75, (.aload_n 0, 1, 0, vU, [])),
  (76, (.getfield 7, 3, 212, vU, [])),
  (79, (.iaload, 1, 0, vU, [])),
  (80, (.aload_n 0, 1, 0, vU, [])),
  (81, (.getfield 33, 3, 146, vU, [])),
  (84, (.iconst 0, 1, 0, vI 0, [])),
  (85, (.iaload, 1, 0, vU, [])),
  (86, (.if_icmp .ne 27, 3, 113, vU, [])),
  (89, (.aload_n 0, 1, 0, vU, [])),
  (90, (.getfield 33, 3, 146, vU, [])),
  (93, (.iconst 1, 1, 0, vI 1, [])),
  (94, (.dup2, 1, 0, vU, [])),
  (95, (.iaload, 1, 0, vU, [])),
  (96, (.iconst 1, 1, 0, vI 1, [])),
  (97, (.iadd, 1, 0, vU, [])),
  (98, (.iastore, 1, 0, vU, [])),
  (99, (.aload_n 0, 1, 0, vU, [])),
  (100, (.aload_n 0, 1, 0, vU, [])),
  (101, (.getfield 23, 3, 166, vU, [])),
  (104, (.invokevirtual 27, 3, 0, vU, [2, 34, 3, 37, 4, 39, 5, 41, 8, 51, 10, 54, 11, 56, 13, 68])),
  (107, (.putfield 20, 3, 219, vU, [])),
  (110, (.goto (-49), 3, 61, vU, [])),
  (113, (.aload_n 0, 1, 0, vU, [])),
  (114, (.aload_n 0, 1, 0, vU, [])),
  (115, (.getfield 20, 3, 219, vU, [])),
  (118, (.ifCond .ne 7, 3, 125, vU, [])),
  (121, (.iconst 1, 1, 0, vI 1, [])),
  (122, (.goto 4, 3, 126, vU, [])),
  (125, (.iconst 0, 1, 0, vI 0, [])),
  (126, (.putfield 16, 3, 223, vU, [])),
  (129, (.iconst 1, 1, 0, vI 1, [])),
  (130, (.ireturn, 1, 0, vU, []))]
/-- PlannedTables$Head.<init>.(LPlannedTables$Stage;I)V -/
def c_38 : List (Nat × EI) := [(0, (.aload_n 0, 1, 0, vU, [])),
  (1, (.aload_n 1, 1, 1, vU, [])),
  (2, (.invokespecial 1, 3, 2, vU, [133])),
  (5, (.aload_n 0, 1, 0, vU, [])),
  (6, (.iload_n 2, 1, 2, vU, [])),
  (7, (.putfield 7, 3, 200, vU, [])),
  (10, (.return_, 1, 0, vU, []))]
/-- PlannedTables$Head.next.()Z -/
def c_39 : List (Nat × EI) := [(0, (.aload_n 0, 1, 0, vU, [])),
  (1, (.getfield 7, 3, 200, vU, [])),
  (4, (.ifCond .eq 13, 3, 17, vU, [])),
  (7, (.aload_n 0, 1, 0, vU, [])),
  (8, (.getfield 13, 3, 166, vU, [])),
  (11, (.invokevirtual 17, 3, 0, vU, [2, 34, 3, 37, 4, 39, 5, 41, 8, 51, 10, 54, 11, 56, 13, 68])),
  (14, (.ifCond .ne 5, 3, 19, vU, [])),
  (17, (.iconst 0, 1, 0, vI 0, [])),
  (18, (.ireturn, 1, 0, vU, [])),
  (19, (.aload_n 0, 1, 0, vU, [])),
  (20, (.dup, 1, 0, vU, [])),
  (21, (.getfield 7, 3, 200, vU, [])),
  (24, (.iconst 1, 1, 0, vI 1, [])),
  (25, (.isub, 1, 0, vU, [])),
  (26, (.putfield 7, 3, 200, vU, [])),
  (29, (.aload_n 0, 1, 0, vU, [])),
  (30, (.invokevirtual 23, 3, 0, vU, [4, 134])),
  (33, (.iconst 1, 1, 0, vI 1, [])),
  (34, (.ireturn, 1, 0, vU, []))]
/-- PlannedTables$Joiner.<init>.(LPlannedTables$Stage;LPlannedTables$Meter;LPlannedTables$Table;II)V -/
def c_40 : List (Nat × EI) := [(0, (.aload_n 0, 1, 0, vU, [])),
  (1, (.aload_n 1, 1, 1, vU, [])),
  (2, (.invokespecial 1, 3, 2, vU, [133])),
  (5, (.aload_n 0, 1, 0, vU, [])),
  (6, (.new 7, 3, 15, vU, [])),
  (9, (.dup, 1, 0, vU, [])),
  (10, (.invokespecial 9, 3, 1, vU, [81])),
  (13, (.putfield 12, 3, 174, vU, [])),
  (16, (.aload_n 0, 1, 0, vU, [])),
  (17, (.aload_n 2, 1, 2, vU, [])),
  (18, (.putfield 18, 3, 178, vU, [])),
  (21, (.aload_n 0, 1, 0, vU, [])),
  (22, (.aload_n 3, 1, 3, vU, [])),
  (23, (.putfield 22, 3, 182, vU, [])),
  (26, (.aload_n 0, 1, 0, vU, [])),
  (27, (.iload 4, 2, 4, vU, [])),
  (29, (.putfield 26, 3, 184, vU, [])),
  (32, (.aload_n 0, 1, 0, vU, [])),
  (33, (.iload 5, 2, 5, vU, [])),
  (35, (.putfield 30, 3, 188, vU, [])),
  (38, (.aload_n 0, 1, 0, vU, [])),
  (39, (.aload_n 1, 1, 1, vU, [])),
  (40, (.getfield 33, 3, 148, vU, [])),
  (43, (.aload_n 3, 1, 3, vU, [])),
  (44, (.getfield 38, 3, 108, vU, [])),
  (47, (.iadd, 1, 0, vU, [])),
  (48, (.putfield 43, 3, 148, vU, [])),
  (51, (.return_, 1, 0, vU, []))]
/-- PlannedTables$Joiner.next.()Z -/
def c_41 : List (Nat × EI) := [(0, (.aload_n 0, 1, 0, vU, [])),
  (1, (.getfield 44, 3, 195, vU, [])),
  (4, (.ifCond .eq 13, 3, 17, vU, [])),
  (7, (.aload_n 0, 1, 0, vU, [])),
  (8, (.getfield 12, 3, 174, vU, [])),
  (11, (.invokevirtual 48, 3, 0, vU, [15, 83])),
  (14, (.goto 4, 3, 18, vU, [])),
  (17, (.aconst_null, 1, 0, vU, [])),
  (18, (.astore_n 1, 1, 1, vU, [])),
  (19, (.aload_n 1, 1, 1, vU, [])),
  (20, (.ifnonnull 66, 3, 86, vU, [])),
  (23, (.aload_n 0, 1, 0, vU, [])),
  (24, (.getfield 52, 3, 166, vU, [])),
  (27, (.invokevirtual 56, 3, 0, vU, [2, 34, 3, 37, 4, 39, 5, 41, 8, 51, 10, 54, 11, 56, 13, 68])),
  (30, (.ifCond .ne 10, 3, 40, vU, [])),
  (33, (.aload_n 0, 1, 0, vU, [])),
  (34, (.iconst 0, 1, 0, vI 0, [])),
  (35, (.putfield 44, 3, 195, vU, [])),
  (38, (.iconst 0, 1, 0, vI 0, [])),
  (39, (.ireturn, 1, 0, vU, [])),
  (40, (.aload_n 0, 1, 0, vU, [])),
  (41, (.getfield 52, 3, 166, vU, [])),
  (44, (.getfield 59, 3, 146, vU, [])),
  (47, (.aload_n 0, 1, 0, vU, [])),
  (48, (.getfield 30, 3, 188, vU, [])),
  (51, (.iaload, 1, 0, vU, [])),
  (52, (.istore_n 2, 1, 2, vU, [])),
  (53, (.aload_n 0, 1, 0, vU, [])),
  (54, (.getfield 22, 3, 182, vU, [])),
  (57, (.aload_n 0, 1, 0, vU, [])),
  (58, (.getfield 12, 3, 174, vU, [])),
  (61, (.aload_n 0, 1, 0, vU, [])),
  (62, (.getfield 26, 3, 184, vU, [])),
  (65, (.iload_n 2, 1, 2, vU, [])),
  (66, (.iload_n 2, 1, 2, vU, [])),
  (67, (.invokevirtual 63, 3, 4, vU, [12, 66])),
  (70, (.aload_n 0, 1, 0, vU, [])),
  (71, (.iconst 1, 1, 0, vI 1, [])),
  (72, (.putfield 44, 3, 195, vU, [])),
  (75, (.aload_n 0, 1, 0, vU, [])),
  (76, (.getfield 12, 3, 174, vU, [])),
  (79, (.invokevirtual 48, 3, 0, vU, [15, 83])),
  (82, (.astore_n 1, 1, 1, vU, [])),
  (83, (.goto (-64), 3, 19, vU, [])),
  (86, (.aload_n 0, 1, 0, vU, [])),
  (87, (.getfield 18, 3, 178, vU, [])),
  (90, (.invokevirtual 67, 3, 0, vU, [6, 43])),
  (93, (.aload_n 0, 1, 0, vU, [])),
  (94, (.invokevirtual 72, 3, 0, vU, [5, 134])),
  (97, (.aload_n 0, 1, 0, vU, [])),
  (98, (.aload_n 1, 1, 1, vU, [])),
  (99, (.getfield 75, 3, 134, vU, [])),
  (102, (.aload_n 0, 1, 0, vU, [])),
  (103, (.getfield 22, 3, 182, vU, [])),
  (106, (.getfield 38, 3, 108, vU, [])),
  (109, (.aload_n 0, 1, 0, vU, [])),
  (110, (.getfield 52, 3, 166, vU, [])),
  (113, (.getfield 33, 3, 148, vU, [])),
  (116, (.invokevirtual 78, 3, 3, vU, [5, 132])),
  (119, (.iconst 1, 1, 0, vI 1, [])),
  (120, (.ireturn, 1, 0, vU, []))]
/-- PlannedTables$Meter.<init>.()V -/
def c_42 : List (Nat × EI) := [(0, (.aload_n 0, 1, 0, vU, [])),
  (1, (.invokespecial 1, 3, 1, vU, [9999])),
  (4, (.return_, 1, 0, vU, []))]
/-- PlannedTables$Meter.visit.()V -/
def c_43 : List (Nat × EI) := [(0, (.aload_n 0, 1, 0, vU, [])),
  (1, (.getfield 7, 3, 32, vU, [])),
  (4, (.aload_n 0, 1, 0, vU, [])),
  (5, (.getfield 13, 3, 28, vU, [])),
  (8, (.if_icmp .ne 13, 3, 21, vU, [])),
  (11, (.new 16, 3, 61, vU, [])),
  (14, (.dup, 1, 0, vU, [])),
  (15, (.ldc 18, 2, 1, vU, [])),
  (17, (.invokespecial 20, 3, 2, vU, [])),
  (20, (.athrow, 1, 0, vU, [])),
  (21, (.aload_n 0, 1, 0, vU, [])),
  (22, (.dup, 1, 0, vU, [])),
  (23, (.getfield 7, 3, 32, vU, [])),
  (26, (.iconst 1, 1, 0, vI 1, [])),
  (27, (.iadd, 1, 0, vU, [])),
  (28, (.putfield 7, 3, 32, vU, [])),
  (31, (.return_, 1, 0, vU, []))]
/-- PlannedTables$Page.<init>.(Z)V -/
def c_44 : List (Nat × EI) := [(0, (.aload_n 0, 1, 0, vU, [])),
  (1, (.invokespecial 1, 3, 1, vU, [9999])),
  (4, (.aload_n 0, 1, 0, vU, [])),
  (5, (.iconst 5, 1, 0, vI 5, [])),
  (6, (.newarray .long, 2, 2, vU, [])),
  (8, (.putfield 7, 3, 86, vU, [])),
  (11, (.aload_n 0, 1, 0, vU, [])),
  (12, (.iconst 5, 1, 0, vI 5, [])),
  (13, (.anewarray 13, 3, 3, vU, [])),
  (16, (.putfield 15, 3, 90, vU, [])),
  (19, (.aload_n 0, 1, 0, vU, [])),
  (20, (.bipush 6, 2, 0, vI 6, [])),
  (22, (.anewarray 8, 3, 4, vU, [])),
  (25, (.putfield 19, 3, 94, vU, [])),
  (28, (.aload_n 0, 1, 0, vU, [])),
  (29, (.iload_n 1, 1, 1, vU, [])),
  (30, (.putfield 23, 3, 83, vU, [])),
  (33, (.return_, 1, 0, vU, []))]
/-- PlannedTables$Page.branch.(J)I -/
def c_45 : List (Nat × EI) := [(0, (.iconst 0, 1, 0, vI 0, [])),
  (1, (.istore_n 3, 1, 3, vU, [])),
  (2, (.iload_n 3, 1, 3, vU, [])),
  (3, (.aload_n 0, 1, 0, vU, [])),
  (4, (.getfield 27, 3, 96, vU, [])),
  (7, (.if_icmp .ge 20, 3, 27, vU, [])),
  (10, (.aload_n 0, 1, 0, vU, [])),
  (11, (.getfield 7, 3, 86, vU, [])),
  (14, (.iload_n 3, 1, 3, vU, [])),
  (15, (.laload, 1, 0, vU, [])),
  (16, (.lload_n 1, 1, 1, vU, [])),
  (17, (.lcmp, 1, 0, vU, [])),
  (18, (.ifCond .gt 9, 3, 27, vU, [])),
  (21, (.iinc 3 1, 3, 3, vI 1, [])),
  (24, (.goto (-22), 3, 2, vU, [])),
  (27, (.iload_n 3, 1, 3, vU, [])),
  (28, (.ireturn, 1, 0, vU, []))]
/-- PlannedTables$Page.place.(J)I -/
def c_46 : List (Nat × EI) := [(0, (.iconst 0, 1, 0, vI 0, [])),
  (1, (.istore_n 3, 1, 3, vU, [])),
  (2, (.iload_n 3, 1, 3, vU, [])),
  (3, (.aload_n 0, 1, 0, vU, [])),
  (4, (.getfield 27, 3, 96, vU, [])),
  (7, (.if_icmp .ge 20, 3, 27, vU, [])),
  (10, (.aload_n 0, 1, 0, vU, [])),
  (11, (.getfield 7, 3, 86, vU, [])),
  (14, (.iload_n 3, 1, 3, vU, [])),
  (15, (.laload, 1, 0, vU, [])),
  (16, (.lload_n 1, 1, 1, vU, [])),
  (17, (.lcmp, 1, 0, vU, [])),
  (18, (.ifCond .ge 9, 3, 27, vU, [])),
  (21, (.iinc 3 1, 3, 3, vI 1, [])),
  (24, (.goto (-22), 3, 2, vU, [])),
  (27, (.iload_n 3, 1, 3, vU, [])),
  (28, (.ireturn, 1, 0, vU, []))]
/-- PlannedTables$Page.insert.(IJLPlannedTables$Row;LPlannedTables$Page;)V -/
def c_47 : List (Nat × EI) := [(0, (.aload_n 0, 1, 0, vU, [])),
  (1, (.getfield 27, 3, 96, vU, [])),
  (4, (.istore 6, 2, 6, vU, [])),
  (6, (.iload 6, 2, 6, vU, [])),
  (8, (.iload_n 1, 1, 1, vU, [])),
  (9, (.if_icmp .le 57, 3, 66, vU, [])),
  (12, (.aload_n 0, 1, 0, vU, [])),
  (13, (.getfield 7, 3, 86, vU, [])),
  (16, (.iload 6, 2, 6, vU, [])),
  (18, (.aload_n 0, 1, 0, vU, [])),
  (19, (.getfield 7, 3, 86, vU, [])),
  (22, (.iload 6, 2, 6, vU, [])),
  (24, (.iconst 1, 1, 0, vI 1, [])),
  (25, (.isub, 1, 0, vU, [])),
  (26, (.laload, 1, 0, vU, [])),
  (27, (.lastore, 1, 0, vU, [])),
  (28, (.aload_n 0, 1, 0, vU, [])),
  (29, (.getfield 15, 3, 90, vU, [])),
  (32, (.iload 6, 2, 6, vU, [])),
  (34, (.aload_n 0, 1, 0, vU, [])),
  (35, (.getfield 15, 3, 90, vU, [])),
  (38, (.iload 6, 2, 6, vU, [])),
  (40, (.iconst 1, 1, 0, vI 1, [])),
  (41, (.isub, 1, 0, vU, [])),
  (42, (.aaload, 1, 0, vU, [])),
  (43, (.aastore, 1, 0, vU, [])),
  (44, (.aload_n 0, 1, 0, vU, [])),
  (45, (.getfield 19, 3, 94, vU, [])),
  (48, (.iload 6, 2, 6, vU, [])),
  (50, (.iconst 1, 1, 0, vI 1, [])),
  (51, (.iadd, 1, 0, vU, [])),
  (52, (.aload_n 0, 1, 0, vU, [])),
  (53, (.getfield 19, 3, 94, vU, [])),
  (56, (.iload 6, 2, 6, vU, [])),
  (58, (.aaload, 1, 0, vU, [])),
  (59, (.aastore, 1, 0, vU, [])),
  (60, (.iinc 6 (-1), 3, 6, vI (-1), [])),
  (63, (.goto (-57), 3, 6, vU, [])),
  (66, (.aload_n 0, 1, 0, vU, [])),
  (67, (.getfield 7, 3, 86, vU, [])),
  (70, (.iload_n 1, 1, 1, vU, [])),
  (71, (.lload_n 2, 1, 2, vU, [])),
  (72, (.lastore, 1, 0, vU, [])),
  (73, (.aload_n 0, 1, 0, vU, [])),
  (74, (.getfield 15, 3, 90, vU, [])),
  (77, (.iload_n 1, 1, 1, vU, [])),
  (78, (.aload 4, 2, 4, vU, [])),
  (80, (.aastore, 1, 0, vU, [])),
  (81, (.aload_n 0, 1, 0, vU, [])),
  (82, (.getfield 19, 3, 94, vU, [])),
  (85, (.iload_n 1, 1, 1, vU, [])),
  (86, (.iconst 1, 1, 0, vI 1, [])),
  (87, (.iadd, 1, 0, vU, [])),
  (88, (.aload 5, 2, 5, vU, [])),
  (90, (.aastore, 1, 0, vU, [])),
  (91, (.aload_n 0, 1, 0, vU, [])),
  (92, (.dup, 1, 0, vU, [])),
  (93, (.getfield 27, 3, 96, vU, [])),
  (96, (.iconst 1, 1, 0, vI 1, [])),
  (97, (.iadd, 1, 0, vU, [])),
  (98, (.putfield 27, 3, 96, vU, [])),
  (101, (.return_, 1, 0, vU, []))]
/-- PlannedTables$Page.remove.(I)V -/
def c_48 : List (Nat × EI) := [(0, (.aload_n 0, 1, 0, vU, [])),
  (1, (.dup, 1, 0, vU, [])),
  (2, (.getfield 27, 3, 96, vU, [])),
  (5, (.iconst 1, 1, 0, vI 1, [])),
  (6, (.isub, 1, 0, vU, [])),
  (7, (.putfield 27, 3, 96, vU, [])),
  (10, (.iload_n 1, 1, 1, vU, [])),
  (11, (.istore_n 2, 1, 2, vU, [])),
  (12, (.iload_n 2, 1, 2, vU, [])),
  (13, (.aload_n 0, 1, 0, vU, [])),
  (14, (.getfield 27, 3, 96, vU, [])),
  (17, (.if_icmp .ge 53, 3, 70, vU, [])),
  (20, (.aload_n 0, 1, 0, vU, [])),
  (21, (.getfield 7, 3, 86, vU, [])),
  (24, (.iload_n 2, 1, 2, vU, [])),
  (25, (.aload_n 0, 1, 0, vU, [])),
  (26, (.getfield 7, 3, 86, vU, [])),
  (29, (.iload_n 2, 1, 2, vU, [])),
  (30, (.iconst 1, 1, 0, vI 1, [])),
  (31, (.iadd, 1, 0, vU, [])),
  (32, (.laload, 1, 0, vU, [])),
  (33, (.lastore, 1, 0, vU, [])),
  (34, (.aload_n 0, 1, 0, vU, [])),
  (35, (.getfield 15, 3, 90, vU, [])),
  (38, (.iload_n 2, 1, 2, vU, [])),
  (39, (.aload_n 0, 1, 0, vU, [])),
  (40, (.getfield 15, 3, 90, vU, [])),
  (43, (.iload_n 2, 1, 2, vU, [])),
  (44, (.iconst 1, 1, 0, vI 1, [])),
  (45, (.iadd, 1, 0, vU, [])),
  (46, (.aaload, 1, 0, vU, [])),
  (47, (.aastore, 1, 0, vU, [])),
  (48, (.aload_n 0, 1, 0, vU, [])),
  (49, (.getfield 19, 3, 94, vU, [])),
  (52, (.iload_n 2, 1, 2, vU, [])),
  (53, (.iconst 1, 1, 0, vI 1, [])),
  (54, (.iadd, 1, 0, vU, [])),
  (55, (.aload_n 0, 1, 0, vU, [])),
  (56, (.getfield 19, 3, 94, vU, [])),
  (59, (.iload_n 2, 1, 2, vU, [])),
  (60, (.iconst 2, 1, 0, vI 2, [])),
  (61, (.iadd, 1, 0, vU, [])),
  (62, (.aaload, 1, 0, vU, [])),
  (63, (.aastore, 1, 0, vU, [])),
  (64, (.iinc 2 1, 3, 2, vI 1, [])),
  (67, (.goto (-55), 3, 12, vU, [])),
  (70, (.aload_n 0, 1, 0, vU, [])),
  (71, (.getfield 15, 3, 90, vU, [])),
  (74, (.aload_n 0, 1, 0, vU, [])),
  (75, (.getfield 27, 3, 96, vU, [])),
  (78, (.aconst_null, 1, 0, vU, [])),
  (79, (.aastore, 1, 0, vU, [])),
  (80, (.aload_n 0, 1, 0, vU, [])),
  (81, (.getfield 19, 3, 94, vU, [])),
  (84, (.aload_n 0, 1, 0, vU, [])),
  (85, (.getfield 27, 3, 96, vU, [])),
  (88, (.iconst 1, 1, 0, vI 1, [])),
  (89, (.iadd, 1, 0, vU, [])),
  (90, (.aconst_null, 1, 0, vU, [])),
  (91, (.aastore, 1, 0, vU, [])),
  (92, (.return_, 1, 0, vU, []))]
/-- PlannedTables$Page.removeFirst.()V -/
def c_49 : List (Nat × EI) := [(0, (.aload_n 0, 1, 0, vU, [])),
  (1, (.getfield 19, 3, 94, vU, [])),
  (4, (.iconst 0, 1, 0, vI 0, [])),
  (5, (.aload_n 0, 1, 0, vU, [])),
  (6, (.getfield 19, 3, 94, vU, [])),
  (9, (.iconst 1, 1, 0, vI 1, [])),
  (10, (.aaload, 1, 0, vU, [])),
  (11, (.aastore, 1, 0, vU, [])),
  (12, (.aload_n 0, 1, 0, vU, [])),
  (13, (.iconst 0, 1, 0, vI 0, [])),
  (14, (.invokevirtual 31, 3, 1, vU, [7, 48])),
  (17, (.return_, 1, 0, vU, []))]
/-- PlannedTables$Picker.<init>.(LPlannedTables$Stage;[III)V -/
def c_50 : List (Nat × EI) := [(0, (.aload_n 0, 1, 0, vU, [])),
  (1, (.aload_n 1, 1, 1, vU, [])),
  (2, (.invokespecial 1, 3, 2, vU, [133])),
  (5, (.aload_n 0, 1, 0, vU, [])),
  (6, (.bipush 8, 2, 0, vI 8, [])),
  (8, (.newarray .int, 2, 0, vU, [])),
  (10, (.putfield 7, 3, 170, vU, [])),
  (13, (.aload_n 0, 1, 0, vU, [])),
  (14, (.iload 4, 2, 4, vU, [])),
  (16, (.putfield 13, 3, 148, vU, [])),
  (19, (.aload_n 2, 1, 2, vU, [])),
  (20, (.iload_n 3, 1, 3, vU, [])),
  (21, (.aload_n 0, 1, 0, vU, [])),
  (22, (.getfield 7, 3, 170, vU, [])),
  (25, (.iconst 0, 1, 0, vI 0, [])),
  (26, (.iload 4, 2, 4, vU, [])),
  (28, (.invokestatic 17, 3, 5, vU, [9998])),
  (31, (.return_, 1, 0, vU, []))]
/-- PlannedTables$Picker.next.()Z -/
def c_51 : List (Nat × EI) := [(0, (.aload_n 0, 1, 0, vU, [])),
  (1, (.getfield 23, 3, 166, vU, [])),
  (4, (.invokevirtual 27, 3, 0, vU, [2, 34, 3, 37, 4, 39, 5, 41, 8, 51, 10, 54, 11, 56, 13, 68])),
  (7, (.ifCond .ne 5, 3, 12, vU, [])),
  (10, (.iconst 0, 1, 0, vI 0, [])),
  (11, (.ireturn, 1, 0, vU, [])),
  (12, (.iconst 0, 1, 0, vI 0, [])),
  (13, (.istore_n 1, 1, 1, vU, [])),
  (14, (.iload_n 1, 1, 1, vU, [])),
  (15, (.aload_n 0, 1, 0, vU, [])),
  (16, (.getfield 13, 3, 148, vU, [])),
  (19, (.if_icmp .ge 29, 3, 48, vU, [])),
  (22, (.aload_n 0, 1, 0, vU, [])),
  (23, (.getfield 33, 3, 146, vU, [])),
  (26, (.iload_n 1, 1, 1, vU, [])),
  (27, (.aload_n 0, 1, 0, vU, [])),
  (28, (.getfield 23, 3, 166, vU, [])),
  (31, (.getfield 36, 3, 146, vU, [])),
  (34, (.aload_n 0, 1, 0, vU, [])),
  (35, (.getfield 7, 3, 170, vU, [])),
  (38, (.iload_n 1, 1, 1, vU, [])),
  (39, (.iaload, 1, 0, vU, [])),
  (40, (.iaload, 1, 0, vU, [])),
  (41, (.iastore, 1, 0, vU, [])),
  (42, (.iinc 1 1, 3, 1, vI 1, [])),
  (45, (.goto (-31), 3, 14, vU, [])),
  (48, (.iconst 1, 1, 0, vI 1, [])),
  (49, (.ireturn, 1, 0, vU, []))]
/-- PlannedTables$Row.<init>.()V -/
def c_52 : List (Nat × EI) := [(0, (.aload_n 0, 1, 0, vU, [])),
  (1, (.invokespecial 1, 3, 1, vU, [9999])),
  (4, (.aload_n 0, 1, 0, vU, [])),
  (5, (.iconst 4, 1, 0, vI 4, [])),
  (6, (.newarray .int, 2, 0, vU, [])),
  (8, (.putfield 7, 3, 134, vU, [])),
  (11, (.return_, 1, 0, vU, []))]
/-- PlannedTables$Skipper.<init>.(LPlannedTables$Stage;I)V -/
def c_53 : List (Nat × EI) := [(0, (.aload_n 0, 1, 0, vU, [])),
  (1, (.aload_n 1, 1, 1, vU, [])),
  (2, (.invokespecial 1, 3, 2, vU, [133])),
  (5, (.aload_n 0, 1, 0, vU, [])),
  (6, (.iload_n 2, 1, 2, vU, [])),
  (7, (.putfield 7, 3, 196, vU, [])),
  (10, (.return_, 1, 0, vU, []))]
/-- PlannedTables$Skipper.next.()Z -/
def c_54 : List (Nat × EI) := [(0, (.aload_n 0, 1, 0, vU, [])),
  (1, (.getfield 7, 3, 196, vU, [])),
  (4, (.ifCond .le 30, 3, 34, vU, [])),
  (7, (.aload_n 0, 1, 0, vU, [])),
  (8, (.dup, 1, 0, vU, [])),
  (9, (.getfield 7, 3, 196, vU, [])),
  (12, (.iconst 1, 1, 0, vI 1, [])),
  (13, (.isub, 1, 0, vU, [])),
  (14, (.putfield 7, 3, 196, vU, [])),
  (17, (.aload_n 0, 1, 0, vU, [])),
  (18, (.getfield 13, 3, 166, vU, [])),
  (21, (.invokevirtual 17, 3, 0, vU, [2, 34, 3, 37, 4, 39, 5, 41, 8, 51, 10, 54, 11, 56, 13, 68])),
  (24, (.ifCond .ne (-24), 3, 0, vU, [])),
  (27, (.aload_n 0, 1, 0, vU, [])),
  (28, (.iconst 0, 1, 0, vI 0, [])),
  (29, (.putfield 7, 3, 196, vU, [])),
  (32, (.iconst 0, 1, 0, vI 0, [])),
  (33, (.ireturn, 1, 0, vU, [])),
  (34, (.aload_n 0, 1, 0, vU, [])),
  (35, (.getfield 13, 3, 166, vU, [])),
  (38, (.invokevirtual 17, 3, 0, vU, [2, 34, 3, 37, 4, 39, 5, 41, 8, 51, 10, 54, 11, 56, 13, 68])),
  (41, (.ifCond .ne 5, 3, 46, vU, [])),
  (44, (.iconst 0, 1, 0, vI 0, [])),
  (45, (.ireturn, 1, 0, vU, [])),
  (46, (.aload_n 0, 1, 0, vU, [])),
  (47, (.invokevirtual 23, 3, 0, vU, [10, 134])),
  (50, (.iconst 1, 1, 0, vI 1, [])),
  (51, (.ireturn, 1, 0, vU, []))]
/-- PlannedTables$Source.<init>.(LPlannedTables$Meter;LPlannedTables$Table;III)V -/
def c_55 : List (Nat × EI) := [(0, (.aload_n 0, 1, 0, vU, [])),
  (1, (.invokespecial 1, 3, 1, vU, [131])),
  (4, (.aload_n 0, 1, 0, vU, [])),
  (5, (.new 7, 3, 15, vU, [])),
  (8, (.dup, 1, 0, vU, [])),
  (9, (.invokespecial 9, 3, 1, vU, [81])),
  (12, (.putfield 10, 3, 138, vU, [])),
  (15, (.aload_n 0, 1, 0, vU, [])),
  (16, (.aload_n 1, 1, 1, vU, [])),
  (17, (.putfield 16, 3, 142, vU, [])),
  (20, (.aload_n 0, 1, 0, vU, [])),
  (21, (.aload_n 2, 1, 2, vU, [])),
  (22, (.getfield 20, 3, 108, vU, [])),
  (25, (.putfield 26, 3, 148, vU, [])),
  (28, (.aload_n 2, 1, 2, vU, [])),
  (29, (.aload_n 0, 1, 0, vU, [])),
  (30, (.getfield 10, 3, 138, vU, [])),
  (33, (.iload_n 3, 1, 3, vU, [])),
  (34, (.iload 4, 2, 4, vU, [])),
  (36, (.iload 5, 2, 5, vU, [])),
  (38, (.invokevirtual 29, 3, 4, vU, [12, 66])),
  (41, (.return_, 1, 0, vU, []))]
/-- PlannedTables$Source.next.()Z -/
def c_56 : List (Nat × EI) := [(0, (.aload_n 0, 1, 0, vU, [])),
  (1, (.getfield 10, 3, 138, vU, [])),
  (4, (.invokevirtual 33, 3, 0, vU, [15, 83])),
  (7, (.astore_n 1, 1, 1, vU, [])),
  (8, (.aload_n 1, 1, 1, vU, [])),
  (9, (.ifnonnull 5, 3, 14, vU, [])),
  (12, (.iconst 0, 1, 0, vI 0, [])),
  (13, (.ireturn, 1, 0, vU, [])),
  (14, (.aload_n 0, 1, 0, vU, [])),
  (15, (.getfield 16, 3, 142, vU, [])),
  (18, (.invokevirtual 37, 3, 0, vU, [6, 43])),
  (21, (.aload_n 0, 1, 0, vU, [])),
  (22, (.aload_n 1, 1, 1, vU, [])),
  (23, (.getfield 42, 3, 134, vU, [])),
  (26, (.aload_n 0, 1, 0, vU, [])),
  (27, (.getfield 26, 3, 148, vU, [])),
  (30, (.iconst 0, 1, 0, vI 0, [])),
  (31, (.invokevirtual 48, 3, 3, vU, [11, 132])),
  (34, (.iconst 1, 1, 0, vI 1, [])),
  (35, (.ireturn, 1, 0, vU, []))]
/-- PlannedTables$Table.isIndexed.(I)Z -/
def c_57 : List (Nat × EI) := [(0, (.aload_n 0, 1, 0, vU, [])),
  (1, (.iload_n 1, 1, 1, vU, [])),
  (2, (.invokevirtual 20, 3, 1, vU, [12, 58])),
  (5, (.ifCond .eq 16, 3, 21, vU, [])),
  (8, (.aload_n 0, 1, 0, vU, [])),
  (9, (.getfield 9, 3, 118, vU, [])),
  (12, (.iload_n 1, 1, 1, vU, [])),
  (13, (.aaload, 1, 0, vU, [])),
  (14, (.ifnull 7, 3, 21, vU, [])),
  (17, (.iconst 1, 1, 0, vI 1, [])),
  (18, (.goto 4, 3, 22, vU, [])),
  (21, (.iconst 0, 1, 0, vI 0, [])),
  (22, (.ireturn, 1, 0, vU, []))]
/-- PlannedTables$Table.isColumn.(I)Z -/
def c_58 : List (Nat × EI) := [(0, (.iload_n 1, 1, 1, vU, [])),
  (1, (.ifCond .lt 15, 3, 16, vU, [])),
  (4, (.iload_n 1, 1, 1, vU, [])),
  (5, (.aload_n 0, 1, 0, vU, [])),
  (6, (.getfield 15, 3, 108, vU, [])),
  (9, (.if_icmp .ge 7, 3, 16, vU, [])),
  (12, (.iconst 1, 1, 0, vI 1, [])),
  (13, (.goto 4, 3, 17, vU, [])),
  (16, (.iconst 0, 1, 0, vI 0, [])),
  (17, (.ireturn, 1, 0, vU, []))]
/-- PlannedTables$Table.<init>.(I)V -/
def c_59 : List (Nat × EI) := [(0, (.aload_n 0, 1, 0, vU, [])),
  (1, (.invokespecial 1, 3, 1, vU, [9999])),
  (4, (.aload_n 0, 1, 0, vU, [])),
  (5, (.iconst 4, 1, 0, vI 4, [])),
  (6, (.anewarray 7, 3, 5, vU, [])),
  (9, (.putfield 9, 3, 118, vU, [])),
  (12, (.aload_n 0, 1, 0, vU, [])),
  (13, (.iload_n 1, 1, 1, vU, [])),
  (14, (.putfield 15, 3, 108, vU, [])),
  (17, (.aload_n 0, 1, 0, vU, [])),
  (18, (.getfield 9, 3, 118, vU, [])),
  (21, (.iconst 0, 1, 0, vI 0, [])),
  (22, (.new 7, 3, 14, vU, [])),
  (25, (.dup, 1, 0, vU, [])),
  (26, (.invokespecial 19, 3, 1, vU, [69])),
  (29, (.aastore, 1, 0, vU, [])),
  (30, (.return_, 1, 0, vU, []))]
/-- PlannedTables$Table.index.(I)V -/
def c_60 : List (Nat × EI) := [(0, (.new 7, 3, 14, vU, [])),
  (3, (.dup, 1, 0, vU, [])),
  (4, (.invokespecial 19, 3, 1, vU, [69])),
  (7, (.astore_n 2, 1, 2, vU, [])),
  (8, (.new 55, 3, 15, vU, [])),
  (11, (.dup, 1, 0, vU, [])),
  (12, (.invokespecial 57, 3, 1, vU, [81])),
  (15, (.astore_n 3, 1, 3, vU, [])),
  (16, (.aload_n 3, 1, 3, vU, [])),
  (17, (.aload_n 0, 1, 0, vU, [])),
  (18, (.getfield 9, 3, 118, vU, [])),
  (21, (.iconst 0, 1, 0, vI 0, [])),
  (22, (.aaload, 1, 0, vU, [])),
  (23, (.ldc2_w 60, 3, 0, vL (-9223372036854775808), [])),
  (26, (.ldc2_w 62, 3, 0, vL 9223372036854775807, [])),
  (29, (.invokevirtual 64, 3, 3, vU, [15, 82])),
  (32, (.aload_n 3, 1, 3, vU, [])),
  (33, (.invokevirtual 68, 3, 0, vU, [15, 83])),
  (36, (.astore 4, 2, 4, vU, [])),
  (38, (.aload 4, 2, 4, vU, [])),
  (40, (.ifnull 24, 3, 64, vU, [])),
  (43, (.aload_n 2, 1, 2, vU, [])),
  (44, (.aload 4, 2, 4, vU, [])),
  (46, (.iload_n 1, 1, 1, vU, [])),
  (47, (.invokestatic 40, 3, 2, vU, [61])),
  (50, (.aload 4, 2, 4, vU, [])),
  (52, (.invokevirtual 44, 3, 2, vU, [14, 71])),
  (55, (.aload_n 3, 1, 3, vU, [])),
  (56, (.invokevirtual 68, 3, 0, vU, [15, 83])),
  (59, (.astore 4, 2, 4, vU, [])),
  (61, (.goto (-23), 3, 38, vU, [])),
  (64, (.aload_n 0, 1, 0, vU, [])),
  (65, (.getfield 9, 3, 118, vU, [])),
  (68, (.iload_n 1, 1, 1, vU, [])),
  (69, (.aload_n 2, 1, 2, vU, [])),
  (70, (.aastore, 1, 0, vU, [])),
  (71, (.return_, 1, 0, vU, []))]
/-- PlannedTables$Table.placeOf.(LPlannedTables$Row;I)J -/
def c_61 : List (Nat × EI) := [(0, (.aload_n 0, 1, 0, vU, [])),
  (1, (.getfield 26, 3, 134, vU, [])),
  (4, (.iload_n 1, 1, 1, vU, [])),
  (5, (.iaload, 1, 0, vU, [])),
  (6, (.aload_n 0, 1, 0, vU, [])),
  (7, (.getfield 26, 3, 134, vU, [])),
  (10, (.iconst 0, 1, 0, vI 0, [])),
  (11, (.iaload, 1, 0, vU, [])),
  (12, (.invokestatic 32, 3, 2, vU, [62])),
  (15, (.lreturn, 1, 0, vU, []))]
/-- PlannedTables$Table.place.(II)J -/
def c_62 : List (Nat × EI) := [(0, (.iload_n 0, 1, 0, vU, [])),
  (1, (.i2l, 1, 0, vU, [])),
  (2, (.bipush 32, 2, 0, vI 32, [])),
  (4, (.lshl, 1, 0, vU, [])),
  (5, (.iload_n 1, 1, 1, vU, [])),
  (6, (.i2l, 1, 0, vU, [])),
  (7, (.ldc2_w 24, 3, 0, vL 2147483648, [])),
  (10, (.ladd, 1, 0, vU, [])),
  (11, (.lor, 1, 0, vU, [])),
  (12, (.lreturn, 1, 0, vU, []))]
/-- PlannedTables$Table.find.(I)LPlannedTables$Row; -/
def c_63 : List (Nat × EI) := [(0, (.aload_n 0, 1, 0, vU, [])),
  (1, (.getfield 9, 3, 118, vU, [])),
  (4, (.iconst 0, 1, 0, vI 0, [])),
  (5, (.aaload, 1, 0, vU, [])),
  (6, (.iload_n 1, 1, 1, vU, [])),
  (7, (.iload_n 1, 1, 1, vU, [])),
  (8, (.invokestatic 32, 3, 2, vU, [62])),
  (11, (.invokevirtual 36, 3, 1, vU, [14, 74])),
  (14, (.areturn, 1, 0, vU, []))]
/-- PlannedTables$Table.add.(LPlannedTables$Row;)V -/
def c_64 : List (Nat × EI) := [(0, (.iconst 0, 1, 0, vI 0, [])),
  (1, (.istore_n 2, 1, 2, vU, [])),
  (2, (.iload_n 2, 1, 2, vU, [])),
  (3, (.aload_n 0, 1, 0, vU, [])),
  (4, (.getfield 15, 3, 108, vU, [])),
  (7, (.if_icmp .ge 33, 3, 40, vU, [])),
  (10, (.aload_n 0, 1, 0, vU, [])),
  (11, (.getfield 9, 3, 118, vU, [])),
  (14, (.iload_n 2, 1, 2, vU, [])),
  (15, (.aaload, 1, 0, vU, [])),
  (16, (.ifnull 18, 3, 34, vU, [])),
  (19, (.aload_n 0, 1, 0, vU, [])),
  (20, (.getfield 9, 3, 118, vU, [])),
  (23, (.iload_n 2, 1, 2, vU, [])),
  (24, (.aaload, 1, 0, vU, [])),
  (25, (.aload_n 1, 1, 1, vU, [])),
  (26, (.iload_n 2, 1, 2, vU, [])),
  (27, (.invokestatic 40, 3, 2, vU, [61])),
  (30, (.aload_n 1, 1, 1, vU, [])),
  (31, (.invokevirtual 44, 3, 2, vU, [14, 71])),
  (34, (.iinc 2 1, 3, 2, vI 1, [])),
  (37, (.goto (-35), 3, 2, vU, [])),
  (40, (.aload_n 0, 1, 0, vU, [])),
  (41, (.dup, 1, 0, vU, [])),
  (42, (.getfield 48, 3, 112, vU, [])),
  (45, (.iconst 1, 1, 0, vI 1, [])),
  (46, (.iadd, 1, 0, vU, [])),
  (47, (.putfield 48, 3, 112, vU, [])),
  (50, (.return_, 1, 0, vU, []))]
/-- PlannedTables$Table.remove.(LPlannedTables$Row;)V -/
def c_65 : List (Nat × EI) := [(0, (.iconst 0, 1, 0, vI 0, [])),
  (1, (.istore_n 2, 1, 2, vU, [])),
  (2, (.iload_n 2, 1, 2, vU, [])),
  (3, (.aload_n 0, 1, 0, vU, [])),
  (4, (.getfield 15, 3, 108, vU, [])),
  (7, (.if_icmp .ge 32, 3, 39, vU, [])),
  (10, (.aload_n 0, 1, 0, vU, [])),
  (11, (.getfield 9, 3, 118, vU, [])),
  (14, (.iload_n 2, 1, 2, vU, [])),
  (15, (.aaload, 1, 0, vU, [])),
  (16, (.ifnull 17, 3, 33, vU, [])),
  (19, (.aload_n 0, 1, 0, vU, [])),
  (20, (.getfield 9, 3, 118, vU, [])),
  (23, (.iload_n 2, 1, 2, vU, [])),
  (24, (.aaload, 1, 0, vU, [])),
  (25, (.aload_n 1, 1, 1, vU, [])),
  (26, (.iload_n 2, 1, 2, vU, [])),
  (27, (.invokestatic 40, 3, 2, vU, [61])),
  (30, (.invokevirtual 51, 3, 1, vU, [14, 75])),
  (33, (.iinc 2 1, 3, 2, vI 1, [])),
  (36, (.goto (-34), 3, 2, vU, [])),
  (39, (.aload_n 0, 1, 0, vU, [])),
  (40, (.dup, 1, 0, vU, [])),
  (41, (.getfield 48, 3, 112, vU, [])),
  (44, (.iconst 1, 1, 0, vI 1, [])),
  (45, (.isub, 1, 0, vU, [])),
  (46, (.putfield 48, 3, 112, vU, [])),
  (49, (.return_, 1, 0, vU, []))]
/-- PlannedTables$Table.walk.(LPlannedTables$Walker;III)V -/
def c_66 : List (Nat × EI) := [(0, (.aload_n 1, 1, 1, vU, [])),
  (1, (.aload_n 0, 1, 0, vU, [])),
  (2, (.getfield 9, 3, 118, vU, [])),
  (5, (.iload_n 2, 1, 2, vU, [])),
  (6, (.aaload, 1, 0, vU, [])),
  (7, (.iload_n 3, 1, 3, vU, [])),
  (8, (.ldc 74, 2, 0, vI (-2147483648), [])),
  (10, (.invokestatic 32, 3, 2, vU, [62])),
  (13, (.iload 4, 2, 4, vU, [])),
  (15, (.ldc 75, 2, 0, vI 2147483647, [])),
  (17, (.invokestatic 32, 3, 2, vU, [62])),
  (20, (.invokevirtual 64, 3, 3, vU, [15, 82])),
  (23, (.return_, 1, 0, vU, []))]
/-- PlannedTables$Total.<init>.(LPlannedTables$Stage;I)V -/
def c_67 : List (Nat × EI) := [(0, (.aload_n 0, 1, 0, vU, [])),
  (1, (.aload_n 1, 1, 1, vU, [])),
  (2, (.invokespecial 1, 3, 2, vU, [133])),
  (5, (.aload_n 0, 1, 0, vU, [])),
  (6, (.iload_n 2, 1, 2, vU, [])),
  (7, (.putfield 7, 3, 204, vU, [])),
  (10, (.aload_n 0, 1, 0, vU, [])),
  (11, (.iconst 1, 1, 0, vI 1, [])),
  (12, (.putfield 13, 3, 148, vU, [])),
  (15, (.return_, 1, 0, vU, []))]
/-- PlannedTables$Total.next.()Z -/
def c_68 : List (Nat × EI) := [(0, (.aload_n 0, 1, 0, vU, [])),
  (1, (.getfield 16, 3, 211, vU, [])),
  (4, (.ifCond .eq 5, 3, 9, vU, [])),
  (7, (.iconst 0, 1, 0, vI 0, [])),
  (8, (.ireturn, 1, 0, vU, [])),
  (9, (.iconst 0, 1, 0, vI 0, [])),
  (10, (.istore_n 1, 1, 1, vU, [])),
  (11, (.aload_n 0, 1, 0, vU, [])),
  (12, (.getfield 20, 3, 166, vU, [])),
  (15, (.invokevirtual 24, 3, 0, vU, [2, 34, 3, 37, 4, 39, 5, 41, 8, 51, 10, 54, 11, 56, 13, 68])),
  (18, (.ifCond .eq 32, 3, 50, vU, [])),
  (21, (.iload_n 1, 1, 1, vU, [])),
  (22, (.aload_n 0, 1, 0, vU, [])),
  (23, (.getfield 7, 3, 204, vU, [])),
  (26, (.ifCond .ge 7, 3, 33, vU, [])),
  (29, (.iconst 1, 1, 0, vI 1, [])),
  (30, (.goto 15, 3, 45, vU, [])),
  (33, (.aload_n 0, 1, 0, vU, [])),
  (34, (.getfield 20, 3, 166, vU, [])),
  (37, (.getfield 30, 3, 146, vU, [])),
  (40, (.aload_n 0, 1, 0, vU, [])),
  (41, (.getfield 7, 3, 204, vU, [])),
  (44, (.iaload, 1, 0, vU, [])),
  (45, (.iadd, 1, 0, vU, [])),
  (46, (.istore_n 1, 1, 1, vU, [])),
  (47, (.goto (-36), 3, 11, vU, [])),
  (50, (.aload_n 0, 1, 0, vU, [])),
  (51, (.getfield 34, 3, 146, vU, [])),
  (54, (.iconst 0, 1, 0, vI 0, [])),
  (55, (.iload_n 1, 1, 1, vU, [])),
  (56, (.iastore, 1, 0, vU, [])),
  (57, (.aload_n 0, 1, 0, vU, [])),
  (58, (.iconst 1, 1, 0, vI 1, [])),
  (59, (.putfield 16, 3, 211, vU, [])),
  (62, (.iconst 1, 1, 0, vI 1, [])),
  (63, (.ireturn, 1, 0, vU, []))]
/-- PlannedTables$Tree.<init>.()V -/
def c_69 : List (Nat × EI) := [(0, (.aload_n 0, 1, 0, vU, [])),
  (1, (.invokespecial 3, 3, 1, vU, [9999])),
  (4, (.aload_n 0, 1, 0, vU, [])),
  (5, (.new 9, 3, 7, vU, [])),
  (8, (.dup, 1, 0, vU, [])),
  (9, (.iconst 1, 1, 0, vI 1, [])),
  (10, (.invokespecial 11, 3, 2, vU, [44])),
  (13, (.putfield 14, 3, 106, vU, [])),
  (16, (.return_, 1, 0, vU, []))]
/-- PlannedTables$Tree.leafFor.(J)LPlannedTables$Page; -/
def c_70 : List (Nat × EI) := [(0, (.aload_n 0, 1, 0, vU, [])),
  (1, (.getfield 14, 3, 106, vU, [])),
  (4, (.astore_n 3, 1, 3, vU, [])),
  (5, (.aload_n 3, 1, 3, vU, [])),
  (6, (.getfield 20, 3, 83, vU, [])),
  (9, (.ifCond .ne 17, 3, 26, vU, [])),
  (12, (.aload_n 3, 1, 3, vU, [])),
  (13, (.getfield 24, 3, 94, vU, [])),
  (16, (.aload_n 3, 1, 3, vU, [])),
  (17, (.lload_n 1, 1, 1, vU, [])),
  (18, (.invokevirtual 28, 3, 1, vU, [7, 45])),
  (21, (.aaload, 1, 0, vU, [])),
  (22, (.astore_n 3, 1, 3, vU, [])),
  (23, (.goto (-18), 3, 5, vU, [])),
  (26, (.aload_n 3, 1, 3, vU, [])),
  (27, (.areturn, 1, 0, vU, []))]
/-- PlannedTables$Tree.add.(JLPlannedTables$Row;)V -/
def c_71 : List (Nat × EI) := [(0, (.aload_n 0, 1, 0, vU, [])),
  (1, (.getfield 14, 3, 106, vU, [])),
  (4, (.lload_n 1, 1, 1, vU, [])),
  (5, (.aload_n 3, 1, 3, vU, [])),
  (6, (.invokestatic 51, 3, 3, vU, [72])),
  (9, (.aload_n 0, 1, 0, vU, [])),
  (10, (.getfield 14, 3, 106, vU, [])),
  (13, (.getfield 39, 3, 96, vU, [])),
  (16, (.iconst 4, 1, 0, vI 4, [])),
  (17, (.if_icmp .le 36, 3, 53, vU, [])),
  (20, (.new 9, 3, 7, vU, [])),
  (23, (.dup, 1, 0, vU, [])),
  (24, (.iconst 0, 1, 0, vI 0, [])),
  (25, (.invokespecial 11, 3, 2, vU, [44])),
  (28, (.astore 4, 2, 4, vU, [])),
  (30, (.aload 4, 2, 4, vU, [])),
  (32, (.getfield 24, 3, 94, vU, [])),
  (35, (.iconst 0, 1, 0, vI 0, [])),
  (36, (.aload_n 0, 1, 0, vU, [])),
  (37, (.getfield 14, 3, 106, vU, [])),
  (40, (.aastore, 1, 0, vU, [])),
  (41, (.aload 4, 2, 4, vU, [])),
  (43, (.iconst 0, 1, 0, vI 0, [])),
  (44, (.invokestatic 55, 3, 2, vU, [73])),
  (47, (.aload_n 0, 1, 0, vU, [])),
  (48, (.aload 4, 2, 4, vU, [])),
  (50, (.putfield 14, 3, 106, vU, [])),
  (53, (.return_, 1, 0, vU, []))]
/-- PlannedTables$Tree.put.(LPlannedTables$Page;JLPlannedTables$Row;)V -/
def c_72 : List (Nat × EI) := [(0, (.aload_n 0, 1, 0, vU, [])),
  (1, (.getfield 20, 3, 83, vU, [])),
  (4, (.ifCond .eq 16, 3, 20, vU, [])),
  (7, (.aload_n 0, 1, 0, vU, [])),
  (8, (.aload_n 0, 1, 0, vU, [])),
  (9, (.lload_n 1, 1, 1, vU, [])),
  (10, (.invokevirtual 36, 3, 1, vU, [7, 46])),
  (13, (.lload_n 1, 1, 1, vU, [])),
  (14, (.aload_n 3, 1, 3, vU, [])),
  (15, (.aconst_null, 1, 0, vU, [])),
  (16, (.invokevirtual 59, 3, 4, vU, [7, 47])),
  (19, (.return_, 1, 0, vU, [])),
  (20, (.aload_n 0, 1, 0, vU, [])),
  (21, (.lload_n 1, 1, 1, vU, [])),
  (22, (.invokevirtual 28, 3, 1, vU, [7, 45])),
  (25, (.istore 4, 2, 4, vU, [])),
  (27, (.aload_n 0, 1, 0, vU, [])),
  (28, (.getfield 24, 3, 94, vU, [])),
  (31, (.iload 4, 2, 4, vU, [])),
  (33, (.aaload, 1, 0, vU, [])),
  (34, (.lload_n 1, 1, 1, vU, [])),
  (35, (.aload_n 3, 1, 3, vU, [])),
  (36, (.invokestatic 51, 3, 3, vU, [72])),
  (39, (.aload_n 0, 1, 0, vU, [])),
  (40, (.getfield 24, 3, 94, vU, [])),
  (43, (.iload 4, 2, 4, vU, [])),
  (45, (.aaload, 1, 0, vU, [])),
  (46, (.getfield 39, 3, 96, vU, [])),
  (49, (.iconst 4, 1, 0, vI 4, [])),
  (50, (.if_icmp .le 9, 3, 59, vU, [])),
  (53, (.aload_n 0, 1, 0, vU, [])),
  (54, (.iload 4, 2, 4, vU, [])),
  (56, (.invokestatic 55, 3, 2, vU, [73])),
  (59, (.return_, 1, 0, vU, []))]
/-- PlannedTables$Tree.split.(LPlannedTables$Page;I)V -/
def c_73 : List (Nat × EI) := [(0, (.aload_n 0, 1, 0, vU, [])),
  (1, (.getfield 24, 3, 94, vU, [])),
  (4, (.iload_n 1, 1, 1, vU, [])),
  (5, (.aaload, 1, 0, vU, [])),
  (6, (.astore_n 2, 1, 2, vU, [])),
  (7, (.new 9, 3, 7, vU, [])),
  (10, (.dup, 1, 0, vU, [])),
  (11, (.aload_n 2, 1, 2, vU, [])),
  (12, (.getfield 20, 3, 83, vU, [])),
  (15, (.invokespecial 11, 3, 2, vU, [44])),
  (18, (.astore_n 3, 1, 3, vU, [])),
  (19, (.aload_n 2, 1, 2, vU, [])),
  (20, (.getfield 20, 3, 83, vU, [])),
  (23, (.ifCond .eq 7, 3, 30, vU, [])),
  (26, (.iconst 2, 1, 0, vI 2, [])),
  (27, (.goto 4, 3, 31, vU, [])),
  (30, (.iconst 3, 1, 0, vI 3, [])),
  (31, (.istore 4, 2, 4, vU, [])),
  (33, (.aload_n 2, 1, 2, vU, [])),
  (34, (.getfield 43, 3, 86, vU, [])),
  (37, (.iconst 2, 1, 0, vI 2, [])),
  (38, (.laload, 1, 0, vU, [])),
  (39, (.lstore 5, 2, 5, vU, [])),
  (41, (.aload_n 3, 1, 3, vU, [])),
  (42, (.getfield 24, 3, 94, vU, [])),
  (45, (.iconst 0, 1, 0, vI 0, [])),
  (46, (.aload_n 2, 1, 2, vU, [])),
  (47, (.getfield 24, 3, 94, vU, [])),
  (50, (.iload 4, 2, 4, vU, [])),
  (52, (.aaload, 1, 0, vU, [])),
  (53, (.aastore, 1, 0, vU, [])),
  (54, (.iload 4, 2, 4, vU, [])),
  (56, (.istore 7, 2, 7, vU, [])),
  (58, (.iload 7, 2, 7, vU, [])),
  (60, (.aload_n 2, 1, 2, vU, [])),
  (61, (.getfield 39, 3, 96, vU, [])),
  (64, (.if_icmp .ge 40, 3, 104, vU, [])),
  (67, (.aload_n 3, 1, 3, vU, [])),
  (68, (.aload_n 3, 1, 3, vU, [])),
  (69, (.getfield 39, 3, 96, vU, [])),
  (72, (.aload_n 2, 1, 2, vU, [])),
  (73, (.getfield 43, 3, 86, vU, [])),
  (76, (.iload 7, 2, 7, vU, [])),
  (78, (.laload, 1, 0, vU, [])),
  (79, (.aload_n 2, 1, 2, vU, [])),
  (80, (.getfield 47, 3, 90, vU, [])),
  (83, (.iload 7, 2, 7, vU, [])),
  (85, (.aaload, 1, 0, vU, [])),
  (86, (.aload_n 2, 1, 2, vU, [])),
  (87, (.getfield 24, 3, 94, vU, [])),
  (90, (.iload 7, 2, 7, vU, [])),
  (92, (.iconst 1, 1, 0, vI 1, [])),
  (93, (.iadd, 1, 0, vU, [])),
  (94, (.aaload, 1, 0, vU, [])),
  (95, (.invokevirtual 59, 3, 4, vU, [7, 47])),
  (98, (.iinc 7 1, 3, 7, vI 1, [])),
  (101, (.goto (-43), 3, 58, vU, [])),
  (104, (.aload_n 2, 1, 2, vU, [])),
  (105, (.getfield 39, 3, 96, vU, [])),
  (108, (.iconst 2, 1, 0, vI 2, [])),
  (109, (.if_icmp .le 16, 3, 125, vU, [])),
  (112, (.aload_n 2, 1, 2, vU, [])),
  (113, (.aload_n 2, 1, 2, vU, [])),
  (114, (.getfield 39, 3, 96, vU, [])),
  (117, (.iconst 1, 1, 0, vI 1, [])),
  (118, (.isub, 1, 0, vU, [])),
  (119, (.invokevirtual 63, 3, 1, vU, [7, 48])),
  (122, (.goto (-18), 3, 104, vU, [])),
  (125, (.aload_n 2, 1, 2, vU, [])),
  (126, (.getfield 20, 3, 83, vU, [])),
  (129, (.ifCond .eq 16, 3, 145, vU, [])),
  (132, (.aload_n 3, 1, 3, vU, [])),
  (133, (.aload_n 2, 1, 2, vU, [])),
  (134, (.getfield 67, 3, 102, vU, [])),
  (137, (.putfield 67, 3, 102, vU, [])),
  (140, (.aload_n 2, 1, 2, vU, [])),
  (141, (.aload_n 3, 1, 3, vU, [])),
  (142, (.putfield 67, 3, 102, vU, [])),
  (145, (.aload_n 0, 1, 0, vU, [])),
  (146, (.iload_n 1, 1, 1, vU, [])),
  (147, (.lload 5, 2, 5, vU, [])),
  (149, (.aconst_null, 1, 0, vU, [])),
  (150, (.aload_n 3, 1, 3, vU, [])),
  (151, (.invokevirtual 59, 3, 4, vU, [7, 47])),
  (154, (.return_, 1, 0, vU, []))]
/-- PlannedTables$Tree.find.(J)LPlannedTables$Row; -/
def c_74 : List (Nat × EI) := [(0, (.aload_n 0, 1, 0, vU, [])),
  (1, (.lload_n 1, 1, 1, vU, [])),
  (2, (.invokevirtual 32, 3, 1, vU, [14, 70])),
  (5, (.astore_n 3, 1, 3, vU, [])),
  (6, (.aload_n 3, 1, 3, vU, [])),
  (7, (.lload_n 1, 1, 1, vU, [])),
  (8, (.invokevirtual 36, 3, 1, vU, [7, 46])),
  (11, (.istore 4, 2, 4, vU, [])),
  (13, (.iload 4, 2, 4, vU, [])),
  (15, (.aload_n 3, 1, 3, vU, [])),
  (16, (.getfield 39, 3, 96, vU, [])),
  (19, (.if_icmp .ge 25, 3, 44, vU, [])),
  (22, (.aload_n 3, 1, 3, vU, [])),
  (23, (.getfield 43, 3, 86, vU, [])),
  (26, (.iload 4, 2, 4, vU, [])),
  (28, (.laload, 1, 0, vU, [])),
  (29, (.lload_n 1, 1, 1, vU, [])),
  (30, (.lcmp, 1, 0, vU, [])),
  (31, (.ifCond .ne 13, 3, 44, vU, [])),
  (34, (.aload_n 3, 1, 3, vU, [])),
  (35, (.getfield 47, 3, 90, vU, [])),
  (38, (.iload 4, 2, 4, vU, [])),
  (40, (.aaload, 1, 0, vU, [])),
  (41, (.goto 4, 3, 45, vU, [])),
  (44, (.aconst_null, 1, 0, vU, [])),
  (45, (.areturn, 1, 0, vU, []))]
/-- PlannedTables$Tree.remove.(J)V -/
def c_75 : List (Nat × EI) := [(0, (.aload_n 0, 1, 0, vU, [])),
  (1, (.getfield 14, 3, 106, vU, [])),
  (4, (.lload_n 1, 1, 1, vU, [])),
  (5, (.invokestatic 70, 3, 2, vU, [76])),
  (8, (.aload_n 0, 1, 0, vU, [])),
  (9, (.getfield 14, 3, 106, vU, [])),
  (12, (.getfield 20, 3, 83, vU, [])),
  (15, (.ifCond .ne 26, 3, 41, vU, [])),
  (18, (.aload_n 0, 1, 0, vU, [])),
  (19, (.getfield 14, 3, 106, vU, [])),
  (22, (.getfield 39, 3, 96, vU, [])),
  (25, (.ifCond .ne 16, 3, 41, vU, [])),
  (28, (.aload_n 0, 1, 0, vU, [])),
  (29, (.aload_n 0, 1, 0, vU, [])),
  (30, (.getfield 14, 3, 106, vU, [])),
  (33, (.getfield 24, 3, 94, vU, [])),
  (36, (.iconst 0, 1, 0, vI 0, [])),
  (37, (.aaload, 1, 0, vU, [])),
  (38, (.putfield 14, 3, 106, vU, [])),
  (41, (.return_, 1, 0, vU, []))]
/-- PlannedTables$Tree.take.(LPlannedTables$Page;J)V -/
def c_76 : List (Nat × EI) := [(0, (.aload_n 0, 1, 0, vU, [])),
  (1, (.getfield 20, 3, 83, vU, [])),
  (4, (.ifCond .eq 34, 3, 38, vU, [])),
  (7, (.aload_n 0, 1, 0, vU, [])),
  (8, (.lload_n 1, 1, 1, vU, [])),
  (9, (.invokevirtual 36, 3, 1, vU, [7, 46])),
  (12, (.istore_n 3, 1, 3, vU, [])),
  (13, (.iload_n 3, 1, 3, vU, [])),
  (14, (.aload_n 0, 1, 0, vU, [])),
  (15, (.getfield 39, 3, 96, vU, [])),
  (18, (.if_icmp .ge 19, 3, 37, vU, [])),
  (21, (.aload_n 0, 1, 0, vU, [])),
  (22, (.getfield 43, 3, 86, vU, [])),
  (25, (.iload_n 3, 1, 3, vU, [])),
  (26, (.laload, 1, 0, vU, [])),
  (27, (.lload_n 1, 1, 1, vU, [])),
  (28, (.lcmp, 1, 0, vU, [])),
  (29, (.ifCond .ne 8, 3, 37, vU, [])),
  (32, (.aload_n 0, 1, 0, vU, [])),
  (33, (.iload_n 3, 1, 3, vU, [])),
  (34, (.invokevirtual 63, 3, 1, vU, [7, 48])),
  (37, (.return_, 1, 0, vU, [])),
  (38, (.aload_n 0, 1, 0, vU, [])),
  (39, (.lload_n 1, 1, 1, vU, [])),
  (40, (.invokevirtual 28, 3, 1, vU, [7, 45])),
  (43, (.istore_n 3, 1, 3, vU, [])),
  (44, (.aload_n 0, 1, 0, vU, [])),
  (45, (.getfield 24, 3, 94, vU, [])),
  (48, (.iload_n 3, 1, 3, vU, [])),
  (49, (.aaload, 1, 0, vU, [])),
  (50, (.lload_n 1, 1, 1, vU, [])),
  (51, (.invokestatic 70, 3, 2, vU, [76])),
  (54, (.aload_n 0, 1, 0, vU, [])),
  (55, (.getfield 24, 3, 94, vU, [])),
  (58, (.iload_n 3, 1, 3, vU, [])),
  (59, (.aaload, 1, 0, vU, [])),
  (60, (.getfield 39, 3, 96, vU, [])),
  (63, (.iconst 2, 1, 0, vI 2, [])),
  (64, (.if_icmp .ge 8, 3, 72, vU, [])),
  (67, (.aload_n 0, 1, 0, vU, [])),
  (68, (.iload_n 3, 1, 3, vU, [])),
  (69, (.invokestatic 74, 3, 2, vU, [77])),
  (72, (.return_, 1, 0, vU, []))]
/-- PlannedTables$Tree.fill.(LPlannedTables$Page;I)V -/
def c_77 : List (Nat × EI) := [(0, (.iload_n 1, 1, 1, vU, [])),
  (1, (.ifCond .le 26, 3, 27, vU, [])),
  (4, (.aload_n 0, 1, 0, vU, [])),
  (5, (.getfield 24, 3, 94, vU, [])),
  (8, (.iload_n 1, 1, 1, vU, [])),
  (9, (.iconst 1, 1, 0, vI 1, [])),
  (10, (.isub, 1, 0, vU, [])),
  (11, (.aaload, 1, 0, vU, [])),
  (12, (.getfield 39, 3, 96, vU, [])),
  (15, (.iconst 2, 1, 0, vI 2, [])),
  (16, (.if_icmp .le 11, 3, 27, vU, [])),
  (19, (.aload_n 0, 1, 0, vU, [])),
  (20, (.iload_n 1, 1, 1, vU, [])),
  (21, (.invokestatic 77, 3, 2, vU, [78])),
  (24, (.goto 49, 3, 73, vU, [])),
  (27, (.iload_n 1, 1, 1, vU, [])),
  (28, (.aload_n 0, 1, 0, vU, [])),
  (29, (.getfield 39, 3, 96, vU, [])),
  (32, (.if_icmp .ge 26, 3, 58, vU, [])),
  (35, (.aload_n 0, 1, 0, vU, [])),
  (36, (.getfield 24, 3, 94, vU, [])),
  (39, (.iload_n 1, 1, 1, vU, [])),
  (40, (.iconst 1, 1, 0, vI 1, [])),
  (41, (.iadd, 1, 0, vU, [])),
  (42, (.aaload, 1, 0, vU, [])),
  (43, (.getfield 39, 3, 96, vU, [])),
  (46, (.iconst 2, 1, 0, vI 2, [])),
  (47, (.if_icmp .le 11, 3, 58, vU, [])),
  (50, (.aload_n 0, 1, 0, vU, [])),
  (51, (.iload_n 1, 1, 1, vU, [])),
  (52, (.invokestatic 80, 3, 2, vU, [79])),
  (55, (.goto 18, 3, 73, vU, [])),
  (58, (.aload_n 0, 1, 0, vU, [])),
  (59, (.iload_n 1, 1, 1, vU, [])),
  (60, (.ifCond .le 9, 3, 69, vU, [])),
  (63, (.iload_n 1, 1, 1, vU, [])),
  (64, (.iconst 1, 1, 0, vI 1, [])),
  (65, (.isub, 1, 0, vU, [])),
  (66, (.goto 4, 3, 70, vU, [])),
  (69, (.iload_n 1, 1, 1, vU, [])),
  (70, (.invokestatic 83, 3, 2, vU, [80])),
  (73, (.return_, 1, 0, vU, []))]
/-- PlannedTables$Tree.fromLeft.(LPlannedTables$Page;I)V -/
def c_78 : List (Nat × EI) := [(0, (.aload_n 0, 1, 0, vU, [])),
  (1, (.getfield 24, 3, 94, vU, [])),
  (4, (.iload_n 1, 1, 1, vU, [])),
  (5, (.iconst 1, 1, 0, vI 1, [])),
  (6, (.isub, 1, 0, vU, [])),
  (7, (.aaload, 1, 0, vU, [])),
  (8, (.astore_n 2, 1, 2, vU, [])),
  (9, (.aload_n 0, 1, 0, vU, [])),
  (10, (.getfield 24, 3, 94, vU, [])),
  (13, (.iload_n 1, 1, 1, vU, [])),
  (14, (.aaload, 1, 0, vU, [])),
  (15, (.astore_n 3, 1, 3, vU, [])),
  (16, (.aload_n 2, 1, 2, vU, [])),
  (17, (.getfield 39, 3, 96, vU, [])),
  (20, (.iconst 1, 1, 0, vI 1, [])),
  (21, (.isub, 1, 0, vU, [])),
  (22, (.istore 4, 2, 4, vU, [])),
  (24, (.aload_n 3, 1, 3, vU, [])),
  (25, (.getfield 20, 3, 83, vU, [])),
  (28, (.ifCond .eq 40, 3, 68, vU, [])),
  (31, (.aload_n 3, 1, 3, vU, [])),
  (32, (.iconst 0, 1, 0, vI 0, [])),
  (33, (.aload_n 2, 1, 2, vU, [])),
  (34, (.getfield 43, 3, 86, vU, [])),
  (37, (.iload 4, 2, 4, vU, [])),
  (39, (.laload, 1, 0, vU, [])),
  (40, (.aload_n 2, 1, 2, vU, [])),
  (41, (.getfield 47, 3, 90, vU, [])),
  (44, (.iload 4, 2, 4, vU, [])),
  (46, (.aaload, 1, 0, vU, [])),
  (47, (.aconst_null, 1, 0, vU, [])),
  (48, (.invokevirtual 59, 3, 4, vU, [7, 47])),
  (51, (.aload_n 0, 1, 0, vU, [])),
  (52, (.getfield 43, 3, 86, vU, [])),
  (55, (.iload_n 1, 1, 1, vU, [])),
  (56, (.iconst 1, 1, 0, vI 1, [])),
  (57, (.isub, 1, 0, vU, [])),
  (58, (.aload_n 3, 1, 3, vU, [])),
  (59, (.getfield 43, 3, 86, vU, [])),
  (62, (.iconst 0, 1, 0, vI 0, [])),
  (63, (.laload, 1, 0, vU, [])),
  (64, (.lastore, 1, 0, vU, [])),
  (65, (.goto 57, 3, 122, vU, [])),
  (68, (.aload_n 2, 1, 2, vU, [])),
  (69, (.getfield 24, 3, 94, vU, [])),
  (72, (.iload 4, 2, 4, vU, [])),
  (74, (.iconst 1, 1, 0, vI 1, [])),
  (75, (.iadd, 1, 0, vU, [])),
  (76, (.aaload, 1, 0, vU, [])),
  (77, (.astore 5, 2, 5, vU, [])),
  (79, (.aload_n 3, 1, 3, vU, [])),
  (80, (.iconst 0, 1, 0, vI 0, [])),
  (81, (.aload_n 0, 1, 0, vU, [])),
  (82, (.getfield 43, 3, 86, vU, [])),
  (85, (.iload_n 1, 1, 1, vU, [])),
  (86, (.iconst 1, 1, 0, vI 1, [])),
  (87, (.isub, 1, 0, vU, [])),
  (88, (.laload, 1, 0, vU, [])),
  (89, (.aconst_null, 1, 0, vU, [])),
  (90, (.aload_n 3, 1, 3, vU, [])),
  (91, (.getfield 24, 3, 94, vU, [])),
  (94, (.iconst 0, 1, 0, vI 0, [])),
  (95, (.aaload, 1, 0, vU, [])),
  (96, (.invokevirtual 59, 3, 4, vU, [7, 47])),
  (99, (.aload_n 3, 1, 3, vU, [])),
  (100, (.getfield 24, 3, 94, vU, [])),
  (103, (.iconst 0, 1, 0, vI 0, [])),
  (104, (.aload 5, 2, 5, vU, [])),
  (106, (.aastore, 1, 0, vU, [])),
  (107, (.aload_n 0, 1, 0, vU, [])),
  (108, (.getfield 43, 3, 86, vU, [])),
  (111, (.iload_n 1, 1, 1, vU, [])),
  (112, (.iconst 1, 1, 0, vI 1, [])),
  (113, (.isub, 1, 0, vU, [])),
  (114, (.aload_n 2, 1, 2, vU, [])),
  (115, (.getfield 43, 3, 86, vU, [])),
  (118, (.iload 4, 2, 4, vU, [])),
  (120, (.laload, 1, 0, vU, [])),
  (121, (.lastore, 1, 0, vU, [])),
  (122, (.aload_n 2, 1, 2, vU, [])),
  (123, (.iload 4, 2, 4, vU, [])),
  (125, (.invokevirtual 63, 3, 1, vU, [7, 48])),
  (128, (.return_, 1, 0, vU, []))]
/-- PlannedTables$Tree.fromRight.(LPlannedTables$Page;I)V -/
def c_79 : List (Nat × EI) := [(0, (.aload_n 0, 1, 0, vU, [])),
  (1, (.getfield 24, 3, 94, vU, [])),
  (4, (.iload_n 1, 1, 1, vU, [])),
  (5, (.iconst 1, 1, 0, vI 1, [])),
  (6, (.iadd, 1, 0, vU, [])),
  (7, (.aaload, 1, 0, vU, [])),
  (8, (.astore_n 2, 1, 2, vU, [])),
  (9, (.aload_n 0, 1, 0, vU, [])),
  (10, (.getfield 24, 3, 94, vU, [])),
  (13, (.iload_n 1, 1, 1, vU, [])),
  (14, (.aaload, 1, 0, vU, [])),
  (15, (.astore_n 3, 1, 3, vU, [])),
  (16, (.aload_n 3, 1, 3, vU, [])),
  (17, (.getfield 20, 3, 83, vU, [])),
  (20, (.ifCond .eq 44, 3, 64, vU, [])),
  (23, (.aload_n 3, 1, 3, vU, [])),
  (24, (.aload_n 3, 1, 3, vU, [])),
  (25, (.getfield 39, 3, 96, vU, [])),
  (28, (.aload_n 2, 1, 2, vU, [])),
  (29, (.getfield 43, 3, 86, vU, [])),
  (32, (.iconst 0, 1, 0, vI 0, [])),
  (33, (.laload, 1, 0, vU, [])),
  (34, (.aload_n 2, 1, 2, vU, [])),
  (35, (.getfield 47, 3, 90, vU, [])),
  (38, (.iconst 0, 1, 0, vI 0, [])),
  (39, (.aaload, 1, 0, vU, [])),
  (40, (.aconst_null, 1, 0, vU, [])),
  (41, (.invokevirtual 59, 3, 4, vU, [7, 47])),
  (44, (.aload_n 2, 1, 2, vU, [])),
  (45, (.iconst 0, 1, 0, vI 0, [])),
  (46, (.invokevirtual 63, 3, 1, vU, [7, 48])),
  (49, (.aload_n 0, 1, 0, vU, [])),
  (50, (.getfield 43, 3, 86, vU, [])),
  (53, (.iload_n 1, 1, 1, vU, [])),
  (54, (.aload_n 2, 1, 2, vU, [])),
  (55, (.getfield 43, 3, 86, vU, [])),
  (58, (.iconst 0, 1, 0, vI 0, [])),
  (59, (.laload, 1, 0, vU, [])),
  (60, (.lastore, 1, 0, vU, [])),
  (61, (.goto 40, 3, 101, vU, [])),
  (64, (.aload_n 3, 1, 3, vU, [])),
  (65, (.aload_n 3, 1, 3, vU, [])),
  (66, (.getfield 39, 3, 96, vU, [])),
  (69, (.aload_n 0, 1, 0, vU, [])),
  (70, (.getfield 43, 3, 86, vU, [])),
  (73, (.iload_n 1, 1, 1, vU, [])),
  (74, (.laload, 1, 0, vU, [])),
  (75, (.aconst_null, 1, 0, vU, [])),
  (76, (.aload_n 2, 1, 2, vU, [])),
  (77, (.getfield 24, 3, 94, vU, [])),
  (80, (.iconst 0, 1, 0, vI 0, [])),
  (81, (.aaload, 1, 0, vU, [])),
  (82, (.invokevirtual 59, 3, 4, vU, [7, 47])),
  (85, (.aload_n 0, 1, 0, vU, [])),
  (86, (.getfield 43, 3, 86, vU, [])),
  (89, (.iload_n 1, 1, 1, vU, [])),
  (90, (.aload_n 2, 1, 2, vU, [])),
  (91, (.getfield 43, 3, 86, vU, [])),
  (94, (.iconst 0, 1, 0, vI 0, [])),
  (95, (.laload, 1, 0, vU, [])),
  (96, (.lastore, 1, 0, vU, [])),
  (97, (.aload_n 2, 1, 2, vU, [])),
  (98, (.invokevirtual 86, 3, 0, vU, [7, 49])),
  (101, (.return_, 1, 0, vU, []))]
/-- PlannedTables$Tree.join.(LPlannedTables$Page;I)V -/
def c_80 : List (Nat × EI) := [(0, (.aload_n 0, 1, 0, vU, [])),
  (1, (.getfield 24, 3, 94, vU, [])),
  (4, (.iload_n 1, 1, 1, vU, [])),
  (5, (.aaload, 1, 0, vU, [])),
  (6, (.astore_n 2, 1, 2, vU, [])),
  (7, (.aload_n 0, 1, 0, vU, [])),
  (8, (.getfield 24, 3, 94, vU, [])),
  (11, (.iload_n 1, 1, 1, vU, [])),
  (12, (.iconst 1, 1, 0, vI 1, [])),
  (13, (.iadd, 1, 0, vU, [])),
  (14, (.aaload, 1, 0, vU, [])),
  (15, (.astore_n 3, 1, 3, vU, [])),
  (16, (.aload_n 2, 1, 2, vU, [])),
  (17, (.getfield 20, 3, 83, vU, [])),
  (20, (.ifCond .ne 24, 3, 44, vU, [])),
  (23, (.aload_n 2, 1, 2, vU, [])),
  (24, (.aload_n 2, 1, 2, vU, [])),
  (25, (.getfield 39, 3, 96, vU, [])),
  (28, (.aload_n 0, 1, 0, vU, [])),
  (29, (.getfield 43, 3, 86, vU, [])),
  (32, (.iload_n 1, 1, 1, vU, [])),
  (33, (.laload, 1, 0, vU, [])),
  (34, (.aconst_null, 1, 0, vU, [])),
  (35, (.aload_n 3, 1, 3, vU, [])),
  (36, (.getfield 24, 3, 94, vU, [])),
  (39, (.iconst 0, 1, 0, vI 0, [])),
  (40, (.aaload, 1, 0, vU, [])),
  (41, (.invokevirtual 59, 3, 4, vU, [7, 47])),
  (44, (.iconst 0, 1, 0, vI 0, [])),
  (45, (.istore 4, 2, 4, vU, [])),
  (47, (.iload 4, 2, 4, vU, [])),
  (49, (.aload_n 3, 1, 3, vU, [])),
  (50, (.getfield 39, 3, 96, vU, [])),
  (53, (.if_icmp .ge 40, 3, 93, vU, [])),
  (56, (.aload_n 2, 1, 2, vU, [])),
  (57, (.aload_n 2, 1, 2, vU, [])),
  (58, (.getfield 39, 3, 96, vU, [])),
  (61, (.aload_n 3, 1, 3, vU, [])),
  (62, (.getfield 43, 3, 86, vU, [])),
  (65, (.iload 4, 2, 4, vU, [])),
  (67, (.laload, 1, 0, vU, [])),
  (68, (.aload_n 3, 1, 3, vU, [])),
  (69, (.getfield 47, 3, 90, vU, [])),
  (72, (.iload 4, 2, 4, vU, [])),
  (74, (.aaload, 1, 0, vU, [])),
  (75, (.aload_n 3, 1, 3, vU, [])),
  (76, (.getfield 24, 3, 94, vU, [])),
  (79, (.iload 4, 2, 4, vU, [])),
  (81, (.iconst 1, 1, 0, vI 1, [])),
  (82, (.iadd, 1, 0, vU, [])),
  (83, (.aaload, 1, 0, vU, [])),
  (84, (.invokevirtual 59, 3, 4, vU, [7, 47])),
  (87, (.iinc 4 1, 3, 4, vI 1, [])),
  (90, (.goto (-43), 3, 47, vU, [])),
  (93, (.aload_n 2, 1, 2, vU, [])),
  (94, (.aload_n 3, 1, 3, vU, [])),
  (95, (.getfield 67, 3, 102, vU, [])),
  (98, (.putfield 67, 3, 102, vU, [])),
  (101, (.aload_n 0, 1, 0, vU, [])),
  (102, (.iload_n 1, 1, 1, vU, [])),
  (103, (.invokevirtual 63, 3, 1, vU, [7, 48])),
  (106, (.return_, 1, 0, vU, []))]
/-- PlannedTables$Walker.<init>.()V -/
def c_81 : List (Nat × EI) := [(0, (.aload_n 0, 1, 0, vU, [])),
  (1, (.invokespecial 1, 3, 1, vU, [9999])),
  (4, (.return_, 1, 0, vU, []))]
/-- PlannedTables$Walker.open.(LPlannedTables$Tree;JJ)V -/
def c_82 : List (Nat × EI) := [(0, (.aload_n 0, 1, 0, vU, [])),
  (1, (.lload 4, 2, 4, vU, [])),
  (3, (.putfield 7, 3, 129, vU, [])),
  (6, (.aload_n 0, 1, 0, vU, [])),
  (7, (.aload_n 1, 1, 1, vU, [])),
  (8, (.lload_n 2, 1, 2, vU, [])),
  (9, (.invokevirtual 13, 3, 1, vU, [14, 70])),
  (12, (.putfield 19, 3, 122, vU, [])),
  (15, (.aload_n 0, 1, 0, vU, [])),
  (16, (.aload_n 0, 1, 0, vU, [])),
  (17, (.getfield 19, 3, 122, vU, [])),
  (20, (.lload_n 2, 1, 2, vU, [])),
  (21, (.invokevirtual 23, 3, 1, vU, [7, 46])),
  (24, (.putfield 29, 3, 124, vU, [])),
  (27, (.return_, 1, 0, vU, []))]
/-- PlannedTables$Walker.next.()LPlannedTables$Row; -/
def c_83 : List (Nat × EI) := [(0, (.aload_n 0, 1, 0, vU, [])),
  (1, (.getfield 19, 3, 122, vU, [])),
  (4, (.ifnull 36, 3, 40, vU, [])),
  (7, (.aload_n 0, 1, 0, vU, [])),
  (8, (.getfield 29, 3, 124, vU, [])),
  (11, (.aload_n 0, 1, 0, vU, [])),
  (12, (.getfield 19, 3, 122, vU, [])),
  (15, (.getfield 33, 3, 96, vU, [])),
  (18, (.if_icmp .lt 22, 3, 40, vU, [])),
  (21, (.aload_n 0, 1, 0, vU, [])),
  (22, (.aload_n 0, 1, 0, vU, [])),
  (23, (.getfield 19, 3, 122, vU, [])),
  (26, (.getfield 36, 3, 102, vU, [])),
  (29, (.putfield 19, 3, 122, vU, [])),
  (32, (.aload_n 0, 1, 0, vU, [])),
  (33, (.iconst 0, 1, 0, vI 0, [])),
  (34, (.putfield 29, 3, 124, vU, [])),
  (37, (.goto (-37), 3, 0, vU, [])),
  (40, (.aload_n 0, 1, 0, vU, [])),
  (41, (.getfield 19, 3, 122, vU, [])),
  (44, (.ifnull 23, 3, 67, vU, [])),
  (47, (.aload_n 0, 1, 0, vU, [])),
  (48, (.getfield 19, 3, 122, vU, [])),
  (51, (.getfield 39, 3, 86, vU, [])),
  (54, (.aload_n 0, 1, 0, vU, [])),
  (55, (.getfield 29, 3, 124, vU, [])),
  (58, (.laload, 1, 0, vU, [])),
  (59, (.aload_n 0, 1, 0, vU, [])),
  (60, (.getfield 7, 3, 129, vU, [])),
  (63, (.lcmp, 1, 0, vU, [])),
  (64, (.ifCond .le 7, 3, 71, vU, [])),
  (67, (.aconst_null, 1, 0, vU, [])),
  (68, (.goto 22, 3, 90, vU, [])),
  (71, (.aload_n 0, 1, 0, vU, [])),
  (72, (.getfield 19, 3, 122, vU, [])),
  (75, (.getfield 43, 3, 90, vU, [])),
  (78, (.aload_n 0, 1, 0, vU, [])),
  (79, (.dup, 1, 0, vU, [])),
  (80, (.getfield 29, 3, 124, vU, [])),
  (83, (.dup_x1, 1, 0, vU, [])),
  (84, (.iconst 1, 1, 0, vI 1, [])),
  (85, (.iadd, 1, 0, vU, [])),
  (86, (.putfield 29, 3, 124, vU, [])),
  (89, (.aaload, 1, 0, vU, [])),
  (90, (.areturn, 1, 0, vU, []))]
/-- PlannedTablesModel.<init>.()V -/
def c_84 : List (Nat × EI) := [(0, (.aload_n 0, 1, 0, vU, [])),
  (1, (.invokespecial 1, 3, 1, vU, [9999])),
  (4, (.aload_n 0, 1, 0, vU, [])),
  (5, (.iconst 4, 1, 0, vI 4, [])),
  (6, (.newarray .int, 2, 0, vU, [])),
  (8, (.putfield 7, 3, 234, vU, [])),
  (11, (.aload_n 0, 1, 0, vU, [])),
  (12, (.bipush 16, 2, 0, vI 16, [])),
  (14, (.newarray .boolean, 2, 1, vU, [])),
  (16, (.putfield 13, 3, 238, vU, [])),
  (19, (.aload_n 0, 1, 0, vU, [])),
  (20, (.iconst 4, 1, 0, vI 4, [])),
  (21, (.newarray .int, 2, 0, vU, [])),
  (23, (.putfield 17, 3, 242, vU, [])),
  (26, (.aload_n 0, 1, 0, vU, [])),
  (27, (.bipush 48, 2, 0, vI 48, [])),
  (29, (.newarray .int, 2, 0, vU, [])),
  (31, (.putfield 20, 3, 250, vU, [])),
  (34, (.aload_n 0, 1, 0, vU, [])),
  (35, (.sipush 192, 3, 0, vI 192, [])),
  (38, (.newarray .int, 2, 0, vU, [])),
  (40, (.putfield 23, 3, 254, vU, [])),
  (43, (.aload_n 0, 1, 0, vU, [])),
  (44, (.bipush 40, 2, 0, vI 40, [])),
  (46, (.newarray .int, 2, 0, vU, [])),
  (48, (.putfield 26, 3, 262, vU, [])),
  (51, (.aload_n 0, 1, 0, vU, [])),
  (52, (.bipush 40, 2, 0, vI 40, [])),
  (54, (.newarray .int, 2, 0, vU, [])),
  (56, (.putfield 29, 3, 274, vU, [])),
  (59, (.aload_n 0, 1, 0, vU, [])),
  (60, (.bipush 40, 2, 0, vI 40, [])),
  (62, (.newarray .int, 2, 0, vU, [])),
  (64, (.putfield 32, 3, 278, vU, [])),
  (67, (.aload_n 0, 1, 0, vU, [])),
  (68, (.bipush 40, 2, 0, vI 40, [])),
  (70, (.newarray .int, 2, 0, vU, [])),
  (72, (.putfield 35, 3, 282, vU, [])),
  (75, (.aload_n 0, 1, 0, vU, [])),
  (76, (.bipush 8, 2, 0, vI 8, [])),
  (78, (.newarray .int, 2, 0, vU, [])),
  (80, (.putfield 38, 3, 310, vU, [])),
  (83, (.aload_n 0, 1, 0, vU, [])),
  (84, (.bipush 40, 2, 0, vI 40, [])),
  (86, (.newarray .int, 2, 0, vU, [])),
  (88, (.putfield 41, 3, 314, vU, [])),
  (91, (.aload_n 0, 1, 0, vU, [])),
  (92, (.bipush 40, 2, 0, vI 40, [])),
  (94, (.newarray .int, 2, 0, vU, [])),
  (96, (.putfield 44, 3, 318, vU, [])),
  (99, (.aload_n 0, 1, 0, vU, [])),
  (100, (.bipush 40, 2, 0, vI 40, [])),
  (102, (.newarray .boolean, 2, 1, vU, [])),
  (104, (.putfield 47, 3, 322, vU, [])),
  (107, (.aload_n 0, 1, 0, vU, [])),
  (108, (.sipush 320, 3, 0, vI 320, [])),
  (111, (.newarray .int, 2, 0, vU, [])),
  (113, (.putfield 50, 3, 326, vU, [])),
  (116, (.aload_n 0, 1, 0, vU, [])),
  (117, (.bipush 64, 2, 0, vI 64, [])),
  (119, (.newarray .int, 2, 0, vU, [])),
  (121, (.putfield 53, 3, 350, vU, [])),
  (124, (.return_, 1, 0, vU, []))]
/-- PlannedTablesModel.thrown.()I -/
def c_85 : List (Nat × EI) := [(0, (.aload_n 0, 1, 0, vU, [])),
  (1, (.getfield 56, 3, 224, vU, [])),
  (4, (.ireturn, 1, 0, vU, []))]
/-- PlannedTablesModel.table.(I)I -/
def c_86 : List (Nat × EI) := [(0, (.aload_n 0, 1, 0, vU, [])),
  (1, (.iload_n 1, 1, 1, vU, [])),
  (2, (.iconst 1, 1, 0, vI 1, [])),
  (3, (.if_icmp .lt 8, 3, 11, vU, [])),
  (6, (.iload_n 1, 1, 1, vU, [])),
  (7, (.iconst 4, 1, 0, vI 4, [])),
  (8, (.if_icmp .le 7, 3, 15, vU, [])),
  (11, (.iconst 1, 1, 0, vI 1, [])),
  (12, (.goto 16, 3, 28, vU, [])),
  (15, (.aload_n 0, 1, 0, vU, [])),
  (16, (.getfield 60, 3, 228, vU, [])),
  (19, (.iconst 4, 1, 0, vI 4, [])),
  (20, (.if_icmp .ne 7, 3, 27, vU, [])),
  (23, (.iconst 2, 1, 0, vI 2, [])),
  (24, (.goto 4, 3, 28, vU, [])),
  (27, (.iconst 0, 1, 0, vI 0, [])),
  (28, (.putfield 56, 3, 224, vU, [])),
  (31, (.aload_n 0, 1, 0, vU, [])),
  (32, (.getfield 56, 3, 224, vU, [])),
  (35, (.ifCond .le 5, 3, 40, vU, [])),
  (38, (.iconst 0, 1, 0, vI 0, [])),
  (39, (.ireturn, 1, 0, vU, [])),
  (40, (.aload_n 0, 1, 0, vU, [])),
  (41, (.getfield 7, 3, 234, vU, [])),
  (44, (.aload_n 0, 1, 0, vU, [])),
  (45, (.getfield 60, 3, 228, vU, [])),
  (48, (.iload_n 1, 1, 1, vU, [])),
  (49, (.iastore, 1, 0, vU, [])),
  (50, (.aload_n 0, 1, 0, vU, [])),
  (51, (.getfield 13, 3, 238, vU, [])),
  (54, (.iconst 4, 1, 0, vI 4, [])),
  (55, (.aload_n 0, 1, 0, vU, [])),
  (56, (.getfield 60, 3, 228, vU, [])),
  (59, (.imul, 1, 0, vU, [])),
  (60, (.iconst 1, 1, 0, vI 1, [])),
  (61, (.bastore, 1, 0, vU, [])),
  (62, (.aload_n 0, 1, 0, vU, [])),
  (63, (.aload_n 0, 1, 0, vU, [])),
  (64, (.getfield 60, 3, 228, vU, [])),
  (67, (.iconst 1, 1, 0, vI 1, [])),
  (68, (.iadd, 1, 0, vU, [])),
  (69, (.putfield 60, 3, 228, vU, [])),
  (72, (.aload_n 0, 1, 0, vU, [])),
  (73, (.getfield 60, 3, 228, vU, [])),
  (76, (.iconst 1, 1, 0, vI 1, [])),
  (77, (.isub, 1, 0, vU, [])),
  (78, (.ireturn, 1, 0, vU, []))]
/-- PlannedTablesModel.index.(II)Z -/
def c_87 : List (Nat × EI) := [(0, (.aload_n 0, 1, 0, vU, [])),
  (1, (.aload_n 0, 1, 0, vU, [])),
  (2, (.iload_n 1, 1, 1, vU, [])),
  (3, (.invokevirtual 63, 3, 1, vU, [16, 88])),
  (6, (.ifCond .eq 16, 3, 22, vU, [])),
  (9, (.aload_n 0, 1, 0, vU, [])),
  (10, (.iload_n 1, 1, 1, vU, [])),
  (11, (.iload_n 2, 1, 2, vU, [])),
  (12, (.invokevirtual 67, 3, 2, vU, [16, 89])),
  (15, (.ifCond .eq 7, 3, 22, vU, [])),
  (18, (.iconst 0, 1, 0, vI 0, [])),
  (19, (.goto 4, 3, 23, vU, [])),
  (22, (.iconst 1, 1, 0, vI 1, [])),
  (23, (.putfield 56, 3, 224, vU, [])),
  (26, (.aload_n 0, 1, 0, vU, [])),
  (27, (.getfield 56, 3, 224, vU, [])),
  (30, (.ifCond .gt 16, 3, 46, vU, [])),
  (33, (.aload_n 0, 1, 0, vU, [])),
  (34, (.getfield 13, 3, 238, vU, [])),
  (37, (.iconst 4, 1, 0, vI 4, [])),
  (38, (.iload_n 1, 1, 1, vU, [])),
  (39, (.imul, 1, 0, vU, [])),
  (40, (.iload_n 2, 1, 2, vU, [])),
  (41, (.iadd, 1, 0, vU, [])),
  (42, (.baload, 1, 0, vU, [])),
  (43, (.ifCond .eq 5, 3, 48, vU, [])),
  (46, (.iconst 0, 1, 0, vI 0, [])),
  (47, (.ireturn, 1, 0, vU, [])),
  (48, (.aload_n 0, 1, 0, vU, [])),
  (49, (.getfield 13, 3, 238, vU, [])),
  (52, (.iconst 4, 1, 0, vI 4, [])),
  (53, (.iload_n 1, 1, 1, vU, [])),
  (54, (.imul, 1, 0, vU, [])),
  (55, (.iload_n 2, 1, 2, vU, [])),
  (56, (.iadd, 1, 0, vU, [])),
  (57, (.iconst 1, 1, 0, vI 1, [])),
  (58, (.bastore, 1, 0, vU, [])),
  (59, (.iconst 1, 1, 0, vI 1, [])),
  (60, (.ireturn, 1, 0, vU, []))]
/-- PlannedTablesModel.isTable.(I)Z -/
def c_88 : List (Nat × EI) := [(0, (.iload_n 1, 1, 1, vU, [])),
  (1, (.ifCond .lt 15, 3, 16, vU, [])),
  (4, (.iload_n 1, 1, 1, vU, [])),
  (5, (.aload_n 0, 1, 0, vU, [])),
  (6, (.getfield 60, 3, 228, vU, [])),
  (9, (.if_icmp .ge 7, 3, 16, vU, [])),
  (12, (.iconst 1, 1, 0, vI 1, [])),
  (13, (.goto 4, 3, 17, vU, [])),
  (16, (.iconst 0, 1, 0, vI 0, [])),
  (17, (.ireturn, 1, 0, vU, []))]
/-- PlannedTablesModel.isColumn.(II)Z -/
def c_89 : List (Nat × EI) := [(0, (.iload_n 2, 1, 2, vU, [])),
  (1, (.ifCond .lt 17, 3, 18, vU, [])),
  (4, (.iload_n 2, 1, 2, vU, [])),
  (5, (.aload_n 0, 1, 0, vU, [])),
  (6, (.getfield 7, 3, 234, vU, [])),
  (9, (.iload_n 1, 1, 1, vU, [])),
  (10, (.iaload, 1, 0, vU, [])),
  (11, (.if_icmp .ge 7, 3, 18, vU, [])),
  (14, (.iconst 1, 1, 0, vI 1, [])),
  (15, (.goto 4, 3, 19, vU, [])),
  (18, (.iconst 0, 1, 0, vI 0, [])),
  (19, (.ireturn, 1, 0, vU, []))]
/-- PlannedTablesModel.stage.(II)Z -/
def c_90 : List (Nat × EI) := [(0, (.aload_n 0, 1, 0, vU, [])),
  (1, (.iconst 0, 1, 0, vI 0, [])),
  (2, (.putfield 56, 3, 224, vU, [])),
  (5, (.iload_n 1, 1, 1, vU, [])),
  (6, (.ifCond .lt 8, 3, 14, vU, [])),
  (9, (.iload_n 1, 1, 1, vU, [])),
  (10, (.iconst 3, 1, 0, vI 3, [])),
  (11, (.if_icmp .le 5, 3, 16, vU, [])),
  (14, (.iconst 0, 1, 0, vI 0, [])),
  (15, (.ireturn, 1, 0, vU, [])),
  (16, (.aload_n 0, 1, 0, vU, [])),
  (17, (.getfield 17, 3, 242, vU, [])),
  (20, (.iload_n 1, 1, 1, vU, [])),
  (21, (.iload_n 2, 1, 2, vU, [])),
  (22, (.iastore, 1, 0, vU, [])),
  (23, (.iconst 1, 1, 0, vI 1, [])),
  (24, (.ireturn, 1, 0, vU, []))]
/-- PlannedTablesModel.insert.(I)I -/
def c_91 : List (Nat × EI) := [(0, (.aload_n 0, 1, 0, vU, [])),
  (1, (.aload_n 0, 1, 0, vU, [])),
  (2, (.iload_n 1, 1, 1, vU, [])),
  (3, (.invokevirtual 63, 3, 1, vU, [16, 88])),
  (6, (.ifCond .ne 7, 3, 13, vU, [])),
  (9, (.iconst 1, 1, 0, vI 1, [])),
  (10, (.goto 35, 3, 45, vU, [])),
  (13, (.aload_n 0, 1, 0, vU, [])),
  (14, (.iload_n 1, 1, 1, vU, [])),
  (15, (.aload_n 0, 1, 0, vU, [])),
  (16, (.getfield 17, 3, 242, vU, [])),
  (19, (.iconst 0, 1, 0, vI 0, [])),
  (20, (.iaload, 1, 0, vU, [])),
  (21, (.invokevirtual 74, 3, 2, vU, [16, 92])),
  (24, (.ifCond .lt 7, 3, 31, vU, [])),
  (27, (.iconst 2, 1, 0, vI 2, [])),
  (28, (.goto 17, 3, 45, vU, [])),
  (31, (.aload_n 0, 1, 0, vU, [])),
  (32, (.getfield 71, 3, 244, vU, [])),
  (35, (.bipush 48, 2, 0, vI 48, [])),
  (37, (.if_icmp .ne 7, 3, 44, vU, [])),
  (40, (.iconst 3, 1, 0, vI 3, [])),
  (41, (.goto 4, 3, 45, vU, [])),
  (44, (.iconst 0, 1, 0, vI 0, [])),
  (45, (.putfield 56, 3, 224, vU, [])),
  (48, (.aload_n 0, 1, 0, vU, [])),
  (49, (.getfield 56, 3, 224, vU, [])),
  (52, (.ifCond .le 5, 3, 57, vU, [])),
  (55, (.iconst 0, 1, 0, vI 0, [])),
  (56, (.ireturn, 1, 0, vU, [])),
  (57, (.aload_n 0, 1, 0, vU, [])),
  (58, (.getfield 20, 3, 250, vU, [])),
  (61, (.aload_n 0, 1, 0, vU, [])),
  (62, (.getfield 71, 3, 244, vU, [])),
  (65, (.iload_n 1, 1, 1, vU, [])),
  (66, (.iastore, 1, 0, vU, [])),
  (67, (.iconst 0, 1, 0, vI 0, [])),
  (68, (.istore_n 2, 1, 2, vU, [])),
  (69, (.iload_n 2, 1, 2, vU, [])),
  (70, (.iconst 4, 1, 0, vI 4, [])),
  (71, (.if_icmp .ge 28, 3, 99, vU, [])),
  (74, (.aload_n 0, 1, 0, vU, [])),
  (75, (.getfield 23, 3, 254, vU, [])),
  (78, (.iconst 4, 1, 0, vI 4, [])),
  (79, (.aload_n 0, 1, 0, vU, [])),
  (80, (.getfield 71, 3, 244, vU, [])),
  (83, (.imul, 1, 0, vU, [])),
  (84, (.iload_n 2, 1, 2, vU, [])),
  (85, (.iadd, 1, 0, vU, [])),
  (86, (.aload_n 0, 1, 0, vU, [])),
  (87, (.getfield 17, 3, 242, vU, [])),
  (90, (.iload_n 2, 1, 2, vU, [])),
  (91, (.iaload, 1, 0, vU, [])),
  (92, (.iastore, 1, 0, vU, [])),
  (93, (.iinc 2 1, 3, 2, vI 1, [])),
  (96, (.goto (-27), 3, 69, vU, [])),
  (99, (.aload_n 0, 1, 0, vU, [])),
  (100, (.aload_n 0, 1, 0, vU, [])),
  (101, (.getfield 71, 3, 244, vU, [])),
  (104, (.iconst 1, 1, 0, vI 1, [])),
  (105, (.iadd, 1, 0, vU, [])),
  (106, (.putfield 71, 3, 244, vU, [])),
  (109, (.aload_n 0, 1, 0, vU, [])),
  (110, (.iload_n 1, 1, 1, vU, [])),
  (111, (.invokevirtual 78, 3, 1, vU, [16, 93])),
  (114, (.ireturn, 1, 0, vU, []))]
/-- PlannedTablesModel.rowWith.(II)I -/
def c_92 : List (Nat × EI) := [(0, (.iconst (-1), 1, 0, vI (-1), [])),
  (1, (.istore_n 3, 1, 3, vU, [])),
  (2, (.iconst 0, 1, 0, vI 0, [])),
  (3, (.istore 4, 2, 4, vU, [])),
  (5, (.iload 4, 2, 4, vU, [])),
  (7, (.aload_n 0, 1, 0, vU, [])),
  (8, (.getfield 71, 3, 244, vU, [])),
  (11, (.if_icmp .ge 40, 3, 51, vU, [])),
  (14, (.aload_n 0, 1, 0, vU, [])),
  (15, (.getfield 20, 3, 250, vU, [])),
  (18, (.iload 4, 2, 4, vU, [])),
  (20, (.iaload, 1, 0, vU, [])),
  (21, (.iload_n 1, 1, 1, vU, [])),
  (22, (.if_icmp .ne 21, 3, 43, vU, [])),
  (25, (.aload_n 0, 1, 0, vU, [])),
  (26, (.getfield 23, 3, 254, vU, [])),
  (29, (.iconst 4, 1, 0, vI 4, [])),
  (30, (.iload 4, 2, 4, vU, [])),
  (32, (.imul, 1, 0, vU, [])),
  (33, (.iaload, 1, 0, vU, [])),
  (34, (.iload_n 2, 1, 2, vU, [])),
  (35, (.if_icmp .ne 8, 3, 43, vU, [])),
  (38, (.iload 4, 2, 4, vU, [])),
  (40, (.goto 4, 3, 44, vU, [])),
  (43, (.iload_n 3, 1, 3, vU, [])),
  (44, (.istore_n 3, 1, 3, vU, [])),
  (45, (.iinc 4 1, 3, 4, vI 1, [])),
  (48, (.goto (-43), 3, 5, vU, [])),
  (51, (.iload_n 3, 1, 3, vU, [])),
  (52, (.ireturn, 1, 0, vU, []))]
/-- PlannedTablesModel.rowsOf.(I)I -/
def c_93 : List (Nat × EI) := [(0, (.iconst 0, 1, 0, vI 0, [])),
  (1, (.istore_n 2, 1, 2, vU, [])),
  (2, (.iconst 0, 1, 0, vI 0, [])),
  (3, (.istore_n 3, 1, 3, vU, [])),
  (4, (.iload_n 3, 1, 3, vU, [])),
  (5, (.aload_n 0, 1, 0, vU, [])),
  (6, (.getfield 71, 3, 244, vU, [])),
  (9, (.if_icmp .ge 27, 3, 36, vU, [])),
  (12, (.aload_n 0, 1, 0, vU, [])),
  (13, (.getfield 20, 3, 250, vU, [])),
  (16, (.iload_n 3, 1, 3, vU, [])),
  (17, (.iaload, 1, 0, vU, [])),
  (18, (.iload_n 1, 1, 1, vU, [])),
  (19, (.if_icmp .ne 9, 3, 28, vU, [])),
  (22, (.iload_n 2, 1, 2, vU, [])),
  (23, (.iconst 1, 1, 0, vI 1, [])),
  (24, (.iadd, 1, 0, vU, [])),
  (25, (.goto 4, 3, 29, vU, [])),
  (28, (.iload_n 2, 1, 2, vU, [])),
  (29, (.istore_n 2, 1, 2, vU, [])),
  (30, (.iinc 3 1, 3, 3, vI 1, [])),
  (33, (.goto (-29), 3, 4, vU, [])),
  (36, (.iload_n 2, 1, 2, vU, [])),
  (37, (.ireturn, 1, 0, vU, []))]
/-- PlannedTablesModel.delete.(II)I -/
def c_94 : List (Nat × EI) := [(0, (.aload_n 0, 1, 0, vU, [])),
  (1, (.aload_n 0, 1, 0, vU, [])),
  (2, (.iload_n 1, 1, 1, vU, [])),
  (3, (.invokevirtual 63, 3, 1, vU, [16, 88])),
  (6, (.ifCond .ne 7, 3, 13, vU, [])),
  (9, (.iconst 1, 1, 0, vI 1, [])),
  (10, (.goto 17, 3, 27, vU, [])),
  (13, (.aload_n 0, 1, 0, vU, [])),
  (14, (.iload_n 1, 1, 1, vU, [])),
  (15, (.iload_n 2, 1, 2, vU, [])),
  (16, (.invokevirtual 74, 3, 2, vU, [16, 92])),
  (19, (.ifCond .ge 7, 3, 26, vU, [])),
  (22, (.iconst 2, 1, 0, vI 2, [])),
  (23, (.goto 4, 3, 27, vU, [])),
  (26, (.iconst 0, 1, 0, vI 0, [])),
  (27, (.putfield 56, 3, 224, vU, [])),
  (30, (.aload_n 0, 1, 0, vU, [])),
  (31, (.getfield 56, 3, 224, vU, [])),
  (34, (.ifCond .le 5, 3, 39, vU, [])),
  (37, (.iconst 0, 1, 0, vI 0, [])),
  (38, (.ireturn, 1, 0, vU, [])),
  (39, (.aload_n 0, 1, 0, vU, [])),
  (40, (.iload_n 1, 1, 1, vU, [])),
  (41, (.iload_n 2, 1, 2, vU, [])),
  (42, (.invokevirtual 74, 3, 2, vU, [16, 92])),
  (45, (.istore_n 3, 1, 3, vU, [])),
  (46, (.aload_n 0, 1, 0, vU, [])),
  (47, (.aload_n 0, 1, 0, vU, [])),
  (48, (.getfield 71, 3, 244, vU, [])),
  (51, (.iconst 1, 1, 0, vI 1, [])),
  (52, (.isub, 1, 0, vU, [])),
  (53, (.putfield 71, 3, 244, vU, [])),
  (56, (.aload_n 0, 1, 0, vU, [])),
  (57, (.getfield 20, 3, 250, vU, [])),
  (60, (.iload_n 3, 1, 3, vU, [])),
  (61, (.aload_n 0, 1, 0, vU, [])),
  (62, (.getfield 20, 3, 250, vU, [])),
  (65, (.aload_n 0, 1, 0, vU, [])),
  (66, (.getfield 71, 3, 244, vU, [])),
  (69, (.iaload, 1, 0, vU, [])),
  (70, (.iastore, 1, 0, vU, [])),
  (71, (.iconst 0, 1, 0, vI 0, [])),
  (72, (.istore 4, 2, 4, vU, [])),
  (74, (.iload 4, 2, 4, vU, [])),
  (76, (.iconst 4, 1, 0, vI 4, [])),
  (77, (.if_icmp .ge 34, 3, 111, vU, [])),
  (80, (.aload_n 0, 1, 0, vU, [])),
  (81, (.getfield 23, 3, 254, vU, [])),
  (84, (.iconst 4, 1, 0, vI 4, [])),
  (85, (.iload_n 3, 1, 3, vU, [])),
  (86, (.imul, 1, 0, vU, [])),
  (87, (.iload 4, 2, 4, vU, [])),
  (89, (.iadd, 1, 0, vU, [])),
  (90, (.aload_n 0, 1, 0, vU, [])),
  (91, (.getfield 23, 3, 254, vU, [])),
  (94, (.iconst 4, 1, 0, vI 4, [])),
  (95, (.aload_n 0, 1, 0, vU, [])),
  (96, (.getfield 71, 3, 244, vU, [])),
  (99, (.imul, 1, 0, vU, [])),
  (100, (.iload 4, 2, 4, vU, [])),
  (102, (.iadd, 1, 0, vU, [])),
  (103, (.iaload, 1, 0, vU, [])),
  (104, (.iastore, 1, 0, vU, [])),
  (105, (.iinc 4 1, 3, 4, vI 1, [])),
  (108, (.goto (-34), 3, 74, vU, [])),
  (111, (.aload_n 0, 1, 0, vU, [])),
  (112, (.iload_n 1, 1, 1, vU, [])),
  (113, (.invokevirtual 78, 3, 1, vU, [16, 93])),
  (116, (.ireturn, 1, 0, vU, []))]
/-- PlannedTablesModel.cell.(III)I -/
def c_95 : List (Nat × EI) := [(0, (.aload_n 0, 1, 0, vU, [])),
  (1, (.aload_n 0, 1, 0, vU, [])),
  (2, (.iload_n 1, 1, 1, vU, [])),
  (3, (.invokevirtual 63, 3, 1, vU, [16, 88])),
  (6, (.ifCond .eq 12, 3, 18, vU, [])),
  (9, (.aload_n 0, 1, 0, vU, [])),
  (10, (.iload_n 1, 1, 1, vU, [])),
  (11, (.iload_n 3, 1, 3, vU, [])),
  (12, (.invokevirtual 67, 3, 2, vU, [16, 89])),
  (15, (.ifCond .ne 7, 3, 22, vU, [])),
  (18, (.iconst 1, 1, 0, vI 1, [])),
  (19, (.goto 17, 3, 36, vU, [])),
  (22, (.aload_n 0, 1, 0, vU, [])),
  (23, (.iload_n 1, 1, 1, vU, [])),
  (24, (.iload_n 2, 1, 2, vU, [])),
  (25, (.invokevirtual 74, 3, 2, vU, [16, 92])),
  (28, (.ifCond .ge 7, 3, 35, vU, [])),
  (31, (.iconst 2, 1, 0, vI 2, [])),
  (32, (.goto 4, 3, 36, vU, [])),
  (35, (.iconst 0, 1, 0, vI 0, [])),
  (36, (.putfield 56, 3, 224, vU, [])),
  (39, (.aload_n 0, 1, 0, vU, [])),
  (40, (.getfield 56, 3, 224, vU, [])),
  (43, (.ifCond .le 7, 3, 50, vU, [])),
  (46, (.iconst 0, 1, 0, vI 0, [])),
  (47, (.goto 18, 3, 65, vU, [])),
  (50, (.aload_n 0, 1, 0, vU, [])),
  (51, (.getfield 23, 3, 254, vU, [])),
  (54, (.iconst 4, 1, 0, vI 4, [])),
  (55, (.aload_n 0, 1, 0, vU, [])),
  (56, (.iload_n 1, 1, 1, vU, [])),
  (57, (.iload_n 2, 1, 2, vU, [])),
  (58, (.invokevirtual 74, 3, 2, vU, [16, 92])),
  (61, (.imul, 1, 0, vU, [])),
  (62, (.iload_n 3, 1, 3, vU, [])),
  (63, (.iadd, 1, 0, vU, [])),
  (64, (.iaload, 1, 0, vU, [])),
  (65, (.ireturn, 1, 0, vU, []))]
/-- PlannedTablesModel.keyFrom.(II)I -/
def c_96 : List (Nat × EI) := [(0, (.aload_n 0, 1, 0, vU, [])),
  (1, (.aload_n 0, 1, 0, vU, [])),
  (2, (.iload_n 1, 1, 1, vU, [])),
  (3, (.invokevirtual 63, 3, 1, vU, [16, 88])),
  (6, (.ifCond .eq 7, 3, 13, vU, [])),
  (9, (.iconst 0, 1, 0, vI 0, [])),
  (10, (.goto 4, 3, 14, vU, [])),
  (13, (.iconst 1, 1, 0, vI 1, [])),
  (14, (.putfield 56, 3, 224, vU, [])),
  (17, (.aload_n 0, 1, 0, vU, [])),
  (18, (.getfield 56, 3, 224, vU, [])),
  (21, (.ifCond .le 5, 3, 26, vU, [])),
  (24, (.iconst 0, 1, 0, vI 0, [])),
  (25, (.ireturn, 1, 0, vU, [])),
  (26, (.iconst (-1), 1, 0, vI (-1), [])),
  (27, (.istore_n 3, 1, 3, vU, [])),
  (28, (.iconst 0, 1, 0, vI 0, [])),
  (29, (.istore 4, 2, 4, vU, [])),
  (31, (.iload 4, 2, 4, vU, [])),
  (33, (.aload_n 0, 1, 0, vU, [])),
  (34, (.getfield 71, 3, 244, vU, [])),
  (37, (.if_icmp .ge 76, 3, 113, vU, [])),
  (40, (.aload_n 0, 1, 0, vU, [])),
  (41, (.getfield 20, 3, 250, vU, [])),
  (44, (.iload 4, 2, 4, vU, [])),
  (46, (.iaload, 1, 0, vU, [])),
  (47, (.iload_n 1, 1, 1, vU, [])),
  (48, (.if_icmp .ne 20, 3, 68, vU, [])),
  (51, (.aload_n 0, 1, 0, vU, [])),
  (52, (.getfield 23, 3, 254, vU, [])),
  (55, (.iconst 4, 1, 0, vI 4, [])),
  (56, (.iload 4, 2, 4, vU, [])),
  (58, (.imul, 1, 0, vU, [])),
  (59, (.iaload, 1, 0, vU, [])),
  (60, (.iload_n 2, 1, 2, vU, [])),
  (61, (.if_icmp .lt 7, 3, 68, vU, [])),
  (64, (.iconst 1, 1, 0, vI 1, [])),
  (65, (.goto 4, 3, 69, vU, [])),
  (68, (.iconst 0, 1, 0, vI 0, [])),
  (69, (.istore 5, 2, 5, vU, [])),
  (71, (.iload 5, 2, 5, vU, [])),
  (73, (.ifCond .eq 32, 3, 105, vU, [])),
  (76, (.iload_n 3, 1, 3, vU, [])),
  (77, (.ifCond .lt 23, 3, 100, vU, [])),
  (80, (.aload_n 0, 1, 0, vU, [])),
  (81, (.getfield 23, 3, 254, vU, [])),
  (84, (.iconst 4, 1, 0, vI 4, [])),
  (85, (.iload 4, 2, 4, vU, [])),
  (87, (.imul, 1, 0, vU, [])),
  (88, (.iaload, 1, 0, vU, [])),
  (89, (.aload_n 0, 1, 0, vU, [])),
  (90, (.getfield 23, 3, 254, vU, [])),
  (93, (.iconst 4, 1, 0, vI 4, [])),
  (94, (.iload_n 3, 1, 3, vU, [])),
  (95, (.imul, 1, 0, vU, [])),
  (96, (.iaload, 1, 0, vU, [])),
  (97, (.if_icmp .ge 8, 3, 105, vU, [])),
  (100, (.iload 4, 2, 4, vU, [])),
  (102, (.goto 4, 3, 106, vU, [])),
  (105, (.iload_n 3, 1, 3, vU, [])),
  (106, (.istore_n 3, 1, 3, vU, [])),
  (107, (.iinc 4 1, 3, 4, vI 1, [])),
  (110, (.goto (-79), 3, 31, vU, [])),
  (113, (.aload_n 0, 1, 0, vU, [])),
  (114, (.iload_n 3, 1, 3, vU, [])),
  (115, (.ifCond .ge 7, 3, 122, vU, [])),
  (118, (.iconst 2, 1, 0, vI 2, [])),
  (119, (.goto 4, 3, 123, vU, [])),
  (122, (.iconst 0, 1, 0, vI 0, [])),
  (123, (.putfield 56, 3, 224, vU, [])),
  (126, (.iload_n 3, 1, 3, vU, [])),
  (127, (.ifCond .ge 7, 3, 134, vU, [])),
  (130, (.iconst 0, 1, 0, vI 0, [])),
  (131, (.goto 11, 3, 142, vU, [])),
  (134, (.aload_n 0, 1, 0, vU, [])),
  (135, (.getfield 23, 3, 254, vU, [])),
  (138, (.iconst 4, 1, 0, vI 4, [])),
  (139, (.iload_n 3, 1, 3, vU, [])),
  (140, (.imul, 1, 0, vU, [])),
  (141, (.iaload, 1, 0, vU, [])),
  (142, (.ireturn, 1, 0, vU, []))]
/-- PlannedTablesModel.rows.(I)I -/
def c_97 : List (Nat × EI) := [(0, (.aload_n 0, 1, 0, vU, [])),
  (1, (.iconst 0, 1, 0, vI 0, [])),
  (2, (.putfield 56, 3, 224, vU, [])),
  (5, (.aload_n 0, 1, 0, vU, [])),
  (6, (.iload_n 1, 1, 1, vU, [])),
  (7, (.invokevirtual 63, 3, 1, vU, [16, 88])),
  (10, (.ifCond .eq 11, 3, 21, vU, [])),
  (13, (.aload_n 0, 1, 0, vU, [])),
  (14, (.iload_n 1, 1, 1, vU, [])),
  (15, (.invokevirtual 78, 3, 1, vU, [16, 93])),
  (18, (.goto 4, 3, 22, vU, [])),
  (21, (.iconst (-1), 1, 0, vI (-1), [])),
  (22, (.ireturn, 1, 0, vU, []))]
/-- PlannedTablesModel.word.(I)Z -/
def c_98 : List (Nat × EI) := [(0, (.aload_n 0, 1, 0, vU, [])),
  (1, (.iconst 0, 1, 0, vI 0, [])),
  (2, (.putfield 56, 3, 224, vU, [])),
  (5, (.aload_n 0, 1, 0, vU, [])),
  (6, (.getfield 82, 3, 256, vU, [])),
  (9, (.bipush 40, 2, 0, vI 40, [])),
  (11, (.if_icmp .ne 5, 3, 16, vU, [])),
  (14, (.iconst 0, 1, 0, vI 0, [])),
  (15, (.ireturn, 1, 0, vU, [])),
  (16, (.aload_n 0, 1, 0, vU, [])),
  (17, (.getfield 26, 3, 262, vU, [])),
  (20, (.aload_n 0, 1, 0, vU, [])),
  (21, (.getfield 82, 3, 256, vU, [])),
  (24, (.iload_n 1, 1, 1, vU, [])),
  (25, (.iastore, 1, 0, vU, [])),
  (26, (.aload_n 0, 1, 0, vU, [])),
  (27, (.aload_n 0, 1, 0, vU, [])),
  (28, (.getfield 82, 3, 256, vU, [])),
  (31, (.iconst 1, 1, 0, vI 1, [])),
  (32, (.iadd, 1, 0, vU, [])),
  (33, (.putfield 82, 3, 256, vU, [])),
  (36, (.iconst 1, 1, 0, vI 1, [])),
  (37, (.ireturn, 1, 0, vU, []))]
/-- PlannedTablesModel.clear.()I -/
def c_99 : List (Nat × EI) := [(0, (.aload_n 0, 1, 0, vU, [])),
  (1, (.iconst 0, 1, 0, vI 0, [])),
  (2, (.putfield 56, 3, 224, vU, [])),
  (5, (.aload_n 0, 1, 0, vU, [])),
  (6, (.getfield 82, 3, 256, vU, [])),
  (9, (.istore_n 1, 1, 1, vU, [])),
  (10, (.aload_n 0, 1, 0, vU, [])),
  (11, (.iconst 0, 1, 0, vI 0, [])),
  (12, (.putfield 82, 3, 256, vU, [])),
  (15, (.iload_n 1, 1, 1, vU, [])),
  (16, (.ireturn, 1, 0, vU, []))]
/-- PlannedTablesModel.fault.()I -/
def c_100 : List (Nat × EI) := [(0, (.aload_n 0, 1, 0, vU, [])),
  (1, (.iconst 0, 1, 0, vI 0, [])),
  (2, (.putfield 56, 3, 224, vU, [])),
  (5, (.aload_n 0, 1, 0, vU, [])),
  (6, (.invokevirtual 116, 3, 0, vU, [16, 101])),
  (9, (.aload_n 0, 1, 0, vU, [])),
  (10, (.getfield 85, 3, 268, vU, [])),
  (13, (.ifCond .ge 7, 3, 20, vU, [])),
  (16, (.iconst (-1), 1, 0, vI (-1), [])),
  (17, (.goto 7, 3, 24, vU, [])),
  (20, (.aload_n 0, 1, 0, vU, [])),
  (21, (.getfield 85, 3, 268, vU, [])),
  (24, (.ireturn, 1, 0, vU, []))]
/-- PlannedTablesModel.readPlan.()V -/
def c_101 : List (Nat × EI) := [(0, (.aload_n 0, 1, 0, vU, [])),
  (1, (.iconst (-1), 1, 0, vI (-1), [])),
  (2, (.putfield 85, 3, 268, vU, [])),
  (5, (.aload_n 0, 1, 0, vU, [])),
  (6, (.iconst 1, 1, 0, vI 1, [])),
  (7, (.putfield 107, 3, 264, vU, [])),
  (10, (.aload_n 0, 1, 0, vU, [])),
  (11, (.iconst 0, 1, 0, vI 0, [])),
  (12, (.putfield 95, 3, 284, vU, [])),
  (15, (.aload_n 0, 1, 0, vU, [])),
  (16, (.invokevirtual 110, 3, 0, vU, [16, 102])),
  (19, (.aload_n 0, 1, 0, vU, [])),
  (20, (.getfield 29, 3, 274, vU, [])),
  (23, (.iconst 0, 1, 0, vI 0, [])),
  (24, (.iaload, 1, 0, vU, [])),
  (25, (.iconst 2, 1, 0, vI 2, [])),
  (26, (.if_icmp .ne 7, 3, 33, vU, [])),
  (29, (.iconst 5, 1, 0, vI 5, [])),
  (30, (.goto 4, 3, 34, vU, [])),
  (33, (.iconst 2, 1, 0, vI 2, [])),
  (34, (.istore_n 1, 1, 1, vU, [])),
  (35, (.aload_n 0, 1, 0, vU, [])),
  (36, (.getfield 85, 3, 268, vU, [])),
  (39, (.ifCond .ge 103, 3, 142, vU, [])),
  (42, (.iload_n 1, 1, 1, vU, [])),
  (43, (.aload_n 0, 1, 0, vU, [])),
  (44, (.getfield 82, 3, 256, vU, [])),
  (47, (.if_icmp .ge 95, 3, 142, vU, [])),
  (50, (.aload_n 0, 1, 0, vU, [])),
  (51, (.getfield 26, 3, 262, vU, [])),
  (54, (.iload_n 1, 1, 1, vU, [])),
  (55, (.iaload, 1, 0, vU, [])),
  (56, (.istore_n 2, 1, 2, vU, [])),
  (57, (.aload_n 0, 1, 0, vU, [])),
  (58, (.iload_n 1, 1, 1, vU, [])),
  (59, (.iload_n 2, 1, 2, vU, [])),
  (60, (.iconst 3, 1, 0, vI 3, [])),
  (61, (.if_icmp .lt 13, 3, 74, vU, [])),
  (64, (.iload_n 2, 1, 2, vU, [])),
  (65, (.bipush 10, 2, 0, vI 10, [])),
  (67, (.if_icmp .gt 7, 3, 74, vU, [])),
  (70, (.iconst 1, 1, 0, vI 1, [])),
  (71, (.goto 4, 3, 75, vU, [])),
  (74, (.iconst 0, 1, 0, vI 0, [])),
  (75, (.invokevirtual 91, 3, 2, vU, [16, 104])),
  (78, (.aload_n 0, 1, 0, vU, [])),
  (79, (.getfield 85, 3, 268, vU, [])),
  (82, (.ifCond .ge 57, 3, 139, vU, [])),
  (85, (.aload_n 0, 1, 0, vU, [])),
  (86, (.getfield 29, 3, 274, vU, [])),
  (89, (.aload_n 0, 1, 0, vU, [])),
  (90, (.getfield 107, 3, 264, vU, [])),
  (93, (.iload_n 2, 1, 2, vU, [])),
  (94, (.iastore, 1, 0, vU, [])),
  (95, (.aload_n 0, 1, 0, vU, [])),
  (96, (.getfield 32, 3, 278, vU, [])),
  (99, (.aload_n 0, 1, 0, vU, [])),
  (100, (.getfield 107, 3, 264, vU, [])),
  (103, (.iload_n 1, 1, 1, vU, [])),
  (104, (.iconst 1, 1, 0, vI 1, [])),
  (105, (.iadd, 1, 0, vU, [])),
  (106, (.iastore, 1, 0, vU, [])),
  (107, (.aload_n 0, 1, 0, vU, [])),
  (108, (.getfield 35, 3, 282, vU, [])),
  (111, (.aload_n 0, 1, 0, vU, [])),
  (112, (.getfield 107, 3, 264, vU, [])),
  (115, (.aload_n 0, 1, 0, vU, [])),
  (116, (.getfield 95, 3, 284, vU, [])),
  (119, (.iastore, 1, 0, vU, [])),
  (120, (.aload_n 0, 1, 0, vU, [])),
  (121, (.aload_n 0, 1, 0, vU, [])),
  (122, (.getfield 107, 3, 264, vU, [])),
  (125, (.iconst 1, 1, 0, vI 1, [])),
  (126, (.iadd, 1, 0, vU, [])),
  (127, (.putfield 107, 3, 264, vU, [])),
  (130, (.aload_n 0, 1, 0, vU, [])),
  (131, (.iload_n 2, 1, 2, vU, [])),
  (132, (.iload_n 1, 1, 1, vU, [])),
  (133, (.iconst 1, 1, 0, vI 1, [])),
  (134, (.iadd, 1, 0, vU, [])),
  (135, (.invokevirtual 113, 3, 2, vU, [16, 105])),
  (138, (.istore_n 1, 1, 1, vU, [])),
  (139, (.goto (-104), 3, 35, vU, [])),
  (142, (.return_, 1, 0, vU, []))]
/-- PlannedTablesModel.readSource.()V -/
def c_102 : List (Nat × EI) := [(0, (.aload_n 0, 1, 0, vU, [])),
  (1, (.getfield 29, 3, 274, vU, [])),
  (4, (.iconst 0, 1, 0, vI 0, [])),
  (5, (.aload_n 0, 1, 0, vU, [])),
  (6, (.iconst 0, 1, 0, vI 0, [])),
  (7, (.invokevirtual 88, 3, 1, vU, [16, 103])),
  (10, (.iastore, 1, 0, vU, [])),
  (11, (.aload_n 0, 1, 0, vU, [])),
  (12, (.getfield 32, 3, 278, vU, [])),
  (15, (.iconst 0, 1, 0, vI 0, [])),
  (16, (.iconst 1, 1, 0, vI 1, [])),
  (17, (.iastore, 1, 0, vU, [])),
  (18, (.aload_n 0, 1, 0, vU, [])),
  (19, (.iconst 0, 1, 0, vI 0, [])),
  (20, (.aload_n 0, 1, 0, vU, [])),
  (21, (.getfield 29, 3, 274, vU, [])),
  (24, (.iconst 0, 1, 0, vI 0, [])),
  (25, (.iaload, 1, 0, vU, [])),
  (26, (.iconst 1, 1, 0, vI 1, [])),
  (27, (.if_icmp .eq 13, 3, 40, vU, [])),
  (30, (.aload_n 0, 1, 0, vU, [])),
  (31, (.getfield 29, 3, 274, vU, [])),
  (34, (.iconst 0, 1, 0, vI 0, [])),
  (35, (.iaload, 1, 0, vU, [])),
  (36, (.iconst 2, 1, 0, vI 2, [])),
  (37, (.if_icmp .ne 7, 3, 44, vU, [])),
  (40, (.iconst 1, 1, 0, vI 1, [])),
  (41, (.goto 4, 3, 45, vU, [])),
  (44, (.iconst 0, 1, 0, vI 0, [])),
  (45, (.invokevirtual 91, 3, 2, vU, [16, 104])),
  (48, (.aload_n 0, 1, 0, vU, [])),
  (49, (.iconst 1, 1, 0, vI 1, [])),
  (50, (.invokevirtual 88, 3, 1, vU, [16, 103])),
  (53, (.istore_n 1, 1, 1, vU, [])),
  (54, (.aload_n 0, 1, 0, vU, [])),
  (55, (.iconst 1, 1, 0, vI 1, [])),
  (56, (.aload_n 0, 1, 0, vU, [])),
  (57, (.iload_n 1, 1, 1, vU, [])),
  (58, (.invokevirtual 63, 3, 1, vU, [16, 88])),
  (61, (.invokevirtual 91, 3, 2, vU, [16, 104])),
  (64, (.aload_n 0, 1, 0, vU, [])),
  (65, (.getfield 85, 3, 268, vU, [])),
  (68, (.ifCond .lt 4, 3, 72, vU, [])),
  (71, (.return_, 1, 0, vU, [])),
  (72, (.aload_n 0, 1, 0, vU, [])),
  (73, (.aload_n 0, 1, 0, vU, [])),
  (74, (.getfield 7, 3, 234, vU, [])),
  (77, (.iload_n 1, 1, 1, vU, [])),
  (78, (.iaload, 1, 0, vU, [])),
  (79, (.putfield 95, 3, 284, vU, [])),
  (82, (.aload_n 0, 1, 0, vU, [])),
  (83, (.getfield 29, 3, 274, vU, [])),
  (86, (.iconst 0, 1, 0, vI 0, [])),
  (87, (.iaload, 1, 0, vU, [])),
  (88, (.iconst 2, 1, 0, vI 2, [])),
  (89, (.if_icmp .ne 55, 3, 144, vU, [])),
  (92, (.aload_n 0, 1, 0, vU, [])),
  (93, (.iconst 2, 1, 0, vI 2, [])),
  (94, (.invokevirtual 88, 3, 1, vU, [16, 103])),
  (97, (.istore_n 2, 1, 2, vU, [])),
  (98, (.aload_n 0, 1, 0, vU, [])),
  (99, (.iconst 2, 1, 0, vI 2, [])),
  (100, (.aload_n 0, 1, 0, vU, [])),
  (101, (.iload_n 1, 1, 1, vU, [])),
  (102, (.iload_n 2, 1, 2, vU, [])),
  (103, (.invokevirtual 67, 3, 2, vU, [16, 89])),
  (106, (.ifCond .eq 22, 3, 128, vU, [])),
  (109, (.aload_n 0, 1, 0, vU, [])),
  (110, (.getfield 13, 3, 238, vU, [])),
  (113, (.iconst 4, 1, 0, vI 4, [])),
  (114, (.iload_n 1, 1, 1, vU, [])),
  (115, (.imul, 1, 0, vU, [])),
  (116, (.iload_n 2, 1, 2, vU, [])),
  (117, (.iconst 3, 1, 0, vI 3, [])),
  (118, (.iand, 1, 0, vU, [])),
  (119, (.iadd, 1, 0, vU, [])),
  (120, (.baload, 1, 0, vU, [])),
  (121, (.ifCond .eq 7, 3, 128, vU, [])),
  (124, (.iconst 1, 1, 0, vI 1, [])),
  (125, (.goto 4, 3, 129, vU, [])),
  (128, (.iconst 0, 1, 0, vI 0, [])),
  (129, (.invokevirtual 91, 3, 2, vU, [16, 104])),
  (132, (.aload_n 0, 1, 0, vU, [])),
  (133, (.iconst 3, 1, 0, vI 3, [])),
  (134, (.iconst 1, 1, 0, vI 1, [])),
  (135, (.invokevirtual 91, 3, 2, vU, [16, 104])),
  (138, (.aload_n 0, 1, 0, vU, [])),
  (139, (.iconst 4, 1, 0, vI 4, [])),
  (140, (.iconst 1, 1, 0, vI 1, [])),
  (141, (.invokevirtual 91, 3, 2, vU, [16, 104])),
  (144, (.return_, 1, 0, vU, []))]
/-- PlannedTablesModel.wordAt.(I)I -/
def c_103 : List (Nat × EI) := [(0, (.iload_n 1, 1, 1, vU, [])),
  (1, (.aload_n 0, 1, 0, vU, [])),
  (2, (.getfield 82, 3, 256, vU, [])),
  (5, (.if_icmp .ge 12, 3, 17, vU, [])),
  (8, (.aload_n 0, 1, 0, vU, [])),
  (9, (.getfield 26, 3, 262, vU, [])),
  (12, (.iload_n 1, 1, 1, vU, [])),
  (13, (.iaload, 1, 0, vU, [])),
  (14, (.goto 4, 3, 18, vU, [])),
  (17, (.iconst 0, 1, 0, vI 0, [])),
  (18, (.ireturn, 1, 0, vU, []))]
/-- PlannedTablesModel.demand.(IZ)V -/
def c_104 : List (Nat × EI) := [(0, (.aload_n 0, 1, 0, vU, [])),
  (1, (.getfield 85, 3, 268, vU, [])),
  (4, (.ifCond .ge 35, 3, 39, vU, [])),
  (7, (.iload_n 1, 1, 1, vU, [])),
  (8, (.aload_n 0, 1, 0, vU, [])),
  (9, (.getfield 82, 3, 256, vU, [])),
  (12, (.if_icmp .ge 7, 3, 19, vU, [])),
  (15, (.iload_n 2, 1, 2, vU, [])),
  (16, (.ifCond .ne 23, 3, 39, vU, [])),
  (19, (.aload_n 0, 1, 0, vU, [])),
  (20, (.iload_n 1, 1, 1, vU, [])),
  (21, (.aload_n 0, 1, 0, vU, [])),
  (22, (.getfield 82, 3, 256, vU, [])),
  (25, (.if_icmp .lt 10, 3, 35, vU, [])),
  (28, (.aload_n 0, 1, 0, vU, [])),
  (29, (.getfield 82, 3, 256, vU, [])),
  (32, (.goto 4, 3, 36, vU, [])),
  (35, (.iload_n 1, 1, 1, vU, [])),
  (36, (.putfield 85, 3, 268, vU, [])),
  (39, (.return_, 1, 0, vU, []))]
/-- PlannedTablesModel.readStep.(II)I -/
def c_105 : List (Nat × EI) := [(0, (.iload_n 1, 1, 1, vU, [])),
  (1, (.tableswitch 166 3 9 #[43, 102, 108, 114, 114, 136, 143], 43, 167, vI 3, [44, 103, 109, 115, 115, 137, 144])),
  (44, (.aload_n 0, 1, 0, vU, [])),
  (45, (.iload_n 2, 1, 2, vU, [])),
  (46, (.aload_n 0, 1, 0, vU, [])),
  (47, (.aload_n 0, 1, 0, vU, [])),
  (48, (.iload_n 2, 1, 2, vU, [])),
  (49, (.invokevirtual 88, 3, 1, vU, [16, 103])),
  (52, (.invokevirtual 98, 3, 1, vU, [16, 106])),
  (55, (.invokevirtual 91, 3, 2, vU, [16, 104])),
  (58, (.aload_n 0, 1, 0, vU, [])),
  (59, (.iload_n 2, 1, 2, vU, [])),
  (60, (.iconst 1, 1, 0, vI 1, [])),
  (61, (.iadd, 1, 0, vU, [])),
  (62, (.aload_n 0, 1, 0, vU, [])),
  (63, (.iload_n 2, 1, 2, vU, [])),
  (64, (.iconst 1, 1, 0, vI 1, [])),
  (65, (.iadd, 1, 0, vU, [])),
  (66, (.invokevirtual 88, 3, 1, vU, [16, 103])),
  (69, (.ifCond .lt 18, 3, 87, vU, [])),
  (72, (.aload_n 0, 1, 0, vU, [])),
  (73, (.iload_n 2, 1, 2, vU, [])),
  (74, (.iconst 1, 1, 0, vI 1, [])),
  (75, (.iadd, 1, 0, vU, [])),
  (76, (.invokevirtual 88, 3, 1, vU, [16, 103])),
  (79, (.iconst 5, 1, 0, vI 5, [])),
  (80, (.if_icmp .gt 7, 3, 87, vU, [])),
  (83, (.iconst 1, 1, 0, vI 1, [])),
  (84, (.goto 4, 3, 88, vU, [])),
  (87, (.iconst 0, 1, 0, vI 0, [])),
  (88, (.invokevirtual 91, 3, 2, vU, [16, 104])),
  (91, (.aload_n 0, 1, 0, vU, [])),
  (92, (.iload_n 2, 1, 2, vU, [])),
  (93, (.iconst 2, 1, 0, vI 2, [])),
  (94, (.iadd, 1, 0, vU, [])),
  (95, (.iconst 1, 1, 0, vI 1, [])),
  (96, (.invokevirtual 91, 3, 2, vU, [16, 104])),
  (99, (.iload_n 2, 1, 2, vU, [])),
  (100, (.iconst 3, 1, 0, vI 3, [])),
  (101, (.iadd, 1, 0, vU, [])),
  (102, (.ireturn, 1, 0, vU, [])),
  (103, (.aload_n 0, 1, 0, vU, [])),
  (104, (.iload_n 2, 1, 2, vU, [])),
  (105, (.invokevirtual 101, 3, 1, vU, [16, 107])),
  (108, (.ireturn, 1, 0, vU, [])),
  (109, (.aload_n 0, 1, 0, vU, [])),
  (110, (.iload_n 2, 1, 2, vU, [])),
  (111, (.invokevirtual 104, 3, 1, vU, [16, 108])),
  (114, (.ireturn, 1, 0, vU, [])),
  (115, (.aload_n 0, 1, 0, vU, [])),
  (116, (.iload_n 2, 1, 2, vU, [])),
  (117, (.aload_n 0, 1, 0, vU, [])),
  (118, (.iload_n 2, 1, 2, vU, [])),
  (119, (.invokevirtual 88, 3, 1, vU, [16, 103])),
  (122, (.ifCond .lt 7, 3, 129, vU, [])),
  (125, (.iconst 1, 1, 0, vI 1, [])),
  (126, (.goto 4, 3, 130, vU, [])),
  (129, (.iconst 0, 1, 0, vI 0, [])),
  (130, (.invokevirtual 91, 3, 2, vU, [16, 104])),
  (133, (.iload_n 2, 1, 2, vU, [])),
  (134, (.iconst 1, 1, 0, vI 1, [])),
  (135, (.iadd, 1, 0, vU, [])),
  (136, (.ireturn, 1, 0, vU, [])),
  (137, (.aload_n 0, 1, 0, vU, [])),
  (138, (.iconst 1, 1, 0, vI 1, [])),
  (139, (.putfield 95, 3, 284, vU, [])),
  (142, (.iload_n 2, 1, 2, vU, [])),
  (143, (.ireturn, 1, 0, vU, [])),
  (144, (.aload_n 0, 1, 0, vU, [])),
  (145, (.iload_n 2, 1, 2, vU, [])),
  (146, (.aload_n 0, 1, 0, vU, [])),
  (147, (.aload_n 0, 1, 0, vU, [])),
  (148, (.iload_n 2, 1, 2, vU, [])),
  (149, (.invokevirtual 88, 3, 1, vU, [16, 103])),
  (152, (.invokevirtual 98, 3, 1, vU, [16, 106])),
  (155, (.invokevirtual 91, 3, 2, vU, [16, 104])),
  (158, (.aload_n 0, 1, 0, vU, [])),
  (159, (.iconst 1, 1, 0, vI 1, [])),
  (160, (.putfield 95, 3, 284, vU, [])),
  (163, (.iload_n 2, 1, 2, vU, [])),
  (164, (.iconst 1, 1, 0, vI 1, [])),
  (165, (.iadd, 1, 0, vU, [])),
  (166, (.ireturn, 1, 0, vU, [])),
  (167, (.aload_n 0, 1, 0, vU, [])),
  (168, (.iload_n 2, 1, 2, vU, [])),
  (169, (.aload_n 0, 1, 0, vU, [])),
  (170, (.aload_n 0, 1, 0, vU, [])),
  (171, (.iload_n 2, 1, 2, vU, [])),
  (172, (.invokevirtual 88, 3, 1, vU, [16, 103])),
  (175, (.invokevirtual 98, 3, 1, vU, [16, 106])),
  (178, (.invokevirtual 91, 3, 2, vU, [16, 104])),
  (181, (.aload_n 0, 1, 0, vU, [])),
  (182, (.iconst 2, 1, 0, vI 2, [])),
  (183, (.putfield 95, 3, 284, vU, [])),
  (186, (.iload_n 2, 1, 2, vU, [])),
  (187, (.iconst 1, 1, 0, vI 1, [])),
  (188, (.iadd, 1, 0, vU, [])),
  (189, (.ireturn, 1, 0, vU, []))]
/-- PlannedTablesModel.isCell.(I)Z -/
def c_106 : List (Nat × EI) := [(0, (.iload_n 1, 1, 1, vU, [])),
  (1, (.ifCond .lt 15, 3, 16, vU, [])),
  (4, (.iload_n 1, 1, 1, vU, [])),
  (5, (.aload_n 0, 1, 0, vU, [])),
  (6, (.getfield 95, 3, 284, vU, [])),
  (9, (.if_icmp .ge 7, 3, 16, vU, [])),
  (12, (.iconst 1, 1, 0, vI 1, [])),
  (13, (.goto 4, 3, 17, vU, [])),
  (16, (.iconst 0, 1, 0, vI 0, [])),
  (17, (.ireturn, 1, 0, vU, []))]
/-- PlannedTablesModel.readCells.(I)I -/
def c_107 : List (Nat × EI) := [(0, (.aload_n 0, 1, 0, vU, [])),
  (1, (.iload_n 1, 1, 1, vU, [])),
  (2, (.invokevirtual 88, 3, 1, vU, [16, 103])),
  (5, (.istore_n 2, 1, 2, vU, [])),
  (6, (.aload_n 0, 1, 0, vU, [])),
  (7, (.iload_n 1, 1, 1, vU, [])),
  (8, (.iload_n 2, 1, 2, vU, [])),
  (9, (.iconst 1, 1, 0, vI 1, [])),
  (10, (.if_icmp .lt 13, 3, 23, vU, [])),
  (13, (.iload_n 2, 1, 2, vU, [])),
  (14, (.bipush 8, 2, 0, vI 8, [])),
  (16, (.if_icmp .gt 7, 3, 23, vU, [])),
  (19, (.iconst 1, 1, 0, vI 1, [])),
  (20, (.goto 4, 3, 24, vU, [])),
  (23, (.iconst 0, 1, 0, vI 0, [])),
  (24, (.invokevirtual 91, 3, 2, vU, [16, 104])),
  (27, (.aload_n 0, 1, 0, vU, [])),
  (28, (.getfield 85, 3, 268, vU, [])),
  (31, (.ifCond .lt 5, 3, 36, vU, [])),
  (34, (.iload_n 1, 1, 1, vU, [])),
  (35, (.ireturn, 1, 0, vU, [])),
  (36, (.iconst 1, 1, 0, vI 1, [])),
  (37, (.istore_n 3, 1, 3, vU, [])),
  (38, (.iload_n 3, 1, 3, vU, [])),
  (39, (.iload_n 2, 1, 2, vU, [])),
  (40, (.if_icmp .gt 27, 3, 67, vU, [])),
  (43, (.aload_n 0, 1, 0, vU, [])),
  (44, (.iload_n 1, 1, 1, vU, [])),
  (45, (.iload_n 3, 1, 3, vU, [])),
  (46, (.iadd, 1, 0, vU, [])),
  (47, (.aload_n 0, 1, 0, vU, [])),
  (48, (.aload_n 0, 1, 0, vU, [])),
  (49, (.iload_n 1, 1, 1, vU, [])),
  (50, (.iload_n 3, 1, 3, vU, [])),
  (51, (.iadd, 1, 0, vU, [])),
  (52, (.invokevirtual 88, 3, 1, vU, [16, 103])),
  (55, (.invokevirtual 98, 3, 1, vU, [16, 106])),
  (58, (.invokevirtual 91, 3, 2, vU, [16, 104])),
  (61, (.iinc 3 1, 3, 3, vI 1, [])),
  (64, (.goto (-26), 3, 38, vU, [])),
  (67, (.aload_n 0, 1, 0, vU, [])),
  (68, (.iload_n 2, 1, 2, vU, [])),
  (69, (.putfield 95, 3, 284, vU, [])),
  (72, (.iload_n 1, 1, 1, vU, [])),
  (73, (.iload_n 2, 1, 2, vU, [])),
  (74, (.iadd, 1, 0, vU, [])),
  (75, (.iconst 1, 1, 0, vI 1, [])),
  (76, (.iadd, 1, 0, vU, [])),
  (77, (.ireturn, 1, 0, vU, []))]
/-- PlannedTablesModel.readJoin.(I)I -/
def c_108 : List (Nat × EI) := [(0, (.aload_n 0, 1, 0, vU, [])),
  (1, (.iload_n 1, 1, 1, vU, [])),
  (2, (.invokevirtual 88, 3, 1, vU, [16, 103])),
  (5, (.istore_n 2, 1, 2, vU, [])),
  (6, (.aload_n 0, 1, 0, vU, [])),
  (7, (.iload_n 1, 1, 1, vU, [])),
  (8, (.aload_n 0, 1, 0, vU, [])),
  (9, (.iload_n 2, 1, 2, vU, [])),
  (10, (.invokevirtual 63, 3, 1, vU, [16, 88])),
  (13, (.ifCond .eq 25, 3, 38, vU, [])),
  (16, (.aload_n 0, 1, 0, vU, [])),
  (17, (.getfield 95, 3, 284, vU, [])),
  (20, (.aload_n 0, 1, 0, vU, [])),
  (21, (.getfield 7, 3, 234, vU, [])),
  (24, (.iload_n 2, 1, 2, vU, [])),
  (25, (.iconst 3, 1, 0, vI 3, [])),
  (26, (.iand, 1, 0, vU, [])),
  (27, (.iaload, 1, 0, vU, [])),
  (28, (.iadd, 1, 0, vU, [])),
  (29, (.bipush 8, 2, 0, vI 8, [])),
  (31, (.if_icmp .gt 7, 3, 38, vU, [])),
  (34, (.iconst 1, 1, 0, vI 1, [])),
  (35, (.goto 4, 3, 39, vU, [])),
  (38, (.iconst 0, 1, 0, vI 0, [])),
  (39, (.invokevirtual 91, 3, 2, vU, [16, 104])),
  (42, (.aload_n 0, 1, 0, vU, [])),
  (43, (.getfield 85, 3, 268, vU, [])),
  (46, (.ifCond .lt 5, 3, 51, vU, [])),
  (49, (.iload_n 1, 1, 1, vU, [])),
  (50, (.ireturn, 1, 0, vU, [])),
  (51, (.aload_n 0, 1, 0, vU, [])),
  (52, (.iload_n 1, 1, 1, vU, [])),
  (53, (.iconst 1, 1, 0, vI 1, [])),
  (54, (.iadd, 1, 0, vU, [])),
  (55, (.invokevirtual 88, 3, 1, vU, [16, 103])),
  (58, (.istore_n 3, 1, 3, vU, [])),
  (59, (.aload_n 0, 1, 0, vU, [])),
  (60, (.iload_n 1, 1, 1, vU, [])),
  (61, (.iconst 1, 1, 0, vI 1, [])),
  (62, (.iadd, 1, 0, vU, [])),
  (63, (.aload_n 0, 1, 0, vU, [])),
  (64, (.iload_n 2, 1, 2, vU, [])),
  (65, (.iload_n 3, 1, 3, vU, [])),
  (66, (.invokevirtual 67, 3, 2, vU, [16, 89])),
  (69, (.ifCond .eq 22, 3, 91, vU, [])),
  (72, (.aload_n 0, 1, 0, vU, [])),
  (73, (.getfield 13, 3, 238, vU, [])),
  (76, (.iconst 4, 1, 0, vI 4, [])),
  (77, (.iload_n 2, 1, 2, vU, [])),
  (78, (.imul, 1, 0, vU, [])),
  (79, (.iload_n 3, 1, 3, vU, [])),
  (80, (.iconst 3, 1, 0, vI 3, [])),
  (81, (.iand, 1, 0, vU, [])),
  (82, (.iadd, 1, 0, vU, [])),
  (83, (.baload, 1, 0, vU, [])),
  (84, (.ifCond .eq 7, 3, 91, vU, [])),
  (87, (.iconst 1, 1, 0, vI 1, [])),
  (88, (.goto 4, 3, 92, vU, [])),
  (91, (.iconst 0, 1, 0, vI 0, [])),
  (92, (.invokevirtual 91, 3, 2, vU, [16, 104])),
  (95, (.aload_n 0, 1, 0, vU, [])),
  (96, (.iload_n 1, 1, 1, vU, [])),
  (97, (.iconst 2, 1, 0, vI 2, [])),
  (98, (.iadd, 1, 0, vU, [])),
  (99, (.aload_n 0, 1, 0, vU, [])),
  (100, (.aload_n 0, 1, 0, vU, [])),
  (101, (.iload_n 1, 1, 1, vU, [])),
  (102, (.iconst 2, 1, 0, vI 2, [])),
  (103, (.iadd, 1, 0, vU, [])),
  (104, (.invokevirtual 88, 3, 1, vU, [16, 103])),
  (107, (.invokevirtual 98, 3, 1, vU, [16, 106])),
  (110, (.invokevirtual 91, 3, 2, vU, [16, 104])),
  (113, (.aload_n 0, 1, 0, vU, [])),
  (114, (.aload_n 0, 1, 0, vU, [])),
  (115, (.getfield 95, 3, 284, vU, [])),
  (118, (.aload_n 0, 1, 0, vU, [])),
  (119, (.getfield 7, 3, 234, vU, [])),
  (122, (.iload_n 2, 1, 2, vU, [])),
  (123, (.iaload, 1, 0, vU, [])),
  (124, (.iadd, 1, 0, vU, [])),
  (125, (.putfield 95, 3, 284, vU, [])),
  (128, (.iload_n 1, 1, 1, vU, [])),
  (129, (.iconst 3, 1, 0, vI 3, [])),
  (130, (.iadd, 1, 0, vU, [])),
  (131, (.ireturn, 1, 0, vU, []))]
/-- PlannedTablesModel.width.()I -/
def c_109 : List (Nat × EI) := [(0, (.aload_n 0, 1, 0, vU, [])),
  (1, (.iconst 0, 1, 0, vI 0, [])),
  (2, (.putfield 56, 3, 224, vU, [])),
  (5, (.aload_n 0, 1, 0, vU, [])),
  (6, (.invokevirtual 116, 3, 0, vU, [16, 101])),
  (9, (.aload_n 0, 1, 0, vU, [])),
  (10, (.getfield 85, 3, 268, vU, [])),
  (13, (.ifCond .ge 10, 3, 23, vU, [])),
  (16, (.aload_n 0, 1, 0, vU, [])),
  (17, (.getfield 95, 3, 284, vU, [])),
  (20, (.goto 4, 3, 24, vU, [])),
  (23, (.iconst (-1), 1, 0, vI (-1), [])),
  (24, (.ireturn, 1, 0, vU, []))]
/-- PlannedTablesModel.run.(I)I -/
def c_110 : List (Nat × EI) := [(0, (.aload_n 0, 1, 0, vU, [])),
  (1, (.invokevirtual 116, 3, 0, vU, [16, 101])),
  (4, (.aload_n 0, 1, 0, vU, [])),
  (5, (.aload_n 0, 1, 0, vU, [])),
  (6, (.getfield 85, 3, 268, vU, [])),
  (9, (.ifCond .ge 7, 3, 16, vU, [])),
  (12, (.iload_n 1, 1, 1, vU, [])),
  (13, (.ifCond .ge 7, 3, 20, vU, [])),
  (16, (.iconst 1, 1, 0, vI 1, [])),
  (17, (.goto 4, 3, 21, vU, [])),
  (20, (.iconst 0, 1, 0, vI 0, [])),
  (21, (.putfield 56, 3, 224, vU, [])),
  (24, (.aload_n 0, 1, 0, vU, [])),
  (25, (.iconst 0, 1, 0, vI 0, [])),
  (26, (.putfield 159, 3, 344, vU, [])),
  (29, (.aload_n 0, 1, 0, vU, [])),
  (30, (.getfield 56, 3, 224, vU, [])),
  (33, (.ifCond .le 5, 3, 38, vU, [])),
  (36, (.iconst 0, 1, 0, vI 0, [])),
  (37, (.ireturn, 1, 0, vU, [])),
  (38, (.aload_n 0, 1, 0, vU, [])),
  (39, (.iload_n 1, 1, 1, vU, [])),
  (40, (.invokevirtual 198, 3, 1, vU, [16, 111])),
  (43, (.aload_n 0, 1, 0, vU, [])),
  (44, (.invokevirtual 201, 3, 0, vU, [16, 112])),
  (47, (.aload_n 0, 1, 0, vU, [])),
  (48, (.aload_n 0, 1, 0, vU, [])),
  (49, (.getfield 125, 3, 299, vU, [])),
  (52, (.ifCond .eq 7, 3, 59, vU, [])),
  (55, (.iconst 2, 1, 0, vI 2, [])),
  (56, (.goto 15, 3, 71, vU, [])),
  (59, (.aload_n 0, 1, 0, vU, [])),
  (60, (.getfield 162, 3, 303, vU, [])),
  (63, (.ifCond .eq 7, 3, 70, vU, [])),
  (66, (.iconst 3, 1, 0, vI 3, [])),
  (67, (.goto 4, 3, 71, vU, [])),
  (70, (.iconst 0, 1, 0, vI 0, [])),
  (71, (.putfield 56, 3, 224, vU, [])),
  (74, (.aload_n 0, 1, 0, vU, [])),
  (75, (.getfield 56, 3, 224, vU, [])),
  (78, (.ifCond .le 10, 3, 88, vU, [])),
  (81, (.aload_n 0, 1, 0, vU, [])),
  (82, (.iconst 0, 1, 0, vI 0, [])),
  (83, (.putfield 159, 3, 344, vU, [])),
  (86, (.iconst 0, 1, 0, vI 0, [])),
  (87, (.ireturn, 1, 0, vU, [])),
  (88, (.aload_n 0, 1, 0, vU, [])),
  (89, (.aload_n 0, 1, 0, vU, [])),
  (90, (.getfield 119, 3, 292, vU, [])),
  (93, (.putfield 204, 3, 340, vU, [])),
  (96, (.aload_n 0, 1, 0, vU, [])),
  (97, (.getfield 159, 3, 344, vU, [])),
  (100, (.aload_n 0, 1, 0, vU, [])),
  (101, (.getfield 95, 3, 284, vU, [])),
  (104, (.idiv, 1, 0, vU, [])),
  (105, (.ireturn, 1, 0, vU, []))]
/-- PlannedTablesModel.ready.(I)V -/
def c_111 : List (Nat × EI) := [(0, (.aload_n 0, 1, 0, vU, [])),
  (1, (.iload_n 1, 1, 1, vU, [])),
  (2, (.putfield 122, 3, 288, vU, [])),
  (5, (.aload_n 0, 1, 0, vU, [])),
  (6, (.iconst 0, 1, 0, vI 0, [])),
  (7, (.putfield 119, 3, 292, vU, [])),
  (10, (.aload_n 0, 1, 0, vU, [])),
  (11, (.iconst 0, 1, 0, vI 0, [])),
  (12, (.putfield 125, 3, 299, vU, [])),
  (15, (.aload_n 0, 1, 0, vU, [])),
  (16, (.iconst 0, 1, 0, vI 0, [])),
  (17, (.putfield 162, 3, 303, vU, [])),
  (20, (.aload_n 0, 1, 0, vU, [])),
  (21, (.iconst 0, 1, 0, vI 0, [])),
  (22, (.putfield 129, 3, 339, vU, [])),
  (25, (.aload_n 0, 1, 0, vU, [])),
  (26, (.iconst 0, 1, 0, vI 0, [])),
  (27, (.putfield 159, 3, 344, vU, [])),
  (30, (.iconst 0, 1, 0, vI 0, [])),
  (31, (.istore_n 2, 1, 2, vU, [])),
  (32, (.iload_n 2, 1, 2, vU, [])),
  (33, (.bipush 40, 2, 0, vI 40, [])),
  (35, (.if_icmp .ge 30, 3, 65, vU, [])),
  (38, (.aload_n 0, 1, 0, vU, [])),
  (39, (.getfield 41, 3, 314, vU, [])),
  (42, (.iload_n 2, 1, 2, vU, [])),
  (43, (.iconst 0, 1, 0, vI 0, [])),
  (44, (.iastore, 1, 0, vU, [])),
  (45, (.aload_n 0, 1, 0, vU, [])),
  (46, (.getfield 44, 3, 318, vU, [])),
  (49, (.iload_n 2, 1, 2, vU, [])),
  (50, (.iconst 0, 1, 0, vI 0, [])),
  (51, (.iastore, 1, 0, vU, [])),
  (52, (.aload_n 0, 1, 0, vU, [])),
  (53, (.getfield 47, 3, 322, vU, [])),
  (56, (.iload_n 2, 1, 2, vU, [])),
  (57, (.iconst 0, 1, 0, vI 0, [])),
  (58, (.bastore, 1, 0, vU, [])),
  (59, (.iinc 2 1, 3, 2, vI 1, [])),
  (62, (.goto (-30), 3, 32, vU, [])),
  (65, (.return_, 1, 0, vU, []))]
/-- PlannedTablesModel.go.()V -/
def c_112 : List (Nat × EI) := [(0, (.iconst (-1), 1, 0, vI (-1), [])),
  (1, (.istore_n 1, 1, 1, vU, [])),
  (2, (.iload_n 1, 1, 1, vU, [])),
  (3, (.aload_n 0, 1, 0, vU, [])),
  (4, (.getfield 107, 3, 264, vU, [])),
  (7, (.iconst 1, 1, 0, vI 1, [])),
  (8, (.isub, 1, 0, vU, [])),
  (9, (.if_icmp .ge 79, 3, 88, vU, [])),
  (12, (.aload_n 0, 1, 0, vU, [])),
  (13, (.getfield 125, 3, 299, vU, [])),
  (16, (.ifCond .ne 72, 3, 88, vU, [])),
  (19, (.aload_n 0, 1, 0, vU, [])),
  (20, (.getfield 162, 3, 303, vU, [])),
  (23, (.ifCond .ne 65, 3, 88, vU, [])),
  (26, (.aload_n 0, 1, 0, vU, [])),
  (27, (.iload_n 1, 1, 1, vU, [])),
  (28, (.invokevirtual 183, 3, 1, vU, [16, 113])),
  (31, (.istore_n 2, 1, 2, vU, [])),
  (32, (.aload_n 0, 1, 0, vU, [])),
  (33, (.iload_n 1, 1, 1, vU, [])),
  (34, (.invokevirtual 186, 3, 1, vU, [16, 114])),
  (37, (.istore_n 3, 1, 3, vU, [])),
  (38, (.iload_n 3, 1, 3, vU, [])),
  (39, (.iload_n 2, 1, 2, vU, [])),
  (40, (.if_icmp .le 8, 3, 48, vU, [])),
  (43, (.iload_n 3, 1, 3, vU, [])),
  (44, (.istore_n 1, 1, 1, vU, [])),
  (45, (.goto 40, 3, 85, vU, [])),
  (48, (.iload_n 2, 1, 2, vU, [])),
  (49, (.ifCond .lt 11, 3, 60, vU, [])),
  (52, (.aload_n 0, 1, 0, vU, [])),
  (53, (.iload_n 2, 1, 2, vU, [])),
  (54, (.invokevirtual 189, 3, 1, vU, [16, 115])),
  (57, (.goto 28, 3, 85, vU, [])),
  (60, (.iload_n 1, 1, 1, vU, [])),
  (61, (.ifCond .lt 15, 3, 76, vU, [])),
  (64, (.iload_n 1, 1, 1, vU, [])),
  (65, (.iconst 1, 1, 0, vI 1, [])),
  (66, (.iadd, 1, 0, vU, [])),
  (67, (.istore_n 1, 1, 1, vU, [])),
  (68, (.aload_n 0, 1, 0, vU, [])),
  (69, (.iload_n 1, 1, 1, vU, [])),
  (70, (.invokevirtual 192, 3, 1, vU, [16, 125])),
  (73, (.goto 12, 3, 85, vU, [])),
  (76, (.aload_n 0, 1, 0, vU, [])),
  (77, (.invokevirtual 195, 3, 0, vU, [16, 126])),
  (80, (.ifCond .ne 5, 3, 85, vU, [])),
  (83, (.iconst 0, 1, 0, vI 0, [])),
  (84, (.istore_n 1, 1, 1, vU, [])),
  (85, (.goto (-83), 3, 2, vU, [])),
  (88, (.return_, 1, 0, vU, []))]
/-- PlannedTablesModel.waiting.(I)I -/
def c_113 : List (Nat × EI) := [(0, (.iconst (-1), 1, 0, vI (-1), [])),
  (1, (.istore_n 2, 1, 2, vU, [])),
  (2, (.iload_n 1, 1, 1, vU, [])),
  (3, (.iconst 1, 1, 0, vI 1, [])),
  (4, (.iadd, 1, 0, vU, [])),
  (5, (.istore_n 3, 1, 3, vU, [])),
  (6, (.iload_n 3, 1, 3, vU, [])),
  (7, (.aload_n 0, 1, 0, vU, [])),
  (8, (.getfield 107, 3, 264, vU, [])),
  (11, (.if_icmp .ge 34, 3, 45, vU, [])),
  (14, (.aload_n 0, 1, 0, vU, [])),
  (15, (.getfield 29, 3, 274, vU, [])),
  (18, (.iload_n 3, 1, 3, vU, [])),
  (19, (.iaload, 1, 0, vU, [])),
  (20, (.iconst 5, 1, 0, vI 5, [])),
  (21, (.if_icmp .ne 16, 3, 37, vU, [])),
  (24, (.aload_n 0, 1, 0, vU, [])),
  (25, (.getfield 47, 3, 322, vU, [])),
  (28, (.iload_n 3, 1, 3, vU, [])),
  (29, (.baload, 1, 0, vU, [])),
  (30, (.ifCond .eq 7, 3, 37, vU, [])),
  (33, (.iload_n 3, 1, 3, vU, [])),
  (34, (.goto 4, 3, 38, vU, [])),
  (37, (.iload_n 2, 1, 2, vU, [])),
  (38, (.istore_n 2, 1, 2, vU, [])),
  (39, (.iinc 3 1, 3, 3, vI 1, [])),
  (42, (.goto (-36), 3, 6, vU, [])),
  (45, (.iload_n 2, 1, 2, vU, [])),
  (46, (.ireturn, 1, 0, vU, []))]
/-- PlannedTablesModel.satisfied.(I)I -/
def c_114 : List (Nat × EI) := [(0, (.iconst (-1), 1, 0, vI (-1), [])),
  (1, (.istore_n 2, 1, 2, vU, [])),
  (2, (.iload_n 1, 1, 1, vU, [])),
  (3, (.iconst 1, 1, 0, vI 1, [])),
  (4, (.iadd, 1, 0, vU, [])),
  (5, (.istore_n 3, 1, 3, vU, [])),
  (6, (.iload_n 3, 1, 3, vU, [])),
  (7, (.aload_n 0, 1, 0, vU, [])),
  (8, (.getfield 107, 3, 264, vU, [])),
  (11, (.if_icmp .ge 50, 3, 61, vU, [])),
  (14, (.iload_n 3, 1, 3, vU, [])),
  (15, (.ifCond .le 38, 3, 53, vU, [])),
  (18, (.aload_n 0, 1, 0, vU, [])),
  (19, (.getfield 29, 3, 274, vU, [])),
  (22, (.iload_n 3, 1, 3, vU, [])),
  (23, (.iaload, 1, 0, vU, [])),
  (24, (.bipush 7, 2, 0, vI 7, [])),
  (26, (.if_icmp .ne 27, 3, 53, vU, [])),
  (29, (.aload_n 0, 1, 0, vU, [])),
  (30, (.getfield 41, 3, 314, vU, [])),
  (33, (.iload_n 3, 1, 3, vU, [])),
  (34, (.iaload, 1, 0, vU, [])),
  (35, (.aload_n 0, 1, 0, vU, [])),
  (36, (.getfield 26, 3, 262, vU, [])),
  (39, (.aload_n 0, 1, 0, vU, [])),
  (40, (.getfield 32, 3, 278, vU, [])),
  (43, (.iload_n 3, 1, 3, vU, [])),
  (44, (.iaload, 1, 0, vU, [])),
  (45, (.iaload, 1, 0, vU, [])),
  (46, (.if_icmp .ne 7, 3, 53, vU, [])),
  (49, (.iload_n 3, 1, 3, vU, [])),
  (50, (.goto 4, 3, 54, vU, [])),
  (53, (.iload_n 2, 1, 2, vU, [])),
  (54, (.istore_n 2, 1, 2, vU, [])),
  (55, (.iinc 3 1, 3, 3, vI 1, [])),
  (58, (.goto (-52), 3, 6, vU, [])),
  (61, (.iload_n 2, 1, 2, vU, [])),
  (62, (.ireturn, 1, 0, vU, []))]
/-- PlannedTablesModel.follow.(I)V -/
def c_115 : List (Nat × EI) := [(0, (.aload_n 0, 1, 0, vU, [])),
  (1, (.iload_n 1, 1, 1, vU, [])),
  (2, (.invokevirtual 168, 3, 1, vU, [16, 116])),
  (5, (.istore_n 2, 1, 2, vU, [])),
  (6, (.iload_n 2, 1, 2, vU, [])),
  (7, (.ifCond .ge 13, 3, 20, vU, [])),
  (10, (.aload_n 0, 1, 0, vU, [])),
  (11, (.getfield 47, 3, 322, vU, [])),
  (14, (.iload_n 1, 1, 1, vU, [])),
  (15, (.iconst 0, 1, 0, vI 0, [])),
  (16, (.bastore, 1, 0, vU, [])),
  (17, (.goto 79, 3, 96, vU, [])),
  (20, (.aload_n 0, 1, 0, vU, [])),
  (21, (.invokevirtual 171, 3, 0, vU, [16, 117])),
  (24, (.ifCond .eq 72, 3, 96, vU, [])),
  (27, (.iconst 0, 1, 0, vI 0, [])),
  (28, (.istore_n 3, 1, 3, vU, [])),
  (29, (.iload_n 3, 1, 3, vU, [])),
  (30, (.aload_n 0, 1, 0, vU, [])),
  (31, (.getfield 35, 3, 282, vU, [])),
  (34, (.iload_n 1, 1, 1, vU, [])),
  (35, (.iaload, 1, 0, vU, [])),
  (36, (.if_icmp .ge 26, 3, 62, vU, [])),
  (39, (.aload_n 0, 1, 0, vU, [])),
  (40, (.getfield 38, 3, 310, vU, [])),
  (43, (.iload_n 3, 1, 3, vU, [])),
  (44, (.aload_n 0, 1, 0, vU, [])),
  (45, (.getfield 50, 3, 326, vU, [])),
  (48, (.bipush 8, 2, 0, vI 8, [])),
  (50, (.iload_n 1, 1, 1, vU, [])),
  (51, (.imul, 1, 0, vU, [])),
  (52, (.iload_n 3, 1, 3, vU, [])),
  (53, (.iadd, 1, 0, vU, [])),
  (54, (.iaload, 1, 0, vU, [])),
  (55, (.iastore, 1, 0, vU, [])),
  (56, (.iinc 3 1, 3, 3, vI 1, [])),
  (59, (.goto (-30), 3, 29, vU, [])),
  (62, (.aload_n 0, 1, 0, vU, [])),
  (63, (.iload_n 2, 1, 2, vU, [])),
  (64, (.aload_n 0, 1, 0, vU, [])),
  (65, (.getfield 35, 3, 282, vU, [])),
  (68, (.iload_n 1, 1, 1, vU, [])),
  (69, (.iaload, 1, 0, vU, [])),
  (70, (.aload_n 0, 1, 0, vU, [])),
  (71, (.getfield 7, 3, 234, vU, [])),
  (74, (.aload_n 0, 1, 0, vU, [])),
  (75, (.getfield 26, 3, 262, vU, [])),
  (78, (.aload_n 0, 1, 0, vU, [])),
  (79, (.getfield 32, 3, 278, vU, [])),
  (82, (.iload_n 1, 1, 1, vU, [])),
  (83, (.iaload, 1, 0, vU, [])),
  (84, (.iaload, 1, 0, vU, [])),
  (85, (.iaload, 1, 0, vU, [])),
  (86, (.invokevirtual 175, 3, 3, vU, [16, 118])),
  (89, (.aload_n 0, 1, 0, vU, [])),
  (90, (.iload_n 1, 1, 1, vU, [])),
  (91, (.iconst 1, 1, 0, vI 1, [])),
  (92, (.iadd, 1, 0, vU, [])),
  (93, (.invokevirtual 165, 3, 1, vU, [16, 119])),
  (96, (.return_, 1, 0, vU, []))]
/-- PlannedTablesModel.nextOfStep.(I)I -/
def c_116 : List (Nat × EI) := [(0, (.aload_n 0, 1, 0, vU, [])),
  (1, (.getfield 26, 3, 262, vU, [])),
  (4, (.aload_n 0, 1, 0, vU, [])),
  (5, (.getfield 32, 3, 278, vU, [])),
  (8, (.iload_n 1, 1, 1, vU, [])),
  (9, (.iaload, 1, 0, vU, [])),
  (10, (.iaload, 1, 0, vU, [])),
  (11, (.istore_n 2, 1, 2, vU, [])),
  (12, (.aload_n 0, 1, 0, vU, [])),
  (13, (.getfield 26, 3, 262, vU, [])),
  (16, (.aload_n 0, 1, 0, vU, [])),
  (17, (.getfield 32, 3, 278, vU, [])),
  (20, (.iload_n 1, 1, 1, vU, [])),
  (21, (.iaload, 1, 0, vU, [])),
  (22, (.iconst 1, 1, 0, vI 1, [])),
  (23, (.iadd, 1, 0, vU, [])),
  (24, (.iaload, 1, 0, vU, [])),
  (25, (.istore_n 3, 1, 3, vU, [])),
  (26, (.aload_n 0, 1, 0, vU, [])),
  (27, (.getfield 50, 3, 326, vU, [])),
  (30, (.bipush 8, 2, 0, vI 8, [])),
  (32, (.iload_n 1, 1, 1, vU, [])),
  (33, (.imul, 1, 0, vU, [])),
  (34, (.aload_n 0, 1, 0, vU, [])),
  (35, (.getfield 26, 3, 262, vU, [])),
  (38, (.aload_n 0, 1, 0, vU, [])),
  (39, (.getfield 32, 3, 278, vU, [])),
  (42, (.iload_n 1, 1, 1, vU, [])),
  (43, (.iaload, 1, 0, vU, [])),
  (44, (.iconst 2, 1, 0, vI 2, [])),
  (45, (.iadd, 1, 0, vU, [])),
  (46, (.iaload, 1, 0, vU, [])),
  (47, (.iadd, 1, 0, vU, [])),
  (48, (.iaload, 1, 0, vU, [])),
  (49, (.istore 4, 2, 4, vU, [])),
  (51, (.iconst (-1), 1, 0, vI (-1), [])),
  (52, (.istore 5, 2, 5, vU, [])),
  (54, (.iconst 0, 1, 0, vI 0, [])),
  (55, (.istore 6, 2, 6, vU, [])),
  (57, (.iload 6, 2, 6, vU, [])),
  (59, (.aload_n 0, 1, 0, vU, [])),
  (60, (.getfield 71, 3, 244, vU, [])),
  (63, (.if_icmp .ge 107, 3, 170, vU, [])),
  (66, (.aload_n 0, 1, 0, vU, [])),
  (67, (.getfield 23, 3, 254, vU, [])),
  (70, (.iconst 4, 1, 0, vI 4, [])),
  (71, (.iload 6, 2, 6, vU, [])),
  (73, (.imul, 1, 0, vU, [])),
  (74, (.iaload, 1, 0, vU, [])),
  (75, (.istore 7, 2, 7, vU, [])),
  (77, (.aload_n 0, 1, 0, vU, [])),
  (78, (.getfield 20, 3, 250, vU, [])),
  (81, (.iload 6, 2, 6, vU, [])),
  (83, (.iaload, 1, 0, vU, [])),
  (84, (.iload_n 2, 1, 2, vU, [])),
  (85, (.if_icmp .ne 43, 3, 128, vU, [])),
  (88, (.aload_n 0, 1, 0, vU, [])),
  (89, (.getfield 23, 3, 254, vU, [])),
  (92, (.iconst 4, 1, 0, vI 4, [])),
  (93, (.iload 6, 2, 6, vU, [])),
  (95, (.imul, 1, 0, vU, [])),
  (96, (.iload_n 3, 1, 3, vU, [])),
  (97, (.iadd, 1, 0, vU, [])),
  (98, (.iaload, 1, 0, vU, [])),
  (99, (.iload 4, 2, 4, vU, [])),
  (101, (.if_icmp .ne 27, 3, 128, vU, [])),
  (104, (.aload_n 0, 1, 0, vU, [])),
  (105, (.getfield 41, 3, 314, vU, [])),
  (108, (.iload_n 1, 1, 1, vU, [])),
  (109, (.iaload, 1, 0, vU, [])),
  (110, (.ifCond .eq 14, 3, 124, vU, [])),
  (113, (.iload 7, 2, 7, vU, [])),
  (115, (.aload_n 0, 1, 0, vU, [])),
  (116, (.getfield 44, 3, 318, vU, [])),
  (119, (.iload_n 1, 1, 1, vU, [])),
  (120, (.iaload, 1, 0, vU, [])),
  (121, (.if_icmp .le 7, 3, 128, vU, [])),
  (124, (.iconst 1, 1, 0, vI 1, [])),
  (125, (.goto 4, 3, 129, vU, [])),
  (128, (.iconst 0, 1, 0, vI 0, [])),
  (129, (.istore 8, 2, 8, vU, [])),
  (131, (.iload 8, 2, 8, vU, [])),
  (133, (.ifCond .eq 27, 3, 160, vU, [])),
  (136, (.iload 5, 2, 5, vU, [])),
  (138, (.ifCond .lt 17, 3, 155, vU, [])),
  (141, (.iload 7, 2, 7, vU, [])),
  (143, (.aload_n 0, 1, 0, vU, [])),
  (144, (.getfield 23, 3, 254, vU, [])),
  (147, (.iconst 4, 1, 0, vI 4, [])),
  (148, (.iload 5, 2, 5, vU, [])),
  (150, (.imul, 1, 0, vU, [])),
  (151, (.iaload, 1, 0, vU, [])),
  (152, (.if_icmp .ge 8, 3, 160, vU, [])),
  (155, (.iload 6, 2, 6, vU, [])),
  (157, (.goto 5, 3, 162, vU, [])),
  (160, (.iload 5, 2, 5, vU, [])),
  (162, (.istore 5, 2, 5, vU, [])),
  (164, (.iinc 6 1, 3, 6, vI 1, [])),
  (167, (.goto (-110), 3, 57, vU, [])),
  (170, (.iload 5, 2, 5, vU, [])),
  (172, (.ifCond .lt 25, 3, 197, vU, [])),
  (175, (.aload_n 0, 1, 0, vU, [])),
  (176, (.getfield 44, 3, 318, vU, [])),
  (179, (.iload_n 1, 1, 1, vU, [])),
  (180, (.aload_n 0, 1, 0, vU, [])),
  (181, (.getfield 23, 3, 254, vU, [])),
  (184, (.iconst 4, 1, 0, vI 4, [])),
  (185, (.iload 5, 2, 5, vU, [])),
  (187, (.imul, 1, 0, vU, [])),
  (188, (.iaload, 1, 0, vU, [])),
  (189, (.iastore, 1, 0, vU, [])),
  (190, (.aload_n 0, 1, 0, vU, [])),
  (191, (.getfield 41, 3, 314, vU, [])),
  (194, (.iload_n 1, 1, 1, vU, [])),
  (195, (.iconst 1, 1, 0, vI 1, [])),
  (196, (.iastore, 1, 0, vU, [])),
  (197, (.iload 5, 2, 5, vU, [])),
  (199, (.ireturn, 1, 0, vU, []))]
/-- PlannedTablesModel.visit.()Z -/
def c_117 : List (Nat × EI) := [(0, (.aload_n 0, 1, 0, vU, [])),
  (1, (.aload_n 0, 1, 0, vU, [])),
  (2, (.getfield 119, 3, 292, vU, [])),
  (5, (.aload_n 0, 1, 0, vU, [])),
  (6, (.getfield 122, 3, 288, vU, [])),
  (9, (.if_icmp .ne 7, 3, 16, vU, [])),
  (12, (.iconst 1, 1, 0, vI 1, [])),
  (13, (.goto 4, 3, 17, vU, [])),
  (16, (.iconst 0, 1, 0, vI 0, [])),
  (17, (.putfield 125, 3, 299, vU, [])),
  (20, (.aload_n 0, 1, 0, vU, [])),
  (21, (.aload_n 0, 1, 0, vU, [])),
  (22, (.getfield 125, 3, 299, vU, [])),
  (25, (.ifCond .eq 10, 3, 35, vU, [])),
  (28, (.aload_n 0, 1, 0, vU, [])),
  (29, (.getfield 119, 3, 292, vU, [])),
  (32, (.goto 9, 3, 41, vU, [])),
  (35, (.aload_n 0, 1, 0, vU, [])),
  (36, (.getfield 119, 3, 292, vU, [])),
  (39, (.iconst 1, 1, 0, vI 1, [])),
  (40, (.iadd, 1, 0, vU, [])),
  (41, (.putfield 119, 3, 292, vU, [])),
  (44, (.aload_n 0, 1, 0, vU, [])),
  (45, (.getfield 125, 3, 299, vU, [])),
  (48, (.ifCond .ne 7, 3, 55, vU, [])),
  (51, (.iconst 1, 1, 0, vI 1, [])),
  (52, (.goto 4, 3, 56, vU, [])),
  (55, (.iconst 0, 1, 0, vI 0, [])),
  (56, (.ireturn, 1, 0, vU, []))]
/-- PlannedTablesModel.load.(III)V -/
def c_118 : List (Nat × EI) := [(0, (.iconst 0, 1, 0, vI 0, [])),
  (1, (.istore 4, 2, 4, vU, [])),
  (3, (.iload 4, 2, 4, vU, [])),
  (5, (.iload_n 3, 1, 3, vU, [])),
  (6, (.if_icmp .ge 29, 3, 35, vU, [])),
  (9, (.aload_n 0, 1, 0, vU, [])),
  (10, (.getfield 38, 3, 310, vU, [])),
  (13, (.iload_n 2, 1, 2, vU, [])),
  (14, (.iload 4, 2, 4, vU, [])),
  (16, (.iadd, 1, 0, vU, [])),
  (17, (.aload_n 0, 1, 0, vU, [])),
  (18, (.getfield 23, 3, 254, vU, [])),
  (21, (.iconst 4, 1, 0, vI 4, [])),
  (22, (.iload_n 1, 1, 1, vU, [])),
  (23, (.imul, 1, 0, vU, [])),
  (24, (.iload 4, 2, 4, vU, [])),
  (26, (.iadd, 1, 0, vU, [])),
  (27, (.iaload, 1, 0, vU, [])),
  (28, (.iastore, 1, 0, vU, [])),
  (29, (.iinc 4 1, 3, 4, vI 1, [])),
  (32, (.goto (-29), 3, 3, vU, [])),
  (35, (.aload_n 0, 1, 0, vU, [])),
  (36, (.iload_n 2, 1, 2, vU, [])),
  (37, (.iload_n 3, 1, 3, vU, [])),
  (38, (.iadd, 1, 0, vU, [])),
  (39, (.putfield 138, 3, 304, vU, [])),
  (42, (.return_, 1, 0, vU, []))]
/-- PlannedTablesModel.push.(I)V -/
def c_119 : List (Nat × EI) := [(0, (.iload_n 1, 1, 1, vU, [])),
  (1, (.istore_n 2, 1, 2, vU, [])),
  (2, (.iload_n 2, 1, 2, vU, [])),
  (3, (.aload_n 0, 1, 0, vU, [])),
  (4, (.getfield 107, 3, 264, vU, [])),
  (7, (.if_icmp .ge 18, 3, 25, vU, [])),
  (10, (.aload_n 0, 1, 0, vU, [])),
  (11, (.iload_n 2, 1, 2, vU, [])),
  (12, (.invokevirtual 156, 3, 1, vU, [16, 120])),
  (15, (.ifCond .eq 10, 3, 25, vU, [])),
  (18, (.iload_n 2, 1, 2, vU, [])),
  (19, (.iconst 1, 1, 0, vI 1, [])),
  (20, (.iadd, 1, 0, vU, [])),
  (21, (.istore_n 2, 1, 2, vU, [])),
  (22, (.goto (-20), 3, 2, vU, [])),
  (25, (.iload_n 2, 1, 2, vU, [])),
  (26, (.aload_n 0, 1, 0, vU, [])),
  (27, (.getfield 107, 3, 264, vU, [])),
  (30, (.if_icmp .ge 4, 3, 34, vU, [])),
  (33, (.return_, 1, 0, vU, [])),
  (34, (.aload_n 0, 1, 0, vU, [])),
  (35, (.aload_n 0, 1, 0, vU, [])),
  (36, (.getfield 159, 3, 344, vU, [])),
  (39, (.aload_n 0, 1, 0, vU, [])),
  (40, (.getfield 138, 3, 304, vU, [])),
  (43, (.iadd, 1, 0, vU, [])),
  (44, (.bipush 64, 2, 0, vI 64, [])),
  (46, (.if_icmp .le 7, 3, 53, vU, [])),
  (49, (.iconst 1, 1, 0, vI 1, [])),
  (50, (.goto 4, 3, 54, vU, [])),
  (53, (.iconst 0, 1, 0, vI 0, [])),
  (54, (.putfield 162, 3, 303, vU, [])),
  (57, (.iconst 0, 1, 0, vI 0, [])),
  (58, (.istore_n 3, 1, 3, vU, [])),
  (59, (.iload_n 3, 1, 3, vU, [])),
  (60, (.aload_n 0, 1, 0, vU, [])),
  (61, (.getfield 138, 3, 304, vU, [])),
  (64, (.if_icmp .ge 33, 3, 97, vU, [])),
  (67, (.aload_n 0, 1, 0, vU, [])),
  (68, (.getfield 162, 3, 303, vU, [])),
  (71, (.ifCond .ne 26, 3, 97, vU, [])),
  (74, (.aload_n 0, 1, 0, vU, [])),
  (75, (.getfield 53, 3, 350, vU, [])),
  (78, (.aload_n 0, 1, 0, vU, [])),
  (79, (.getfield 159, 3, 344, vU, [])),
  (82, (.iload_n 3, 1, 3, vU, [])),
  (83, (.iadd, 1, 0, vU, [])),
  (84, (.aload_n 0, 1, 0, vU, [])),
  (85, (.getfield 38, 3, 310, vU, [])),
  (88, (.iload_n 3, 1, 3, vU, [])),
  (89, (.iaload, 1, 0, vU, [])),
  (90, (.iastore, 1, 0, vU, [])),
  (91, (.iinc 3 1, 3, 3, vI 1, [])),
  (94, (.goto (-35), 3, 59, vU, [])),
  (97, (.aload_n 0, 1, 0, vU, [])),
  (98, (.aload_n 0, 1, 0, vU, [])),
  (99, (.getfield 162, 3, 303, vU, [])),
  (102, (.ifCond .eq 10, 3, 112, vU, [])),
  (105, (.aload_n 0, 1, 0, vU, [])),
  (106, (.getfield 159, 3, 344, vU, [])),
  (109, (.goto 12, 3, 121, vU, [])),
  (112, (.aload_n 0, 1, 0, vU, [])),
  (113, (.getfield 159, 3, 344, vU, [])),
  (116, (.aload_n 0, 1, 0, vU, [])),
  (117, (.getfield 138, 3, 304, vU, [])),
  (120, (.iadd, 1, 0, vU, [])),
  (121, (.putfield 159, 3, 344, vU, [])),
  (124, (.return_, 1, 0, vU, []))]
/-- PlannedTablesModel.goesOn.(I)Z -/
def c_120 : List (Nat × EI) := [(0, (.aload_n 0, 1, 0, vU, [])),
  (1, (.getfield 29, 3, 274, vU, [])),
  (4, (.iload_n 1, 1, 1, vU, [])),
  (5, (.iaload, 1, 0, vU, [])),
  (6, (.tableswitch 234 3 9 #[42, 88, 95, 108, 171, 187, 203], 42, 240, vI 3, [48, 94, 101, 114, 177, 193, 209])),
  (48, (.aload_n 0, 1, 0, vU, [])),
  (49, (.getfield 26, 3, 262, vU, [])),
  (52, (.aload_n 0, 1, 0, vU, [])),
  (53, (.getfield 32, 3, 278, vU, [])),
  (56, (.iload_n 1, 1, 1, vU, [])),
  (57, (.iaload, 1, 0, vU, [])),
  (58, (.iconst 1, 1, 0, vI 1, [])),
  (59, (.iadd, 1, 0, vU, [])),
  (60, (.iaload, 1, 0, vU, [])),
  (61, (.aload_n 0, 1, 0, vU, [])),
  (62, (.getfield 38, 3, 310, vU, [])),
  (65, (.aload_n 0, 1, 0, vU, [])),
  (66, (.getfield 26, 3, 262, vU, [])),
  (69, (.aload_n 0, 1, 0, vU, [])),
  (70, (.getfield 32, 3, 278, vU, [])),
  (73, (.iload_n 1, 1, 1, vU, [])),
  (74, (.iaload, 1, 0, vU, [])),
  (75, (.iaload, 1, 0, vU, [])),
  (76, (.iaload, 1, 0, vU, [])),
  (77, (.aload_n 0, 1, 0, vU, [])),
  (78, (.getfield 26, 3, 262, vU, [])),
  (81, (.aload_n 0, 1, 0, vU, [])),
  (82, (.getfield 32, 3, 278, vU, [])),
  (85, (.iload_n 1, 1, 1, vU, [])),
  (86, (.iaload, 1, 0, vU, [])),
  (87, (.iconst 2, 1, 0, vI 2, [])),
  (88, (.iadd, 1, 0, vU, [])),
  (89, (.iaload, 1, 0, vU, [])),
  (90, (.invokestatic 141, 3, 3, vU, [121])),
  (93, (.ireturn, 1, 0, vU, [])),
  (94, (.aload_n 0, 1, 0, vU, [])),
  (95, (.iload_n 1, 1, 1, vU, [])),
  (96, (.invokevirtual 145, 3, 1, vU, [16, 122])),
  (99, (.iconst 1, 1, 0, vI 1, [])),
  (100, (.ireturn, 1, 0, vU, [])),
  (101, (.aload_n 0, 1, 0, vU, [])),
  (102, (.iload_n 1, 1, 1, vU, [])),
  (103, (.aload_n 0, 1, 0, vU, [])),
  (104, (.getfield 35, 3, 282, vU, [])),
  (107, (.iload_n 1, 1, 1, vU, [])),
  (108, (.iaload, 1, 0, vU, [])),
  (109, (.invokevirtual 149, 3, 2, vU, [16, 123])),
  (112, (.iconst 0, 1, 0, vI 0, [])),
  (113, (.ireturn, 1, 0, vU, [])),
  (114, (.aload_n 0, 1, 0, vU, [])),
  (115, (.getfield 41, 3, 314, vU, [])),
  (118, (.iload_n 1, 1, 1, vU, [])),
  (119, (.iaload, 1, 0, vU, [])),
  (120, (.aload_n 0, 1, 0, vU, [])),
  (121, (.getfield 26, 3, 262, vU, [])),
  (124, (.aload_n 0, 1, 0, vU, [])),
  (125, (.getfield 32, 3, 278, vU, [])),
  (128, (.iload_n 1, 1, 1, vU, [])),
  (129, (.iaload, 1, 0, vU, [])),
  (130, (.iaload, 1, 0, vU, [])),
  (131, (.if_icmp .ge 7, 3, 138, vU, [])),
  (134, (.iconst 1, 1, 0, vI 1, [])),
  (135, (.goto 4, 3, 139, vU, [])),
  (138, (.iconst 0, 1, 0, vI 0, [])),
  (139, (.istore_n 2, 1, 2, vU, [])),
  (140, (.aload_n 0, 1, 0, vU, [])),
  (141, (.getfield 41, 3, 314, vU, [])),
  (144, (.iload_n 1, 1, 1, vU, [])),
  (145, (.iload_n 2, 1, 2, vU, [])),
  (146, (.ifCond .eq 14, 3, 160, vU, [])),
  (149, (.aload_n 0, 1, 0, vU, [])),
  (150, (.getfield 41, 3, 314, vU, [])),
  (153, (.iload_n 1, 1, 1, vU, [])),
  (154, (.iaload, 1, 0, vU, [])),
  (155, (.iconst 1, 1, 0, vI 1, [])),
  (156, (.iadd, 1, 0, vU, [])),
  (157, (.goto 9, 3, 166, vU, [])),
  (160, (.aload_n 0, 1, 0, vU, [])),
  (161, (.getfield 41, 3, 314, vU, [])),
  (164, (.iload_n 1, 1, 1, vU, [])),
  (165, (.iaload, 1, 0, vU, [])),
  (166, (.iastore, 1, 0, vU, [])),
  (167, (.iload_n 2, 1, 2, vU, [])),
  (168, (.ifCond .ne 7, 3, 175, vU, [])),
  (171, (.iconst 1, 1, 0, vI 1, [])),
  (172, (.goto 4, 3, 176, vU, [])),
  (175, (.iconst 0, 1, 0, vI 0, [])),
  (176, (.ireturn, 1, 0, vU, [])),
  (177, (.aload_n 0, 1, 0, vU, [])),
  (178, (.getfield 41, 3, 314, vU, [])),
  (181, (.iload_n 1, 1, 1, vU, [])),
  (182, (.aload_n 0, 1, 0, vU, [])),
  (183, (.getfield 41, 3, 314, vU, [])),
  (186, (.iload_n 1, 1, 1, vU, [])),
  (187, (.iaload, 1, 0, vU, [])),
  (188, (.iconst 1, 1, 0, vI 1, [])),
  (189, (.iadd, 1, 0, vU, [])),
  (190, (.iastore, 1, 0, vU, [])),
  (191, (.iconst 1, 1, 0, vI 1, [])),
  (192, (.ireturn, 1, 0, vU, [])),
  (193, (.aload_n 0, 1, 0, vU, [])),
  (194, (.getfield 41, 3, 314, vU, [])),
  (197, (.iload_n 1, 1, 1, vU, [])),
  (198, (.aload_n 0, 1, 0, vU, [])),
  (199, (.getfield 41, 3, 314, vU, [])),
  (202, (.iload_n 1, 1, 1, vU, [])),
  (203, (.iaload, 1, 0, vU, [])),
  (204, (.iconst 1, 1, 0, vI 1, [])),
  (205, (.iadd, 1, 0, vU, [])),
  (206, (.iastore, 1, 0, vU, [])),
  (207, (.iconst 0, 1, 0, vI 0, [])),
  (208, (.ireturn, 1, 0, vU, [])),
  (209, (.aload_n 0, 1, 0, vU, [])),
  (210, (.getfield 41, 3, 314, vU, [])),
  (213, (.iload_n 1, 1, 1, vU, [])),
  (214, (.aload_n 0, 1, 0, vU, [])),
  (215, (.getfield 41, 3, 314, vU, [])),
  (218, (.iload_n 1, 1, 1, vU, [])),
  (219, (.iaload, 1, 0, vU, [])),
  (220, (.aload_n 0, 1, 0, vU, [])),
  (221, (.getfield 38, 3, 310, vU, [])),
  (224, (.aload_n 0, 1, 0, vU, [])),
  (225, (.getfield 26, 3, 262, vU, [])),
  (228, (.aload_n 0, 1, 0, vU, [])),
  (229, (.getfield 32, 3, 278, vU, [])),
  (232, (.iload_n 1, 1, 1, vU, [])),
  (233, (.iaload, 1, 0, vU, [])),
  (234, (.iaload, 1, 0, vU, [])),
  (235, (.iaload, 1, 0, vU, [])),
  (236, (.iadd, 1, 0, vU, [])),
  (237, (.iastore, 1, 0, vU, [])),
  (238, (.iconst 0, 1, 0, vI 0, [])),
  (239, (.ireturn, 1, 0, vU, [])),
  (240, (.aload_n 0, 1, 0, vU, [])),
  (241, (.iload_n 1, 1, 1, vU, [])),
  (242, (.invokevirtual 153, 3, 1, vU, [16, 124])),
  (245, (.ireturn, 1, 0, vU, []))]
/-- PlannedTablesModel.passes.(III)Z -/
def c_121 : List (Nat × EI) := [(0, (.iload_n 0, 1, 0, vU, [])),
  (1, (.tableswitch 90 0 4 #[35, 46, 57, 68, 79], 35, 91, vI 0, [36, 47, 58, 69, 80])),
  (36, (.iload_n 1, 1, 1, vU, [])),
  (37, (.iload_n 2, 1, 2, vU, [])),
  (38, (.if_icmp .ge 7, 3, 45, vU, [])),
  (41, (.iconst 1, 1, 0, vI 1, [])),
  (42, (.goto 4, 3, 46, vU, [])),
  (45, (.iconst 0, 1, 0, vI 0, [])),
  (46, (.ireturn, 1, 0, vU, [])),
  (47, (.iload_n 1, 1, 1, vU, [])),
  (48, (.iload_n 2, 1, 2, vU, [])),
  (49, (.if_icmp .gt 7, 3, 56, vU, [])),
  (52, (.iconst 1, 1, 0, vI 1, [])),
  (53, (.goto 4, 3, 57, vU, [])),
  (56, (.iconst 0, 1, 0, vI 0, [])),
  (57, (.ireturn, 1, 0, vU, [])),
  (58, (.iload_n 1, 1, 1, vU, [])),
  (59, (.iload_n 2, 1, 2, vU, [])),
  (60, (.if_icmp .ne 7, 3, 67, vU, [])),
  (63, (.iconst 1, 1, 0, vI 1, [])),
  (64, (.goto 4, 3, 68, vU, [])),
  (67, (.iconst 0, 1, 0, vI 0, [])),
  (68, (.ireturn, 1, 0, vU, [])),
  (69, (.iload_n 1, 1, 1, vU, [])),
  (70, (.iload_n 2, 1, 2, vU, [])),
  (71, (.if_icmp .eq 7, 3, 78, vU, [])),
  (74, (.iconst 1, 1, 0, vI 1, [])),
  (75, (.goto 4, 3, 79, vU, [])),
  (78, (.iconst 0, 1, 0, vI 0, [])),
  (79, (.ireturn, 1, 0, vU, [])),
  (80, (.iload_n 1, 1, 1, vU, [])),
  (81, (.iload_n 2, 1, 2, vU, [])),
  (82, (.if_icmp .lt 7, 3, 89, vU, [])),
  (85, (.iconst 1, 1, 0, vI 1, [])),
  (86, (.goto 4, 3, 90, vU, [])),
  (89, (.iconst 0, 1, 0, vI 0, [])),
  (90, (.ireturn, 1, 0, vU, [])),
  (91, (.iload_n 1, 1, 1, vU, [])),
  (92, (.iload_n 2, 1, 2, vU, [])),
  (93, (.if_icmp .le 7, 3, 100, vU, [])),
  (96, (.iconst 1, 1, 0, vI 1, [])),
  (97, (.goto 4, 3, 101, vU, [])),
  (100, (.iconst 0, 1, 0, vI 0, [])),
  (101, (.ireturn, 1, 0, vU, []))]
/-- PlannedTablesModel.choose.(I)V -/
def c_122 : List (Nat × EI) := [(0, (.aload_n 0, 1, 0, vU, [])),
  (1, (.getfield 26, 3, 262, vU, [])),
  (4, (.aload_n 0, 1, 0, vU, [])),
  (5, (.getfield 32, 3, 278, vU, [])),
  (8, (.iload_n 1, 1, 1, vU, [])),
  (9, (.iaload, 1, 0, vU, [])),
  (10, (.iaload, 1, 0, vU, [])),
  (11, (.istore_n 2, 1, 2, vU, [])),
  (12, (.iconst 0, 1, 0, vI 0, [])),
  (13, (.istore_n 3, 1, 3, vU, [])),
  (14, (.iload_n 3, 1, 3, vU, [])),
  (15, (.bipush 8, 2, 0, vI 8, [])),
  (17, (.if_icmp .ge 26, 3, 43, vU, [])),
  (20, (.aload_n 0, 1, 0, vU, [])),
  (21, (.getfield 50, 3, 326, vU, [])),
  (24, (.bipush 8, 2, 0, vI 8, [])),
  (26, (.iload_n 1, 1, 1, vU, [])),
  (27, (.imul, 1, 0, vU, [])),
  (28, (.iload_n 3, 1, 3, vU, [])),
  (29, (.iadd, 1, 0, vU, [])),
  (30, (.aload_n 0, 1, 0, vU, [])),
  (31, (.getfield 38, 3, 310, vU, [])),
  (34, (.iload_n 3, 1, 3, vU, [])),
  (35, (.iaload, 1, 0, vU, [])),
  (36, (.iastore, 1, 0, vU, [])),
  (37, (.iinc 3 1, 3, 3, vI 1, [])),
  (40, (.goto (-26), 3, 14, vU, [])),
  (43, (.iconst 0, 1, 0, vI 0, [])),
  (44, (.istore_n 3, 1, 3, vU, [])),
  (45, (.iload_n 3, 1, 3, vU, [])),
  (46, (.iload_n 2, 1, 2, vU, [])),
  (47, (.if_icmp .ge 40, 3, 87, vU, [])),
  (50, (.aload_n 0, 1, 0, vU, [])),
  (51, (.getfield 38, 3, 310, vU, [])),
  (54, (.iload_n 3, 1, 3, vU, [])),
  (55, (.aload_n 0, 1, 0, vU, [])),
  (56, (.getfield 50, 3, 326, vU, [])),
  (59, (.bipush 8, 2, 0, vI 8, [])),
  (61, (.iload_n 1, 1, 1, vU, [])),
  (62, (.imul, 1, 0, vU, [])),
  (63, (.aload_n 0, 1, 0, vU, [])),
  (64, (.getfield 26, 3, 262, vU, [])),
  (67, (.aload_n 0, 1, 0, vU, [])),
  (68, (.getfield 32, 3, 278, vU, [])),
  (71, (.iload_n 1, 1, 1, vU, [])),
  (72, (.iaload, 1, 0, vU, [])),
  (73, (.iconst 1, 1, 0, vI 1, [])),
  (74, (.iadd, 1, 0, vU, [])),
  (75, (.iload_n 3, 1, 3, vU, [])),
  (76, (.iadd, 1, 0, vU, [])),
  (77, (.iaload, 1, 0, vU, [])),
  (78, (.iadd, 1, 0, vU, [])),
  (79, (.iaload, 1, 0, vU, [])),
  (80, (.iastore, 1, 0, vU, [])),
  (81, (.iinc 3 1, 3, 3, vI 1, [])),
  (84, (.goto (-39), 3, 45, vU, [])),
  (87, (.aload_n 0, 1, 0, vU, [])),
  (88, (.iload_n 2, 1, 2, vU, [])),
  (89, (.putfield 138, 3, 304, vU, [])),
  (92, (.return_, 1, 0, vU, []))]
/-- PlannedTablesModel.hold.(II)V -/
def c_123 : List (Nat × EI) := [(0, (.iconst 0, 1, 0, vI 0, [])),
  (1, (.istore_n 3, 1, 3, vU, [])),
  (2, (.iload_n 3, 1, 3, vU, [])),
  (3, (.iload_n 2, 1, 2, vU, [])),
  (4, (.if_icmp .ge 26, 3, 30, vU, [])),
  (7, (.aload_n 0, 1, 0, vU, [])),
  (8, (.getfield 50, 3, 326, vU, [])),
  (11, (.bipush 8, 2, 0, vI 8, [])),
  (13, (.iload_n 1, 1, 1, vU, [])),
  (14, (.imul, 1, 0, vU, [])),
  (15, (.iload_n 3, 1, 3, vU, [])),
  (16, (.iadd, 1, 0, vU, [])),
  (17, (.aload_n 0, 1, 0, vU, [])),
  (18, (.getfield 38, 3, 310, vU, [])),
  (21, (.iload_n 3, 1, 3, vU, [])),
  (22, (.iaload, 1, 0, vU, [])),
  (23, (.iastore, 1, 0, vU, [])),
  (24, (.iinc 3 1, 3, 3, vI 1, [])),
  (27, (.goto (-25), 3, 2, vU, [])),
  (30, (.aload_n 0, 1, 0, vU, [])),
  (31, (.getfield 47, 3, 322, vU, [])),
  (34, (.iload_n 1, 1, 1, vU, [])),
  (35, (.iconst 1, 1, 0, vI 1, [])),
  (36, (.bastore, 1, 0, vU, [])),
  (37, (.aload_n 0, 1, 0, vU, [])),
  (38, (.getfield 41, 3, 314, vU, [])),
  (41, (.iload_n 1, 1, 1, vU, [])),
  (42, (.iconst 0, 1, 0, vI 0, [])),
  (43, (.iastore, 1, 0, vU, [])),
  (44, (.return_, 1, 0, vU, []))]
/-- PlannedTablesModel.runEnds.(I)Z -/
def c_124 : List (Nat × EI) := [(0, (.aload_n 0, 1, 0, vU, [])),
  (1, (.getfield 38, 3, 310, vU, [])),
  (4, (.aload_n 0, 1, 0, vU, [])),
  (5, (.getfield 26, 3, 262, vU, [])),
  (8, (.aload_n 0, 1, 0, vU, [])),
  (9, (.getfield 32, 3, 278, vU, [])),
  (12, (.iload_n 1, 1, 1, vU, [])),
  (13, (.iaload, 1, 0, vU, [])),
  (14, (.iaload, 1, 0, vU, [])),
  (15, (.iaload, 1, 0, vU, [])),
  (16, (.istore_n 2, 1, 2, vU, [])),
  (17, (.aload_n 0, 1, 0, vU, [])),
  (18, (.getfield 47, 3, 322, vU, [])),
  (21, (.iload_n 1, 1, 1, vU, [])),
  (22, (.baload, 1, 0, vU, [])),
  (23, (.ifCond .eq 17, 3, 40, vU, [])),
  (26, (.aload_n 0, 1, 0, vU, [])),
  (27, (.getfield 44, 3, 318, vU, [])),
  (30, (.iload_n 1, 1, 1, vU, [])),
  (31, (.iaload, 1, 0, vU, [])),
  (32, (.iload_n 2, 1, 2, vU, [])),
  (33, (.if_icmp .eq 7, 3, 40, vU, [])),
  (36, (.iconst 1, 1, 0, vI 1, [])),
  (37, (.goto 4, 3, 41, vU, [])),
  (40, (.iconst 0, 1, 0, vI 0, [])),
  (41, (.istore_n 3, 1, 3, vU, [])),
  (42, (.iload_n 3, 1, 3, vU, [])),
  (43, (.ifCond .eq 32, 3, 75, vU, [])),
  (46, (.aload_n 0, 1, 0, vU, [])),
  (47, (.getfield 38, 3, 310, vU, [])),
  (50, (.iconst 0, 1, 0, vI 0, [])),
  (51, (.aload_n 0, 1, 0, vU, [])),
  (52, (.getfield 44, 3, 318, vU, [])),
  (55, (.iload_n 1, 1, 1, vU, [])),
  (56, (.iaload, 1, 0, vU, [])),
  (57, (.iastore, 1, 0, vU, [])),
  (58, (.aload_n 0, 1, 0, vU, [])),
  (59, (.getfield 38, 3, 310, vU, [])),
  (62, (.iconst 1, 1, 0, vI 1, [])),
  (63, (.aload_n 0, 1, 0, vU, [])),
  (64, (.getfield 41, 3, 314, vU, [])),
  (67, (.iload_n 1, 1, 1, vU, [])),
  (68, (.iaload, 1, 0, vU, [])),
  (69, (.iastore, 1, 0, vU, [])),
  (70, (.aload_n 0, 1, 0, vU, [])),
  (71, (.iconst 2, 1, 0, vI 2, [])),
  (72, (.putfield 138, 3, 304, vU, [])),
  (75, (.aload_n 0, 1, 0, vU, [])),
  (76, (.getfield 41, 3, 314, vU, [])),
  (79, (.iload_n 1, 1, 1, vU, [])),
  (80, (.aload_n 0, 1, 0, vU, [])),
  (81, (.getfield 47, 3, 322, vU, [])),
  (84, (.iload_n 1, 1, 1, vU, [])),
  (85, (.baload, 1, 0, vU, [])),
  (86, (.ifCond .eq 18, 3, 104, vU, [])),
  (89, (.iload_n 3, 1, 3, vU, [])),
  (90, (.ifCond .ne 14, 3, 104, vU, [])),
  (93, (.aload_n 0, 1, 0, vU, [])),
  (94, (.getfield 41, 3, 314, vU, [])),
  (97, (.iload_n 1, 1, 1, vU, [])),
  (98, (.iaload, 1, 0, vU, [])),
  (99, (.iconst 1, 1, 0, vI 1, [])),
  (100, (.iadd, 1, 0, vU, [])),
  (101, (.goto 4, 3, 105, vU, [])),
  (104, (.iconst 1, 1, 0, vI 1, [])),
  (105, (.iastore, 1, 0, vU, [])),
  (106, (.aload_n 0, 1, 0, vU, [])),
  (107, (.getfield 44, 3, 318, vU, [])),
  (110, (.iload_n 1, 1, 1, vU, [])),
  (111, (.iload_n 2, 1, 2, vU, [])),
  (112, (.iastore, 1, 0, vU, [])),
  (113, (.aload_n 0, 1, 0, vU, [])),
  (114, (.getfield 47, 3, 322, vU, [])),
  (117, (.iload_n 1, 1, 1, vU, [])),
  (118, (.iconst 1, 1, 0, vI 1, [])),
  (119, (.bastore, 1, 0, vU, [])),
  (120, (.iload_n 3, 1, 3, vU, [])),
  (121, (.ireturn, 1, 0, vU, []))]
/-- PlannedTablesModel.close.(I)V -/
def c_125 : List (Nat × EI) := [(0, (.aload_n 0, 1, 0, vU, [])),
  (1, (.getfield 29, 3, 274, vU, [])),
  (4, (.iload_n 1, 1, 1, vU, [])),
  (5, (.iaload, 1, 0, vU, [])),
  (6, (.bipush 8, 2, 0, vI 8, [])),
  (8, (.if_icmp .eq 34, 3, 42, vU, [])),
  (11, (.aload_n 0, 1, 0, vU, [])),
  (12, (.getfield 29, 3, 274, vU, [])),
  (15, (.iload_n 1, 1, 1, vU, [])),
  (16, (.iaload, 1, 0, vU, [])),
  (17, (.bipush 9, 2, 0, vI 9, [])),
  (19, (.if_icmp .eq 23, 3, 42, vU, [])),
  (22, (.aload_n 0, 1, 0, vU, [])),
  (23, (.getfield 29, 3, 274, vU, [])),
  (26, (.iload_n 1, 1, 1, vU, [])),
  (27, (.iaload, 1, 0, vU, [])),
  (28, (.bipush 10, 2, 0, vI 10, [])),
  (30, (.if_icmp .ne 16, 3, 46, vU, [])),
  (33, (.aload_n 0, 1, 0, vU, [])),
  (34, (.getfield 47, 3, 322, vU, [])),
  (37, (.iload_n 1, 1, 1, vU, [])),
  (38, (.baload, 1, 0, vU, [])),
  (39, (.ifCond .eq 7, 3, 46, vU, [])),
  (42, (.iconst 1, 1, 0, vI 1, [])),
  (43, (.goto 4, 3, 47, vU, [])),
  (46, (.iconst 0, 1, 0, vI 0, [])),
  (47, (.istore_n 2, 1, 2, vU, [])),
  (48, (.iload_n 2, 1, 2, vU, [])),
  (49, (.ifCond .ne 4, 3, 53, vU, [])),
  (52, (.return_, 1, 0, vU, [])),
  (53, (.aload_n 0, 1, 0, vU, [])),
  (54, (.getfield 38, 3, 310, vU, [])),
  (57, (.iconst 0, 1, 0, vI 0, [])),
  (58, (.aload_n 0, 1, 0, vU, [])),
  (59, (.getfield 29, 3, 274, vU, [])),
  (62, (.iload_n 1, 1, 1, vU, [])),
  (63, (.iaload, 1, 0, vU, [])),
  (64, (.bipush 10, 2, 0, vI 10, [])),
  (66, (.if_icmp .ne 12, 3, 78, vU, [])),
  (69, (.aload_n 0, 1, 0, vU, [])),
  (70, (.getfield 44, 3, 318, vU, [])),
  (73, (.iload_n 1, 1, 1, vU, [])),
  (74, (.iaload, 1, 0, vU, [])),
  (75, (.goto 9, 3, 84, vU, [])),
  (78, (.aload_n 0, 1, 0, vU, [])),
  (79, (.getfield 41, 3, 314, vU, [])),
  (82, (.iload_n 1, 1, 1, vU, [])),
  (83, (.iaload, 1, 0, vU, [])),
  (84, (.iastore, 1, 0, vU, [])),
  (85, (.aload_n 0, 1, 0, vU, [])),
  (86, (.getfield 38, 3, 310, vU, [])),
  (89, (.iconst 1, 1, 0, vI 1, [])),
  (90, (.aload_n 0, 1, 0, vU, [])),
  (91, (.getfield 41, 3, 314, vU, [])),
  (94, (.iload_n 1, 1, 1, vU, [])),
  (95, (.iaload, 1, 0, vU, [])),
  (96, (.iastore, 1, 0, vU, [])),
  (97, (.aload_n 0, 1, 0, vU, [])),
  (98, (.aload_n 0, 1, 0, vU, [])),
  (99, (.getfield 29, 3, 274, vU, [])),
  (102, (.iload_n 1, 1, 1, vU, [])),
  (103, (.iaload, 1, 0, vU, [])),
  (104, (.bipush 10, 2, 0, vI 10, [])),
  (106, (.if_icmp .ne 7, 3, 113, vU, [])),
  (109, (.iconst 2, 1, 0, vI 2, [])),
  (110, (.goto 4, 3, 114, vU, [])),
  (113, (.iconst 1, 1, 0, vI 1, [])),
  (114, (.putfield 138, 3, 304, vU, [])),
  (117, (.aload_n 0, 1, 0, vU, [])),
  (118, (.iload_n 1, 1, 1, vU, [])),
  (119, (.iconst 1, 1, 0, vI 1, [])),
  (120, (.iadd, 1, 0, vU, [])),
  (121, (.invokevirtual 165, 3, 1, vU, [16, 119])),
  (124, (.return_, 1, 0, vU, []))]
/-- PlannedTablesModel.begin.()Z -/
def c_126 : List (Nat × EI) := [(0, (.aload_n 0, 1, 0, vU, [])),
  (1, (.invokevirtual 179, 3, 0, vU, [16, 127])),
  (4, (.istore_n 1, 1, 1, vU, [])),
  (5, (.iload_n 1, 1, 1, vU, [])),
  (6, (.ifCond .lt 32, 3, 38, vU, [])),
  (9, (.aload_n 0, 1, 0, vU, [])),
  (10, (.invokevirtual 171, 3, 0, vU, [16, 117])),
  (13, (.ifCond .eq 25, 3, 38, vU, [])),
  (16, (.aload_n 0, 1, 0, vU, [])),
  (17, (.iload_n 1, 1, 1, vU, [])),
  (18, (.iconst 0, 1, 0, vI 0, [])),
  (19, (.aload_n 0, 1, 0, vU, [])),
  (20, (.getfield 7, 3, 234, vU, [])),
  (23, (.aload_n 0, 1, 0, vU, [])),
  (24, (.getfield 26, 3, 262, vU, [])),
  (27, (.iconst 1, 1, 0, vI 1, [])),
  (28, (.iaload, 1, 0, vU, [])),
  (29, (.iaload, 1, 0, vU, [])),
  (30, (.invokevirtual 175, 3, 3, vU, [16, 118])),
  (33, (.aload_n 0, 1, 0, vU, [])),
  (34, (.iconst 1, 1, 0, vI 1, [])),
  (35, (.invokevirtual 165, 3, 1, vU, [16, 119])),
  (38, (.iload_n 1, 1, 1, vU, [])),
  (39, (.ifCond .lt 7, 3, 46, vU, [])),
  (42, (.iconst 1, 1, 0, vI 1, [])),
  (43, (.goto 4, 3, 47, vU, [])),
  (46, (.iconst 0, 1, 0, vI 0, [])),
  (47, (.ireturn, 1, 0, vU, []))]
/-- PlannedTablesModel.nextOfSource.()I -/
def c_127 : List (Nat × EI) := [(0, (.aload_n 0, 1, 0, vU, [])),
  (1, (.getfield 26, 3, 262, vU, [])),
  (4, (.iconst 1, 1, 0, vI 1, [])),
  (5, (.iaload, 1, 0, vU, [])),
  (6, (.istore_n 1, 1, 1, vU, [])),
  (7, (.aload_n 0, 1, 0, vU, [])),
  (8, (.getfield 29, 3, 274, vU, [])),
  (11, (.iconst 0, 1, 0, vI 0, [])),
  (12, (.iaload, 1, 0, vU, [])),
  (13, (.iconst 2, 1, 0, vI 2, [])),
  (14, (.if_icmp .ne 12, 3, 26, vU, [])),
  (17, (.aload_n 0, 1, 0, vU, [])),
  (18, (.getfield 26, 3, 262, vU, [])),
  (21, (.iconst 2, 1, 0, vI 2, [])),
  (22, (.iaload, 1, 0, vU, [])),
  (23, (.goto 4, 3, 27, vU, [])),
  (26, (.iconst 0, 1, 0, vI 0, [])),
  (27, (.istore_n 2, 1, 2, vU, [])),
  (28, (.iconst (-1), 1, 0, vI (-1), [])),
  (29, (.istore_n 3, 1, 3, vU, [])),
  (30, (.iconst 0, 1, 0, vI 0, [])),
  (31, (.istore 4, 2, 4, vU, [])),
  (33, (.iload 4, 2, 4, vU, [])),
  (35, (.aload_n 0, 1, 0, vU, [])),
  (36, (.getfield 71, 3, 244, vU, [])),
  (39, (.if_icmp .ge 200, 3, 239, vU, [])),
  (42, (.aload_n 0, 1, 0, vU, [])),
  (43, (.getfield 23, 3, 254, vU, [])),
  (46, (.iconst 4, 1, 0, vI 4, [])),
  (47, (.iload 4, 2, 4, vU, [])),
  (49, (.imul, 1, 0, vU, [])),
  (50, (.iload_n 2, 1, 2, vU, [])),
  (51, (.iadd, 1, 0, vU, [])),
  (52, (.iaload, 1, 0, vU, [])),
  (53, (.istore 5, 2, 5, vU, [])),
  (55, (.aload_n 0, 1, 0, vU, [])),
  (56, (.getfield 23, 3, 254, vU, [])),
  (59, (.iconst 4, 1, 0, vI 4, [])),
  (60, (.iload 4, 2, 4, vU, [])),
  (62, (.imul, 1, 0, vU, [])),
  (63, (.iaload, 1, 0, vU, [])),
  (64, (.istore 6, 2, 6, vU, [])),
  (66, (.aload_n 0, 1, 0, vU, [])),
  (67, (.getfield 29, 3, 274, vU, [])),
  (70, (.iconst 0, 1, 0, vI 0, [])),
  (71, (.iaload, 1, 0, vU, [])),
  (72, (.iconst 1, 1, 0, vI 1, [])),
  (73, (.if_icmp .eq 25, 3, 98, vU, [])),
  (76, (.iload 5, 2, 5, vU, [])),
  (78, (.aload_n 0, 1, 0, vU, [])),
  (79, (.getfield 26, 3, 262, vU, [])),
  (82, (.iconst 3, 1, 0, vI 3, [])),
  (83, (.iaload, 1, 0, vU, [])),
  (84, (.if_icmp .lt 18, 3, 102, vU, [])),
  (87, (.iload 5, 2, 5, vU, [])),
  (89, (.aload_n 0, 1, 0, vU, [])),
  (90, (.getfield 26, 3, 262, vU, [])),
  (93, (.iconst 4, 1, 0, vI 4, [])),
  (94, (.iaload, 1, 0, vU, [])),
  (95, (.if_icmp .gt 7, 3, 102, vU, [])),
  (98, (.iconst 1, 1, 0, vI 1, [])),
  (99, (.goto 4, 3, 103, vU, [])),
  (102, (.iconst 0, 1, 0, vI 0, [])),
  (103, (.istore 7, 2, 7, vU, [])),
  (105, (.aload_n 0, 1, 0, vU, [])),
  (106, (.getfield 129, 3, 339, vU, [])),
  (109, (.ifCond .eq 30, 3, 139, vU, [])),
  (112, (.iload 5, 2, 5, vU, [])),
  (114, (.aload_n 0, 1, 0, vU, [])),
  (115, (.getfield 132, 3, 328, vU, [])),
  (118, (.if_icmp .gt 21, 3, 139, vU, [])),
  (121, (.iload 5, 2, 5, vU, [])),
  (123, (.aload_n 0, 1, 0, vU, [])),
  (124, (.getfield 132, 3, 328, vU, [])),
  (127, (.if_icmp .ne 16, 3, 143, vU, [])),
  (130, (.iload 6, 2, 6, vU, [])),
  (132, (.aload_n 0, 1, 0, vU, [])),
  (133, (.getfield 135, 3, 332, vU, [])),
  (136, (.if_icmp .le 7, 3, 143, vU, [])),
  (139, (.iconst 1, 1, 0, vI 1, [])),
  (140, (.goto 4, 3, 144, vU, [])),
  (143, (.iconst 0, 1, 0, vI 0, [])),
  (144, (.istore 8, 2, 8, vU, [])),
  (146, (.iload_n 3, 1, 3, vU, [])),
  (147, (.ifCond .lt 46, 3, 193, vU, [])),
  (150, (.iload 5, 2, 5, vU, [])),
  (152, (.aload_n 0, 1, 0, vU, [])),
  (153, (.getfield 23, 3, 254, vU, [])),
  (156, (.iconst 4, 1, 0, vI 4, [])),
  (157, (.iload_n 3, 1, 3, vU, [])),
  (158, (.imul, 1, 0, vU, [])),
  (159, (.iload_n 2, 1, 2, vU, [])),
  (160, (.iadd, 1, 0, vU, [])),
  (161, (.iaload, 1, 0, vU, [])),
  (162, (.if_icmp .lt 31, 3, 193, vU, [])),
  (165, (.iload 5, 2, 5, vU, [])),
  (167, (.aload_n 0, 1, 0, vU, [])),
  (168, (.getfield 23, 3, 254, vU, [])),
  (171, (.iconst 4, 1, 0, vI 4, [])),
  (172, (.iload_n 3, 1, 3, vU, [])),
  (173, (.imul, 1, 0, vU, [])),
  (174, (.iload_n 2, 1, 2, vU, [])),
  (175, (.iadd, 1, 0, vU, [])),
  (176, (.iaload, 1, 0, vU, [])),
  (177, (.if_icmp .ne 20, 3, 197, vU, [])),
  (180, (.iload 6, 2, 6, vU, [])),
  (182, (.aload_n 0, 1, 0, vU, [])),
  (183, (.getfield 23, 3, 254, vU, [])),
  (186, (.iconst 4, 1, 0, vI 4, [])),
  (187, (.iload_n 3, 1, 3, vU, [])),
  (188, (.imul, 1, 0, vU, [])),
  (189, (.iaload, 1, 0, vU, [])),
  (190, (.if_icmp .ge 7, 3, 197, vU, [])),
  (193, (.iconst 1, 1, 0, vI 1, [])),
  (194, (.goto 4, 3, 198, vU, [])),
  (197, (.iconst 0, 1, 0, vI 0, [])),
  (198, (.istore 9, 2, 9, vU, [])),
  (200, (.aload_n 0, 1, 0, vU, [])),
  (201, (.getfield 20, 3, 250, vU, [])),
  (204, (.iload 4, 2, 4, vU, [])),
  (206, (.iaload, 1, 0, vU, [])),
  (207, (.iload_n 1, 1, 1, vU, [])),
  (208, (.if_icmp .ne 23, 3, 231, vU, [])),
  (211, (.iload 7, 2, 7, vU, [])),
  (213, (.ifCond .eq 18, 3, 231, vU, [])),
  (216, (.iload 8, 2, 8, vU, [])),
  (218, (.ifCond .eq 13, 3, 231, vU, [])),
  (221, (.iload 9, 2, 9, vU, [])),
  (223, (.ifCond .eq 8, 3, 231, vU, [])),
  (226, (.iload 4, 2, 4, vU, [])),
  (228, (.goto 4, 3, 232, vU, [])),
  (231, (.iload_n 3, 1, 3, vU, [])),
  (232, (.istore_n 3, 1, 3, vU, [])),
  (233, (.iinc 4 1, 3, 4, vI 1, [])),
  (236, (.goto (-203), 3, 33, vU, [])),
  (239, (.iload_n 3, 1, 3, vU, [])),
  (240, (.ifCond .lt 34, 3, 274, vU, [])),
  (243, (.aload_n 0, 1, 0, vU, [])),
  (244, (.aload_n 0, 1, 0, vU, [])),
  (245, (.getfield 23, 3, 254, vU, [])),
  (248, (.iconst 4, 1, 0, vI 4, [])),
  (249, (.iload_n 3, 1, 3, vU, [])),
  (250, (.imul, 1, 0, vU, [])),
  (251, (.iload_n 2, 1, 2, vU, [])),
  (252, (.iadd, 1, 0, vU, [])),
  (253, (.iaload, 1, 0, vU, [])),
  (254, (.putfield 132, 3, 328, vU, [])),
  (257, (.aload_n 0, 1, 0, vU, [])),
  (258, (.aload_n 0, 1, 0, vU, [])),
  (259, (.getfield 23, 3, 254, vU, [])),
  (262, (.iconst 4, 1, 0, vI 4, [])),
  (263, (.iload_n 3, 1, 3, vU, [])),
  (264, (.imul, 1, 0, vU, [])),
  (265, (.iaload, 1, 0, vU, [])),
  (266, (.putfield 135, 3, 332, vU, [])),
  (269, (.aload_n 0, 1, 0, vU, [])),
  (270, (.iconst 1, 1, 0, vI 1, [])),
  (271, (.putfield 129, 3, 339, vU, [])),
  (274, (.iload_n 3, 1, 3, vU, [])),
  (275, (.ireturn, 1, 0, vU, []))]
/-- PlannedTablesModel.visits.()I -/
def c_128 : List (Nat × EI) := [(0, (.aload_n 0, 1, 0, vU, [])),
  (1, (.iconst 0, 1, 0, vI 0, [])),
  (2, (.putfield 56, 3, 224, vU, [])),
  (5, (.aload_n 0, 1, 0, vU, [])),
  (6, (.getfield 204, 3, 340, vU, [])),
  (9, (.ireturn, 1, 0, vU, []))]
/-- PlannedTablesModel.size.()I -/
def c_129 : List (Nat × EI) := [(0, (.aload_n 0, 1, 0, vU, [])),
  (1, (.iconst 0, 1, 0, vI 0, [])),
  (2, (.putfield 56, 3, 224, vU, [])),
  (5, (.aload_n 0, 1, 0, vU, [])),
  (6, (.getfield 159, 3, 344, vU, [])),
  (9, (.ireturn, 1, 0, vU, []))]
/-- PlannedTablesModel.out.(I)I -/
def c_130 : List (Nat × EI) := [(0, (.aload_n 0, 1, 0, vU, [])),
  (1, (.iconst 0, 1, 0, vI 0, [])),
  (2, (.putfield 56, 3, 224, vU, [])),
  (5, (.iload_n 1, 1, 1, vU, [])),
  (6, (.ifCond .lt 20, 3, 26, vU, [])),
  (9, (.iload_n 1, 1, 1, vU, [])),
  (10, (.aload_n 0, 1, 0, vU, [])),
  (11, (.getfield 159, 3, 344, vU, [])),
  (14, (.if_icmp .ge 12, 3, 26, vU, [])),
  (17, (.aload_n 0, 1, 0, vU, [])),
  (18, (.getfield 53, 3, 350, vU, [])),
  (21, (.iload_n 1, 1, 1, vU, [])),
  (22, (.iaload, 1, 0, vU, [])),
  (23, (.goto 4, 3, 27, vU, [])),
  (26, (.iconst 0, 1, 0, vI 0, [])),
  (27, (.ireturn, 1, 0, vU, []))]
/-- PlannedTables$Stage.<init>.()V -/
def c_131 : List (Nat × EI) := [(0, (.aload_n 0, 1, 0, vU, [])),
  (1, (.invokespecial 1, 3, 1, vU, [9999])),
  (4, (.aload_n 0, 1, 0, vU, [])),
  (5, (.bipush 8, 2, 0, vI 8, [])),
  (7, (.newarray .int, 2, 0, vU, [])),
  (9, (.putfield 7, 3, 146, vU, [])),
  (12, (.return_, 1, 0, vU, []))]
/-- PlannedTables$Stage.copy.([III)V -/
def c_132 : List (Nat × EI) := [(0, (.aload_n 1, 1, 1, vU, [])),
  (1, (.iconst 0, 1, 0, vI 0, [])),
  (2, (.aload_n 0, 1, 0, vU, [])),
  (3, (.getfield 7, 3, 146, vU, [])),
  (6, (.iload_n 3, 1, 3, vU, [])),
  (7, (.iload_n 2, 1, 2, vU, [])),
  (8, (.invokestatic 13, 3, 5, vU, [9998])),
  (11, (.return_, 1, 0, vU, []))]
/-- PlannedTables$Step.<init>.(LPlannedTables$Stage;)V -/
def c_133 : List (Nat × EI) := [(0, (.aload_n 0, 1, 0, vU, [])),
  (1, (.invokespecial 1, 3, 1, vU, [131])),
  (4, (.aload_n 0, 1, 0, vU, [])),
  (5, (.aload_n 1, 1, 1, vU, [])),
  (6, (.putfield 7, 3, 166, vU, [])),
  (9, (.aload_n 0, 1, 0, vU, [])),
  (10, (.aload_n 1, 1, 1, vU, [])),
  (11, (.getfield 13, 3, 148, vU, [])),
  (14, (.putfield 17, 3, 148, vU, [])),
  (17, (.return_, 1, 0, vU, []))]
/-- PlannedTables$Step.pass.()V -/
def c_134 : List (Nat × EI) := [(0, (.aload_n 0, 1, 0, vU, [])),
  (1, (.aload_n 0, 1, 0, vU, [])),
  (2, (.getfield 7, 3, 166, vU, [])),
  (5, (.getfield 18, 3, 146, vU, [])),
  (8, (.aload_n 0, 1, 0, vU, [])),
  (9, (.getfield 7, 3, 166, vU, [])),
  (12, (.getfield 13, 3, 148, vU, [])),
  (15, (.iconst 0, 1, 0, vI 0, [])),
  (16, (.invokevirtual 22, 3, 3, vU, [2, 132, 3, 132, 4, 132, 5, 132, 8, 132, 10, 132, 13, 132])),
  (19, (.return_, 1, 0, vU, []))]
/-- PlannedTablesLaw.table.(LPlannedTables;I[J)I -/
def c_135 : List (Nat × EI) := [(0, (.aload_n 2, 1, 2, vU, [])),
  (1, (.iconst 0, 1, 0, vI 0, [])),
  (2, (.aload_n 0, 1, 0, vU, [])),
  (3, (.iload_n 1, 1, 1, vU, [])),
  (4, (.invokevirtual 7, 3, 1, vU, [0, 10])),
  (7, (.i2l, 1, 0, vU, [])),
  (8, (.lastore, 1, 0, vU, [])),
  (9, (.goto 9, 3, 18, vU, [])),
  (12, (.astore_n 3, 1, 3, vU, [])),
  (13, (.iconst 1, 1, 0, vI 1, [])),
  (14, (.ireturn, 1, 0, vU, [])),
  (15, (.astore_n 3, 1, 3, vU, [])),
  (16, (.iconst 2, 1, 0, vI 2, [])),
  (17, (.ireturn, 1, 0, vU, [])),
  (18, (.iconst 0, 1, 0, vI 0, [])),
  (19, (.ireturn, 1, 0, vU, []))]
/-- PlannedTablesLaw.index.(LPlannedTables;II[J)I -/
def c_136 : List (Nat × EI) := [(0, (.aload_n 3, 1, 3, vU, [])),
  (1, (.iconst 0, 1, 0, vI 0, [])),
  (2, (.aload_n 0, 1, 0, vU, [])),
  (3, (.iload_n 1, 1, 1, vU, [])),
  (4, (.iload_n 2, 1, 2, vU, [])),
  (5, (.invokevirtual 17, 3, 2, vU, [0, 11])),
  (8, (.ifCond .eq 7, 3, 15, vU, [])),
  (11, (.lconst 1, 1, 0, vL 1, [])),
  (12, (.goto 4, 3, 16, vU, [])),
  (15, (.lconst 0, 1, 0, vL 0, [])),
  (16, (.lastore, 1, 0, vU, [])),
  (17, (.goto 7, 3, 24, vU, [])),
  (20, (.astore 4, 2, 4, vU, [])),
  (22, (.iconst 1, 1, 0, vI 1, [])),
  (23, (.ireturn, 1, 0, vU, [])),
  (24, (.iconst 0, 1, 0, vI 0, [])),
  (25, (.ireturn, 1, 0, vU, []))]
/-- PlannedTablesLaw.insert.(LPlannedTables;I[J)I -/
def c_137 : List (Nat × EI) := [(0, (.aload_n 2, 1, 2, vU, [])),
  (1, (.iconst 0, 1, 0, vI 0, [])),
  (2, (.aload_n 0, 1, 0, vU, [])),
  (3, (.iload_n 1, 1, 1, vU, [])),
  (4, (.invokevirtual 23, 3, 1, vU, [0, 13])),
  (7, (.i2l, 1, 0, vU, [])),
  (8, (.lastore, 1, 0, vU, [])),
  (9, (.goto 12, 3, 21, vU, [])),
  (12, (.astore_n 3, 1, 3, vU, [])),
  (13, (.iconst 1, 1, 0, vI 1, [])),
  (14, (.ireturn, 1, 0, vU, [])),
  (15, (.astore_n 3, 1, 3, vU, [])),
  (16, (.iconst 2, 1, 0, vI 2, [])),
  (17, (.ireturn, 1, 0, vU, [])),
  (18, (.astore_n 3, 1, 3, vU, [])),
  (19, (.iconst 3, 1, 0, vI 3, [])),
  (20, (.ireturn, 1, 0, vU, [])),
  (21, (.iconst 0, 1, 0, vI 0, [])),
  (22, (.ireturn, 1, 0, vU, []))]
/-- PlannedTablesLaw.delete.(LPlannedTables;II[J)I -/
def c_138 : List (Nat × EI) := [(0, (.aload_n 3, 1, 3, vU, [])),
  (1, (.iconst 0, 1, 0, vI 0, [])),
  (2, (.aload_n 0, 1, 0, vU, [])),
  (3, (.iload_n 1, 1, 1, vU, [])),
  (4, (.iload_n 2, 1, 2, vU, [])),
  (5, (.invokevirtual 28, 3, 2, vU, [0, 14])),
  (8, (.i2l, 1, 0, vU, [])),
  (9, (.lastore, 1, 0, vU, [])),
  (10, (.goto 11, 3, 21, vU, [])),
  (13, (.astore 4, 2, 4, vU, [])),
  (15, (.iconst 1, 1, 0, vI 1, [])),
  (16, (.ireturn, 1, 0, vU, [])),
  (17, (.astore 4, 2, 4, vU, [])),
  (19, (.iconst 2, 1, 0, vI 2, [])),
  (20, (.ireturn, 1, 0, vU, [])),
  (21, (.iconst 0, 1, 0, vI 0, [])),
  (22, (.ireturn, 1, 0, vU, []))]
/-- PlannedTablesLaw.cell.(LPlannedTables;III[J)I -/
def c_139 : List (Nat × EI) := [(0, (.aload 4, 2, 4, vU, [])),
  (2, (.iconst 0, 1, 0, vI 0, [])),
  (3, (.aload_n 0, 1, 0, vU, [])),
  (4, (.iload_n 1, 1, 1, vU, [])),
  (5, (.iload_n 2, 1, 2, vU, [])),
  (6, (.iload_n 3, 1, 3, vU, [])),
  (7, (.invokevirtual 34, 3, 3, vU, [0, 16])),
  (10, (.i2l, 1, 0, vU, [])),
  (11, (.lastore, 1, 0, vU, [])),
  (12, (.goto 11, 3, 23, vU, [])),
  (15, (.astore 5, 2, 5, vU, [])),
  (17, (.iconst 1, 1, 0, vI 1, [])),
  (18, (.ireturn, 1, 0, vU, [])),
  (19, (.astore 5, 2, 5, vU, [])),
  (21, (.iconst 2, 1, 0, vI 2, [])),
  (22, (.ireturn, 1, 0, vU, [])),
  (23, (.iconst 0, 1, 0, vI 0, [])),
  (24, (.ireturn, 1, 0, vU, []))]
/-- PlannedTablesLaw.keyFrom.(LPlannedTables;II[J)I -/
def c_140 : List (Nat × EI) := [(0, (.aload_n 3, 1, 3, vU, [])),
  (1, (.iconst 0, 1, 0, vI 0, [])),
  (2, (.aload_n 0, 1, 0, vU, [])),
  (3, (.iload_n 1, 1, 1, vU, [])),
  (4, (.iload_n 2, 1, 2, vU, [])),
  (5, (.invokevirtual 38, 3, 2, vU, [0, 17])),
  (8, (.i2l, 1, 0, vU, [])),
  (9, (.lastore, 1, 0, vU, [])),
  (10, (.goto 11, 3, 21, vU, [])),
  (13, (.astore 4, 2, 4, vU, [])),
  (15, (.iconst 1, 1, 0, vI 1, [])),
  (16, (.ireturn, 1, 0, vU, [])),
  (17, (.astore 4, 2, 4, vU, [])),
  (19, (.iconst 2, 1, 0, vI 2, [])),
  (20, (.ireturn, 1, 0, vU, [])),
  (21, (.iconst 0, 1, 0, vI 0, [])),
  (22, (.ireturn, 1, 0, vU, []))]
/-- PlannedTablesLaw.run.(LPlannedTables;I[J)I -/
def c_141 : List (Nat × EI) := [(0, (.aload_n 2, 1, 2, vU, [])),
  (1, (.iconst 0, 1, 0, vI 0, [])),
  (2, (.aload_n 0, 1, 0, vU, [])),
  (3, (.iload_n 1, 1, 1, vU, [])),
  (4, (.invokevirtual 41, 3, 1, vU, [0, 18])),
  (7, (.i2l, 1, 0, vU, [])),
  (8, (.lastore, 1, 0, vU, [])),
  (9, (.goto 12, 3, 21, vU, [])),
  (12, (.astore_n 3, 1, 3, vU, [])),
  (13, (.iconst 1, 1, 0, vI 1, [])),
  (14, (.ireturn, 1, 0, vU, [])),
  (15, (.astore_n 3, 1, 3, vU, [])),
  (16, (.iconst 2, 1, 0, vI 2, [])),
  (17, (.ireturn, 1, 0, vU, [])),
  (18, (.astore_n 3, 1, 3, vU, [])),
  (19, (.iconst 3, 1, 0, vI 3, [])),
  (20, (.ireturn, 1, 0, vU, [])),
  (21, (.iconst 0, 1, 0, vI 0, [])),
  (22, (.ireturn, 1, 0, vU, []))]
/-- PlannedTablesLaw.law.([I)Z -/
def c_142 : List (Nat × EI) := [(0, (.new 8, 3, 0, vU, [])),
  (3, (.dup, 1, 0, vU, [])),
  (4, (.invokespecial 44, 3, 1, vU, [0])),
  (7, (.astore_n 1, 1, 1, vU, [])),
  (8, (.new 45, 3, 16, vU, [])),
  (11, (.dup, 1, 0, vU, [])),
  (12, (.invokespecial 47, 3, 1, vU, [84])),
  (15, (.astore_n 2, 1, 2, vU, [])),
  (16, (.iconst 1, 1, 0, vI 1, [])),
  (17, (.newarray .long, 2, 2, vU, [])),
  (19, (.astore_n 3, 1, 3, vU, [])),
  (20, (.iconst 0, 1, 0, vI 0, [])),
  (21, (.istore 4, 2, 4, vU, [])),
  (23, (.iload 4, 2, 4, vU, [])),
  (25, (.aload_n 0, 1, 0, vU, [])),
  (26, (.arraylength, 1, 0, vU, [])),
  (27, (.iconst 4, 1, 0, vI 4, [])),
  (28, (.isub, 1, 0, vU, [])),
  (29, (.if_icmp .gt 729, 3, 758, vU, [])),
  (32, (.aload_n 0, 1, 0, vU, [])),
  (33, (.iload 4, 2, 4, vU, [])),
  (35, (.iaload, 1, 0, vU, [])),
  (36, (.bipush 15, 2, 0, vI 15, [])),
  (38, (.iand, 1, 0, vU, [])),
  (39, (.tableswitch 713 0 15 #[77, 133, 208, 245, 301, 369, 449, 517, 542, 567, 580, 593, 649, 662, 675, 700], 77, 752, vI 0, [116, 172, 247, 284, 340, 408, 488, 556, 581, 606, 619, 632, 688, 701, 714, 739])),
  (116, (.aload_n 1, 1, 1, vU, [])),
  (117, (.aload_n 0, 1, 0, vU, [])),
  (118, (.iload 4, 2, 4, vU, [])),
  (120, (.iconst 1, 1, 0, vI 1, [])),
  (121, (.iadd, 1, 0, vU, [])),
  (122, (.iaload, 1, 0, vU, [])),
  (123, (.aload_n 3, 1, 3, vU, [])),
  (124, (.invokestatic 48, 3, 3, vU, [135])),
  (127, (.istore 5, 2, 5, vU, [])),
  (129, (.aload_n 2, 1, 2, vU, [])),
  (130, (.aload_n 0, 1, 0, vU, [])),
  (131, (.iload 4, 2, 4, vU, [])),
  (133, (.iconst 1, 1, 0, vI 1, [])),
  (134, (.iadd, 1, 0, vU, [])),
  (135, (.iaload, 1, 0, vU, [])),
  (136, (.invokevirtual 53, 3, 1, vU, [16, 86])),
  (139, (.istore 6, 2, 6, vU, [])),
  (141, (.aload_n 2, 1, 2, vU, [])),
  (142, (.invokevirtual 54, 3, 0, vU, [16, 85])),
  (145, (.iload 5, 2, 5, vU, [])),
  (147, (.if_icmp .eq 5, 3, 152, vU, [])),
  (150, (.iconst 0, 1, 0, vI 0, [])),
  (151, (.ireturn, 1, 0, vU, [])),
  (152, (.iload 5, 2, 5, vU, [])),
  (154, (.ifCond .ne 15, 3, 169, vU, [])),
  (157, (.aload_n 3, 1, 3, vU, [])),
  (158, (.iconst 0, 1, 0, vI 0, [])),
  (159, (.laload, 1, 0, vU, [])),
  (160, (.iload 6, 2, 6, vU, [])),
  (162, (.i2l, 1, 0, vU, [])),
  (163, (.lcmp, 1, 0, vU, [])),
  (164, (.ifCond .eq 5, 3, 169, vU, [])),
  (167, (.iconst 0, 1, 0, vI 0, [])),
  (168, (.ireturn, 1, 0, vU, [])),
  (169, (.goto 583, 3, 752, vU, [])),
  (172, (.aload_n 1, 1, 1, vU, [])),
  (173, (.aload_n 0, 1, 0, vU, [])),
  (174, (.iload 4, 2, 4, vU, [])),
  (176, (.iconst 1, 1, 0, vI 1, [])),
  (177, (.iadd, 1, 0, vU, [])),
  (178, (.iaload, 1, 0, vU, [])),
  (179, (.aload_n 0, 1, 0, vU, [])),
  (180, (.iload 4, 2, 4, vU, [])),
  (182, (.iconst 2, 1, 0, vI 2, [])),
  (183, (.iadd, 1, 0, vU, [])),
  (184, (.iaload, 1, 0, vU, [])),
  (185, (.aload_n 3, 1, 3, vU, [])),
  (186, (.invokestatic 58, 3, 4, vU, [136])),
  (189, (.istore 5, 2, 5, vU, [])),
  (191, (.aload_n 2, 1, 2, vU, [])),
  (192, (.aload_n 0, 1, 0, vU, [])),
  (193, (.iload 4, 2, 4, vU, [])),
  (195, (.iconst 1, 1, 0, vI 1, [])),
  (196, (.iadd, 1, 0, vU, [])),
  (197, (.iaload, 1, 0, vU, [])),
  (198, (.aload_n 0, 1, 0, vU, [])),
  (199, (.iload 4, 2, 4, vU, [])),
  (201, (.iconst 2, 1, 0, vI 2, [])),
  (202, (.iadd, 1, 0, vU, [])),
  (203, (.iaload, 1, 0, vU, [])),
  (204, (.invokevirtual 61, 3, 2, vU, [16, 87])),
  (207, (.istore 6, 2, 6, vU, [])),
  (209, (.aload_n 2, 1, 2, vU, [])),
  (210, (.invokevirtual 54, 3, 0, vU, [16, 85])),
  (213, (.iload 5, 2, 5, vU, [])),
  (215, (.if_icmp .eq 5, 3, 220, vU, [])),
  (218, (.iconst 0, 1, 0, vI 0, [])),
  (219, (.ireturn, 1, 0, vU, [])),
  (220, (.iload 5, 2, 5, vU, [])),
  (222, (.ifCond .ne 22, 3, 244, vU, [])),
  (225, (.aload_n 3, 1, 3, vU, [])),
  (226, (.iconst 0, 1, 0, vI 0, [])),
  (227, (.laload, 1, 0, vU, [])),
  (228, (.iload 6, 2, 6, vU, [])),
  (230, (.ifCond .eq 7, 3, 237, vU, [])),
  (233, (.lconst 1, 1, 0, vL 1, [])),
  (234, (.goto 4, 3, 238, vU, [])),
  (237, (.lconst 0, 1, 0, vL 0, [])),
  (238, (.lcmp, 1, 0, vU, [])),
  (239, (.ifCond .eq 5, 3, 244, vU, [])),
  (242, (.iconst 0, 1, 0, vI 0, [])),
  (243, (.ireturn, 1, 0, vU, [])),
  (244, (.goto 508, 3, 752, vU, [])),
  (247, (.aload_n 1, 1, 1, vU, [])),
  (248, (.aload_n 0, 1, 0, vU, [])),
  (249, (.iload 4, 2, 4, vU, [])),
  (251, (.iconst 1, 1, 0, vI 1, [])),
  (252, (.iadd, 1, 0, vU, [])),
  (253, (.iaload, 1, 0, vU, [])),
  (254, (.aload_n 0, 1, 0, vU, [])),
  (255, (.iload 4, 2, 4, vU, [])),
  (257, (.iconst 2, 1, 0, vI 2, [])),
  (258, (.iadd, 1, 0, vU, [])),
  (259, (.iaload, 1, 0, vU, [])),
  (260, (.invokevirtual 62, 3, 2, vU, [0, 1])),
  (263, (.aload_n 2, 1, 2, vU, [])),
  (264, (.aload_n 0, 1, 0, vU, [])),
  (265, (.iload 4, 2, 4, vU, [])),
  (267, (.iconst 1, 1, 0, vI 1, [])),
  (268, (.iadd, 1, 0, vU, [])),
  (269, (.iaload, 1, 0, vU, [])),
  (270, (.aload_n 0, 1, 0, vU, [])),
  (271, (.iload 4, 2, 4, vU, [])),
  (273, (.iconst 2, 1, 0, vI 2, [])),
  (274, (.iadd, 1, 0, vU, [])),
  (275, (.iaload, 1, 0, vU, [])),
  (276, (.invokevirtual 65, 3, 2, vU, [16, 90])),
  (279, (.if_icmp .eq 473, 3, 752, vU, [])),
  (282, (.iconst 0, 1, 0, vI 0, [])),
  (283, (.ireturn, 1, 0, vU, [])),
  (284, (.aload_n 1, 1, 1, vU, [])),
  (285, (.aload_n 0, 1, 0, vU, [])),
  (286, (.iload 4, 2, 4, vU, [])),
  (288, (.iconst 1, 1, 0, vI 1, [])),
  (289, (.iadd, 1, 0, vU, [])),
  (290, (.iaload, 1, 0, vU, [])),
  (291, (.aload_n 3, 1, 3, vU, [])),
  (292, (.invokestatic 66, 3, 3, vU, [137])),
  (295, (.istore 5, 2, 5, vU, [])),
  (297, (.aload_n 2, 1, 2, vU, [])),
  (298, (.aload_n 0, 1, 0, vU, [])),
  (299, (.iload 4, 2, 4, vU, [])),
  (301, (.iconst 1, 1, 0, vI 1, [])),
  (302, (.iadd, 1, 0, vU, [])),
  (303, (.iaload, 1, 0, vU, [])),
  (304, (.invokevirtual 68, 3, 1, vU, [16, 91])),
  (307, (.istore 6, 2, 6, vU, [])),
  (309, (.aload_n 2, 1, 2, vU, [])),
  (310, (.invokevirtual 54, 3, 0, vU, [16, 85])),
  (313, (.iload 5, 2, 5, vU, [])),
  (315, (.if_icmp .eq 5, 3, 320, vU, [])),
  (318, (.iconst 0, 1, 0, vI 0, [])),
  (319, (.ireturn, 1, 0, vU, [])),
  (320, (.iload 5, 2, 5, vU, [])),
  (322, (.ifCond .ne 15, 3, 337, vU, [])),
  (325, (.aload_n 3, 1, 3, vU, [])),
  (326, (.iconst 0, 1, 0, vI 0, [])),
  (327, (.laload, 1, 0, vU, [])),
  (328, (.iload 6, 2, 6, vU, [])),
  (330, (.i2l, 1, 0, vU, [])),
  (331, (.lcmp, 1, 0, vU, [])),
  (332, (.ifCond .eq 5, 3, 337, vU, [])),
  (335, (.iconst 0, 1, 0, vI 0, [])),
  (336, (.ireturn, 1, 0, vU, [])),
  (337, (.goto 415, 3, 752, vU, [])),
  (340, (.aload_n 1, 1, 1, vU, [])),
  (341, (.aload_n 0, 1, 0, vU, [])),
  (342, (.iload 4, 2, 4, vU, [])),
  (344, (.iconst 1, 1, 0, vI 1, [])),
  (345, (.iadd, 1, 0, vU, [])),
  (346, (.iaload, 1, 0, vU, [])),
  (347, (.aload_n 0, 1, 0, vU, [])),
  (348, (.iload 4, 2, 4, vU, [])),
  (350, (.iconst 2, 1, 0, vI 2, [])),
  (351, (.iadd, 1, 0, vU, [])),
  (352, (.iaload, 1, 0, vU, [])),
  (353, (.aload_n 3, 1, 3, vU, [])),
  (354, (.invokestatic 69, 3, 4, vU, [138])),
  (357, (.istore 5, 2, 5, vU, [])),
  (359, (.aload_n 2, 1, 2, vU, [])),
  (360, (.aload_n 0, 1, 0, vU, [])),
  (361, (.iload 4, 2, 4, vU, [])),
  (363, (.iconst 1, 1, 0, vI 1, [])),
  (364, (.iadd, 1, 0, vU, [])),
  (365, (.iaload, 1, 0, vU, [])),
  (366, (.aload_n 0, 1, 0, vU, [])),
  (367, (.iload 4, 2, 4, vU, [])),
  (369, (.iconst 2, 1, 0, vI 2, [])),
  (370, (.iadd, 1, 0, vU, [])),
  (371, (.iaload, 1, 0, vU, [])),
  (372, (.invokevirtual 71, 3, 2, vU, [16, 94])),
  (375, (.istore 6, 2, 6, vU, [])),
  (377, (.aload_n 2, 1, 2, vU, [])),
  (378, (.invokevirtual 54, 3, 0, vU, [16, 85])),
  (381, (.iload 5, 2, 5, vU, [])),
  (383, (.if_icmp .eq 5, 3, 388, vU, [])),
  (386, (.iconst 0, 1, 0, vI 0, [])),
  (387, (.ireturn, 1, 0, vU, [])),
  (388, (.iload 5, 2, 5, vU, [])),
  (390, (.ifCond .ne 15, 3, 405, vU, [])),
  (393, (.aload_n 3, 1, 3, vU, [])),
  (394, (.iconst 0, 1, 0, vI 0, [])),
  (395, (.laload, 1, 0, vU, [])),
  (396, (.iload 6, 2, 6, vU, [])),
  (398, (.i2l, 1, 0, vU, [])),
  (399, (.lcmp, 1, 0, vU, [])),
  (400, (.ifCond .eq 5, 3, 405, vU, [])),
  (403, (.iconst 0, 1, 0, vI 0, [])),
  (404, (.ireturn, 1, 0, vU, [])),
  (405, (.goto 347, 3, 752, vU, [])),
  (408, (.aload_n 1, 1, 1, vU, [])),
  (409, (.aload_n 0, 1, 0, vU, [])),
  (410, (.iload 4, 2, 4, vU, [])),
  (412, (.iconst 1, 1, 0, vI 1, [])),
  (413, (.iadd, 1, 0, vU, [])),
  (414, (.iaload, 1, 0, vU, [])),
  (415, (.aload_n 0, 1, 0, vU, [])),
  (416, (.iload 4, 2, 4, vU, [])),
  (418, (.iconst 2, 1, 0, vI 2, [])),
  (419, (.iadd, 1, 0, vU, [])),
  (420, (.iaload, 1, 0, vU, [])),
  (421, (.aload_n 0, 1, 0, vU, [])),
  (422, (.iload 4, 2, 4, vU, [])),
  (424, (.iconst 3, 1, 0, vI 3, [])),
  (425, (.iadd, 1, 0, vU, [])),
  (426, (.iaload, 1, 0, vU, [])),
  (427, (.aload_n 3, 1, 3, vU, [])),
  (428, (.invokestatic 72, 3, 5, vU, [139])),
  (431, (.istore 5, 2, 5, vU, [])),
  (433, (.aload_n 2, 1, 2, vU, [])),
  (434, (.aload_n 0, 1, 0, vU, [])),
  (435, (.iload 4, 2, 4, vU, [])),
  (437, (.iconst 1, 1, 0, vI 1, [])),
  (438, (.iadd, 1, 0, vU, [])),
  (439, (.iaload, 1, 0, vU, [])),
  (440, (.aload_n 0, 1, 0, vU, [])),
  (441, (.iload 4, 2, 4, vU, [])),
  (443, (.iconst 2, 1, 0, vI 2, [])),
  (444, (.iadd, 1, 0, vU, [])),
  (445, (.iaload, 1, 0, vU, [])),
  (446, (.aload_n 0, 1, 0, vU, [])),
  (447, (.iload 4, 2, 4, vU, [])),
  (449, (.iconst 3, 1, 0, vI 3, [])),
  (450, (.iadd, 1, 0, vU, [])),
  (451, (.iaload, 1, 0, vU, [])),
  (452, (.invokevirtual 75, 3, 3, vU, [16, 95])),
  (455, (.istore 6, 2, 6, vU, [])),
  (457, (.aload_n 2, 1, 2, vU, [])),
  (458, (.invokevirtual 54, 3, 0, vU, [16, 85])),
  (461, (.iload 5, 2, 5, vU, [])),
  (463, (.if_icmp .eq 5, 3, 468, vU, [])),
  (466, (.iconst 0, 1, 0, vI 0, [])),
  (467, (.ireturn, 1, 0, vU, [])),
  (468, (.iload 5, 2, 5, vU, [])),
  (470, (.ifCond .ne 15, 3, 485, vU, [])),
  (473, (.aload_n 3, 1, 3, vU, [])),
  (474, (.iconst 0, 1, 0, vI 0, [])),
  (475, (.laload, 1, 0, vU, [])),
  (476, (.iload 6, 2, 6, vU, [])),
  (478, (.i2l, 1, 0, vU, [])),
  (479, (.lcmp, 1, 0, vU, [])),
  (480, (.ifCond .eq 5, 3, 485, vU, [])),
  (483, (.iconst 0, 1, 0, vI 0, [])),
  (484, (.ireturn, 1, 0, vU, [])),
  (485, (.goto 267, 3, 752, vU, [])),
  (488, (.aload_n 1, 1, 1, vU, [])),
  (489, (.aload_n 0, 1, 0, vU, [])),
  (490, (.iload 4, 2, 4, vU, [])),
  (492, (.iconst 1, 1, 0, vI 1, [])),
  (493, (.iadd, 1, 0, vU, [])),
  (494, (.iaload, 1, 0, vU, [])),
  (495, (.aload_n 0, 1, 0, vU, [])),
  (496, (.iload 4, 2, 4, vU, [])),
  (498, (.iconst 2, 1, 0, vI 2, [])),
  (499, (.iadd, 1, 0, vU, [])),
  (500, (.iaload, 1, 0, vU, [])),
  (501, (.aload_n 3, 1, 3, vU, [])),
  (502, (.invokestatic 76, 3, 4, vU, [140])),
  (505, (.istore 5, 2, 5, vU, [])),
  (507, (.aload_n 2, 1, 2, vU, [])),
  (508, (.aload_n 0, 1, 0, vU, [])),
  (509, (.iload 4, 2, 4, vU, [])),
  (511, (.iconst 1, 1, 0, vI 1, [])),
  (512, (.iadd, 1, 0, vU, [])),
  (513, (.iaload, 1, 0, vU, [])),
  (514, (.aload_n 0, 1, 0, vU, [])),
  (515, (.iload 4, 2, 4, vU, [])),
  (517, (.iconst 2, 1, 0, vI 2, [])),
  (518, (.iadd, 1, 0, vU, [])),
  (519, (.iaload, 1, 0, vU, [])),
  (520, (.invokevirtual 78, 3, 2, vU, [16, 96])),
  (523, (.istore 6, 2, 6, vU, [])),
  (525, (.aload_n 2, 1, 2, vU, [])),
  (526, (.invokevirtual 54, 3, 0, vU, [16, 85])),
  (529, (.iload 5, 2, 5, vU, [])),
  (531, (.if_icmp .eq 5, 3, 536, vU, [])),
  (534, (.iconst 0, 1, 0, vI 0, [])),
  (535, (.ireturn, 1, 0, vU, [])),
  (536, (.iload 5, 2, 5, vU, [])),
  (538, (.ifCond .ne 15, 3, 553, vU, [])),
  (541, (.aload_n 3, 1, 3, vU, [])),
  (542, (.iconst 0, 1, 0, vI 0, [])),
  (543, (.laload, 1, 0, vU, [])),
  (544, (.iload 6, 2, 6, vU, [])),
  (546, (.i2l, 1, 0, vU, [])),
  (547, (.lcmp, 1, 0, vU, [])),
  (548, (.ifCond .eq 5, 3, 553, vU, [])),
  (551, (.iconst 0, 1, 0, vI 0, [])),
  (552, (.ireturn, 1, 0, vU, [])),
  (553, (.goto 199, 3, 752, vU, [])),
  (556, (.aload_n 1, 1, 1, vU, [])),
  (557, (.aload_n 0, 1, 0, vU, [])),
  (558, (.iload 4, 2, 4, vU, [])),
  (560, (.iconst 1, 1, 0, vI 1, [])),
  (561, (.iadd, 1, 0, vU, [])),
  (562, (.iaload, 1, 0, vU, [])),
  (563, (.invokevirtual 79, 3, 1, vU, [0, 2])),
  (566, (.aload_n 2, 1, 2, vU, [])),
  (567, (.aload_n 0, 1, 0, vU, [])),
  (568, (.iload 4, 2, 4, vU, [])),
  (570, (.iconst 1, 1, 0, vI 1, [])),
  (571, (.iadd, 1, 0, vU, [])),
  (572, (.iaload, 1, 0, vU, [])),
  (573, (.invokevirtual 82, 3, 1, vU, [16, 97])),
  (576, (.if_icmp .eq 176, 3, 752, vU, [])),
  (579, (.iconst 0, 1, 0, vI 0, [])),
  (580, (.ireturn, 1, 0, vU, [])),
  (581, (.aload_n 1, 1, 1, vU, [])),
  (582, (.aload_n 0, 1, 0, vU, [])),
  (583, (.iload 4, 2, 4, vU, [])),
  (585, (.iconst 1, 1, 0, vI 1, [])),
  (586, (.iadd, 1, 0, vU, [])),
  (587, (.iaload, 1, 0, vU, [])),
  (588, (.invokevirtual 83, 3, 1, vU, [0, 3])),
  (591, (.aload_n 2, 1, 2, vU, [])),
  (592, (.aload_n 0, 1, 0, vU, [])),
  (593, (.iload 4, 2, 4, vU, [])),
  (595, (.iconst 1, 1, 0, vI 1, [])),
  (596, (.iadd, 1, 0, vU, [])),
  (597, (.iaload, 1, 0, vU, [])),
  (598, (.invokevirtual 87, 3, 1, vU, [16, 98])),
  (601, (.if_icmp .eq 151, 3, 752, vU, [])),
  (604, (.iconst 0, 1, 0, vI 0, [])),
  (605, (.ireturn, 1, 0, vU, [])),
  (606, (.aload_n 1, 1, 1, vU, [])),
  (607, (.invokevirtual 88, 3, 0, vU, [0, 4])),
  (610, (.aload_n 2, 1, 2, vU, [])),
  (611, (.invokevirtual 91, 3, 0, vU, [16, 99])),
  (614, (.if_icmp .eq 138, 3, 752, vU, [])),
  (617, (.iconst 0, 1, 0, vI 0, [])),
  (618, (.ireturn, 1, 0, vU, [])),
  (619, (.aload_n 1, 1, 1, vU, [])),
  (620, (.invokevirtual 92, 3, 0, vU, [0, 5])),
  (623, (.aload_n 2, 1, 2, vU, [])),
  (624, (.invokevirtual 95, 3, 0, vU, [16, 100])),
  (627, (.if_icmp .eq 125, 3, 752, vU, [])),
  (630, (.iconst 0, 1, 0, vI 0, [])),
  (631, (.ireturn, 1, 0, vU, [])),
  (632, (.aload_n 1, 1, 1, vU, [])),
  (633, (.aload_n 0, 1, 0, vU, [])),
  (634, (.iload 4, 2, 4, vU, [])),
  (636, (.iconst 1, 1, 0, vI 1, [])),
  (637, (.iadd, 1, 0, vU, [])),
  (638, (.iaload, 1, 0, vU, [])),
  (639, (.aload_n 3, 1, 3, vU, [])),
  (640, (.invokestatic 96, 3, 3, vU, [141])),
  (643, (.istore 5, 2, 5, vU, [])),
  (645, (.aload_n 2, 1, 2, vU, [])),
  (646, (.aload_n 0, 1, 0, vU, [])),
  (647, (.iload 4, 2, 4, vU, [])),
  (649, (.iconst 1, 1, 0, vI 1, [])),
  (650, (.iadd, 1, 0, vU, [])),
  (651, (.iaload, 1, 0, vU, [])),
  (652, (.invokevirtual 98, 3, 1, vU, [16, 110])),
  (655, (.istore 6, 2, 6, vU, [])),
  (657, (.aload_n 2, 1, 2, vU, [])),
  (658, (.invokevirtual 54, 3, 0, vU, [16, 85])),
  (661, (.iload 5, 2, 5, vU, [])),
  (663, (.if_icmp .eq 5, 3, 668, vU, [])),
  (666, (.iconst 0, 1, 0, vI 0, [])),
  (667, (.ireturn, 1, 0, vU, [])),
  (668, (.iload 5, 2, 5, vU, [])),
  (670, (.ifCond .ne 15, 3, 685, vU, [])),
  (673, (.aload_n 3, 1, 3, vU, [])),
  (674, (.iconst 0, 1, 0, vI 0, [])),
  (675, (.laload, 1, 0, vU, [])),
  (676, (.iload 6, 2, 6, vU, [])),
  (678, (.i2l, 1, 0, vU, [])),
  (679, (.lcmp, 1, 0, vU, [])),
  (680, (.ifCond .eq 5, 3, 685, vU, [])),
  (683, (.iconst 0, 1, 0, vI 0, [])),
  (684, (.ireturn, 1, 0, vU, [])),
  (685, (.goto 67, 3, 752, vU, [])),
  (688, (.aload_n 1, 1, 1, vU, [])),
  (689, (.invokevirtual 99, 3, 0, vU, [0, 7])),
  (692, (.aload_n 2, 1, 2, vU, [])),
  (693, (.invokevirtual 102, 3, 0, vU, [16, 128])),
  (696, (.if_icmp .eq 56, 3, 752, vU, [])),
  (699, (.iconst 0, 1, 0, vI 0, [])),
  (700, (.ireturn, 1, 0, vU, [])),
  (701, (.aload_n 1, 1, 1, vU, [])),
  (702, (.invokevirtual 103, 3, 0, vU, [0, 8])),
  (705, (.aload_n 2, 1, 2, vU, [])),
  (706, (.invokevirtual 106, 3, 0, vU, [16, 129])),
  (709, (.if_icmp .eq 43, 3, 752, vU, [])),
  (712, (.iconst 0, 1, 0, vI 0, [])),
  (713, (.ireturn, 1, 0, vU, [])),
  (714, (.aload_n 1, 1, 1, vU, [])),
  (715, (.aload_n 0, 1, 0, vU, [])),
  (716, (.iload 4, 2, 4, vU, [])),
  (718, (.iconst 1, 1, 0, vI 1, [])),
  (719, (.iadd, 1, 0, vU, [])),
  (720, (.iaload, 1, 0, vU, [])),
  (721, (.invokevirtual 107, 3, 1, vU, [0, 9])),
  (724, (.aload_n 2, 1, 2, vU, [])),
  (725, (.aload_n 0, 1, 0, vU, [])),
  (726, (.iload 4, 2, 4, vU, [])),
  (728, (.iconst 1, 1, 0, vI 1, [])),
  (729, (.iadd, 1, 0, vU, [])),
  (730, (.iaload, 1, 0, vU, [])),
  (731, (.invokevirtual 110, 3, 1, vU, [16, 130])),
  (734, (.if_icmp .eq 18, 3, 752, vU, [])),
  (737, (.iconst 0, 1, 0, vI 0, [])),
  (738, (.ireturn, 1, 0, vU, [])),
  (739, (.aload_n 1, 1, 1, vU, [])),
  (740, (.invokevirtual 111, 3, 0, vU, [0, 6])),
  (743, (.aload_n 2, 1, 2, vU, [])),
  (744, (.invokevirtual 114, 3, 0, vU, [16, 109])),
  (747, (.if_icmp .eq 5, 3, 752, vU, [])),
  (750, (.iconst 0, 1, 0, vI 0, [])),
  (751, (.ireturn, 1, 0, vU, [])),
  (752, (.iinc 4 4, 3, 4, vI 4, [])),
  (755, (.goto (-732), 3, 23, vU, [])),
  (758, (.iconst 1, 1, 0, vI 1, [])),
  (759, (.ireturn, 1, 0, vU, []))]
def x_code : List (List (Nat × EI)) := [c_0, c_1, c_2, c_3, c_4, c_5, c_6, c_7, c_8, c_9, c_10, c_11, c_12, c_13, c_14, c_15, c_16, c_17, c_18, c_19, c_20, c_21, c_22, c_23, c_24, c_25, c_26, c_27, c_28, c_29, c_30, c_31, c_32, c_33, c_34, c_35, c_36, c_37, c_38, c_39, c_40, c_41, c_42, c_43, c_44, c_45, c_46, c_47, c_48, c_49, c_50, c_51, c_52, c_53, c_54, c_55, c_56, c_57, c_58, c_59, c_60, c_61, c_62, c_63, c_64, c_65, c_66, c_67, c_68, c_69, c_70, c_71, c_72, c_73, c_74, c_75, c_76, c_77, c_78, c_79, c_80, c_81, c_82, c_83, c_84, c_85, c_86, c_87, c_88, c_89, c_90, c_91, c_92, c_93, c_94, c_95, c_96, c_97, c_98, c_99, c_100, c_101, c_102, c_103, c_104, c_105, c_106, c_107, c_108, c_109, c_110, c_111, c_112, c_113, c_114, c_115, c_116, c_117, c_118, c_119, c_120, c_121, c_122, c_123, c_124, c_125, c_126, c_127, c_128, c_129, c_130, c_131, c_132, c_133, c_134, c_135, c_136, c_137, c_138, c_139, c_140, c_141, c_142]
/-- methods: own class, maximal locals, whether it answers a boolean, handlers (from, to, handler, exception) -/
def x_meth : List (Nat × Nat × Bool × List (Nat × Nat × Nat × Nat)) := [(0, 1, false, []),
  (0, 3, true, []),
  (0, 2, false, []),
  (0, 2, true, []),
  (0, 2, false, []),
  (0, 2, false, [(0, 15, 18, 1)]),
  (0, 1, false, []),
  (0, 1, false, []),
  (0, 1, false, []),
  (0, 2, false, []),
  (0, 2, false, []),
  (0, 4, true, []),
  (0, 2, false, []),
  (0, 4, false, []),
  (0, 4, false, []),
  (0, 3, false, []),
  (0, 5, false, []),
  (0, 6, false, []),
  (0, 5, false, [(49, 55, 58, 3), (49, 55, 75, 1)]),
  (0, 6, false, []),
  (0, 4, false, []),
  (0, 3, false, []),
  (1, 3, false, []),
  (1, 3, false, []),
  (1, 3, false, []),
  (1, 4, false, []),
  (1, 1, false, []),
  (1, 3, false, []),
  (1, 1, false, []),
  (1, 3, false, []),
  (1, 1, false, []),
  (1, 3, false, []),
  (1, 3, false, []),
  (2, 5, false, []),
  (2, 1, true, []),
  (2, 2, true, []),
  (3, 3, false, []),
  (3, 1, true, []),
  (4, 3, false, []),
  (4, 1, true, []),
  (5, 6, false, []),
  (5, 3, true, []),
  (6, 1, false, []),
  (6, 1, false, []),
  (7, 2, false, []),
  (7, 4, false, []),
  (7, 4, false, []),
  (7, 7, false, []),
  (7, 3, false, []),
  (7, 1, false, []),
  (8, 5, false, []),
  (8, 2, true, []),
  (9, 1, false, []),
  (10, 3, false, []),
  (10, 1, true, []),
  (11, 6, false, []),
  (11, 2, true, []),
  (12, 2, true, []),
  (12, 2, true, []),
  (12, 2, false, []),
  (12, 5, false, []),
  (12, 2, false, []),
  (12, 2, false, []),
  (12, 2, false, []),
  (12, 3, false, []),
  (12, 3, false, []),
  (12, 5, false, []),
  (13, 3, false, []),
  (13, 2, true, []),
  (14, 1, false, []),
  (14, 4, false, []),
  (14, 5, false, []),
  (14, 5, false, []),
  (14, 8, false, []),
  (14, 5, false, []),
  (14, 3, false, []),
  (14, 4, false, []),
  (14, 2, false, []),
  (14, 6, false, []),
  (14, 4, false, []),
  (14, 5, false, []),
  (15, 1, false, []),
  (15, 6, false, []),
  (15, 1, false, []),
  (16, 1, false, []),
  (16, 1, false, []),
  (16, 2, false, []),
  (16, 3, true, []),
  (16, 2, true, []),
  (16, 3, true, []),
  (16, 3, true, []),
  (16, 3, false, []),
  (16, 5, false, []),
  (16, 4, false, []),
  (16, 5, false, []),
  (16, 4, false, []),
  (16, 6, false, []),
  (16, 2, false, []),
  (16, 2, true, []),
  (16, 2, false, []),
  (16, 1, false, []),
  (16, 3, false, []),
  (16, 3, false, []),
  (16, 2, false, []),
  (16, 3, false, []),
  (16, 3, false, []),
  (16, 2, true, []),
  (16, 4, false, []),
  (16, 4, false, []),
  (16, 1, false, []),
  (16, 2, false, []),
  (16, 3, false, []),
  (16, 4, false, []),
  (16, 4, false, []),
  (16, 4, false, []),
  (16, 4, false, []),
  (16, 9, false, []),
  (16, 1, true, []),
  (16, 5, false, []),
  (16, 4, false, []),
  (16, 3, true, []),
  (16, 3, true, []),
  (16, 4, false, []),
  (16, 4, false, []),
  (16, 4, true, []),
  (16, 3, false, []),
  (16, 2, true, []),
  (16, 10, false, []),
  (16, 1, false, []),
  (16, 1, false, []),
  (16, 2, false, []),
  (17, 1, false, []),
  (17, 4, false, []),
  (18, 2, false, []),
  (18, 1, false, []),
  (19, 4, false, [(0, 9, 12, 0), (0, 9, 15, 3)]),
  (19, 5, false, [(0, 17, 20, 2)]),
  (19, 4, false, [(0, 9, 12, 2), (0, 9, 15, 1), (0, 9, 18, 3)]),
  (19, 5, false, [(0, 10, 13, 2), (0, 10, 17, 4)]),
  (19, 6, false, [(0, 12, 15, 2), (0, 12, 19, 4)]),
  (19, 5, false, [(0, 10, 13, 2), (0, 10, 17, 4)]),
  (19, 4, false, [(0, 9, 12, 0), (0, 9, 15, 1), (0, 9, 18, 3)]),
  (19, 7, true, [])]
def x_name : List (MethodName × ByteArray × Option FieldType × List (Nat × Nat × Nat × Nat)) := [(⟨"PlannedTables", "<init>", "()V"⟩, prog_1_method_1_code, none, []),
  (⟨"PlannedTables", "stage", "(II)Z"⟩, prog_1_method_5_code, (some .boolean), []),
  (⟨"PlannedTables", "rows", "(I)I"⟩, prog_1_method_11_code, (some .int), []),
  (⟨"PlannedTables", "word", "(I)Z"⟩, prog_1_method_12_code, (some .boolean), []),
  (⟨"PlannedTables", "clear", "()I"⟩, prog_1_method_13_code, (some .int), []),
  (⟨"PlannedTables", "fault", "()I"⟩, prog_1_method_14_code, (some .int), [(0, 15, 18, 84)]),
  (⟨"PlannedTables", "width", "()I"⟩, prog_1_method_15_code, (some .int), []),
  (⟨"PlannedTables", "visits", "()I"⟩, prog_1_method_20_code, (some .int), []),
  (⟨"PlannedTables", "size", "()I"⟩, prog_1_method_21_code, (some .int), []),
  (⟨"PlannedTables", "out", "(I)I"⟩, prog_1_method_22_code, (some .int), []),
  (⟨"PlannedTables", "table", "(I)I"⟩, prog_1_method_2_code, (some .int), []),
  (⟨"PlannedTables", "index", "(II)Z"⟩, prog_1_method_4_code, (some .boolean), []),
  (⟨"PlannedTables", "find", "(I)LPlannedTables$Table;"⟩, prog_1_method_3_code, (some (.object "PlannedTables$Table")), []),
  (⟨"PlannedTables", "insert", "(I)I"⟩, prog_1_method_6_code, (some .int), []),
  (⟨"PlannedTables", "delete", "(II)I"⟩, prog_1_method_8_code, (some .int), []),
  (⟨"PlannedTables", "wanted", "(LPlannedTables$Table;I)LPlannedTables$Row;"⟩, prog_1_method_7_code, (some (.object "PlannedTables$Row")), []),
  (⟨"PlannedTables", "cell", "(III)I"⟩, prog_1_method_9_code, (some .int), []),
  (⟨"PlannedTables", "keyFrom", "(II)I"⟩, prog_1_method_10_code, (some .int), []),
  (⟨"PlannedTables", "run", "(I)I"⟩, prog_1_method_19_code, (some .int), [(49, 55, 58, 52), (49, 55, 75, 84)]),
  (⟨"PlannedTables", "build", "()LPlannedTables$Stage;"⟩, prog_1_method_16_code, (some (.object "PlannedTables$Stage")), []),
  (⟨"PlannedTables", "step", "(LPlannedTables$Stage;II)LPlannedTables$Stage;"⟩, prog_1_method_17_code, (some (.object "PlannedTables$Stage")), []),
  (⟨"PlannedTables", "drain", "(LPlannedTables$Stage;)I"⟩, prog_1_method_18_code, (some .int), []),
  (⟨"PlannedTables$Checker", "<init>", "([I[LPlannedTables$Table;)V"⟩, prog_2_method_1_code, none, []),
  (⟨"PlannedTables$Checker", "check", "(II)V"⟩, prog_2_method_11_code, none, []),
  (⟨"PlannedTables$Checker", "source", "()V"⟩, prog_2_method_7_code, none, []),
  (⟨"PlannedTables$Checker", "from", "(II)I"⟩, prog_2_method_4_code, (some .int), []),
  (⟨"PlannedTables$Checker", "word", "()I"⟩, prog_2_method_3_code, (some .int), []),
  (⟨"PlannedTables$Checker", "want", "(ZI)V"⟩, prog_2_method_2_code, none, []),
  (⟨"PlannedTables$Checker", "table", "()LPlannedTables$Table;"⟩, prog_2_method_5_code, (some (.object "PlannedTables$Table")), []),
  (⟨"PlannedTables$Checker", "indexed", "(LPlannedTables$Table;)V"⟩, prog_2_method_6_code, none, []),
  (⟨"PlannedTables$Checker", "step", "()V"⟩, prog_2_method_8_code, none, []),
  (⟨"PlannedTables$Checker", "pick", "()V"⟩, prog_2_method_9_code, none, []),
  (⟨"PlannedTables$Checker", "join", "()V"⟩, prog_2_method_10_code, none, []),
  (⟨"PlannedTables$Filter", "<init>", "(LPlannedTables$Stage;III)V"⟩, prog_3_method_1_code, none, []),
  (⟨"PlannedTables$Filter", "next", "()Z"⟩, prog_3_method_3_code, (some .boolean), []),
  (⟨"PlannedTables$Filter", "fits", "(I)Z"⟩, prog_3_method_2_code, (some .boolean), []),
  (⟨"PlannedTables$Grouper", "<init>", "(LPlannedTables$Stage;I)V"⟩, prog_4_method_1_code, none, []),
  (⟨"PlannedTables$Grouper", "next", "()Z"⟩, prog_4_method_2_code, (some .boolean), []),
  (⟨"PlannedTables$Head", "<init>", "(LPlannedTables$Stage;I)V"⟩, prog_5_method_1_code, none, []),
  (⟨"PlannedTables$Head", "next", "()Z"⟩, prog_5_method_2_code, (some .boolean), []),
  (⟨"PlannedTables$Joiner", "<init>", "(LPlannedTables$Stage;LPlannedTables$Meter;LPlannedTables$Table;II)V"⟩, prog_6_method_1_code, none, []),
  (⟨"PlannedTables$Joiner", "next", "()Z"⟩, prog_6_method_2_code, (some .boolean), []),
  (⟨"PlannedTables$Meter", "<init>", "()V"⟩, prog_7_method_1_code, none, []),
  (⟨"PlannedTables$Meter", "visit", "()V"⟩, prog_7_method_2_code, none, []),
  (⟨"PlannedTables$Page", "<init>", "(Z)V"⟩, prog_8_method_1_code, none, []),
  (⟨"PlannedTables$Page", "branch", "(J)I"⟩, prog_8_method_3_code, (some .int), []),
  (⟨"PlannedTables$Page", "place", "(J)I"⟩, prog_8_method_2_code, (some .int), []),
  (⟨"PlannedTables$Page", "insert", "(IJLPlannedTables$Row;LPlannedTables$Page;)V"⟩, prog_8_method_4_code, none, []),
  (⟨"PlannedTables$Page", "remove", "(I)V"⟩, prog_8_method_5_code, none, []),
  (⟨"PlannedTables$Page", "removeFirst", "()V"⟩, prog_8_method_6_code, none, []),
  (⟨"PlannedTables$Picker", "<init>", "(LPlannedTables$Stage;[III)V"⟩, prog_9_method_1_code, none, []),
  (⟨"PlannedTables$Picker", "next", "()Z"⟩, prog_9_method_2_code, (some .boolean), []),
  (⟨"PlannedTables$Row", "<init>", "()V"⟩, prog_10_method_1_code, none, []),
  (⟨"PlannedTables$Skipper", "<init>", "(LPlannedTables$Stage;I)V"⟩, prog_11_method_1_code, none, []),
  (⟨"PlannedTables$Skipper", "next", "()Z"⟩, prog_11_method_2_code, (some .boolean), []),
  (⟨"PlannedTables$Source", "<init>", "(LPlannedTables$Meter;LPlannedTables$Table;III)V"⟩, prog_12_method_1_code, none, []),
  (⟨"PlannedTables$Source", "next", "()Z"⟩, prog_12_method_2_code, (some .boolean), []),
  (⟨"PlannedTables$Table", "isIndexed", "(I)Z"⟩, prog_15_method_3_code, (some .boolean), []),
  (⟨"PlannedTables$Table", "isColumn", "(I)Z"⟩, prog_15_method_2_code, (some .boolean), []),
  (⟨"PlannedTables$Table", "<init>", "(I)V"⟩, prog_15_method_1_code, none, []),
  (⟨"PlannedTables$Table", "index", "(I)V"⟩, prog_15_method_9_code, none, []),
  (⟨"PlannedTables$Table", "placeOf", "(LPlannedTables$Row;I)J"⟩, prog_15_method_5_code, (some .long), []),
  (⟨"PlannedTables$Table", "place", "(II)J"⟩, prog_15_method_4_code, (some .long), []),
  (⟨"PlannedTables$Table", "find", "(I)LPlannedTables$Row;"⟩, prog_15_method_6_code, (some (.object "PlannedTables$Row")), []),
  (⟨"PlannedTables$Table", "add", "(LPlannedTables$Row;)V"⟩, prog_15_method_7_code, none, []),
  (⟨"PlannedTables$Table", "remove", "(LPlannedTables$Row;)V"⟩, prog_15_method_8_code, none, []),
  (⟨"PlannedTables$Table", "walk", "(LPlannedTables$Walker;III)V"⟩, prog_15_method_10_code, none, []),
  (⟨"PlannedTables$Total", "<init>", "(LPlannedTables$Stage;I)V"⟩, prog_16_method_1_code, none, []),
  (⟨"PlannedTables$Total", "next", "()Z"⟩, prog_16_method_2_code, (some .boolean), []),
  (⟨"PlannedTables$Tree", "<init>", "()V"⟩, prog_17_method_1_code, none, []),
  (⟨"PlannedTables$Tree", "leafFor", "(J)LPlannedTables$Page;"⟩, prog_17_method_2_code, (some (.object "PlannedTables$Page")), []),
  (⟨"PlannedTables$Tree", "add", "(JLPlannedTables$Row;)V"⟩, prog_17_method_4_code, none, []),
  (⟨"PlannedTables$Tree", "put", "(LPlannedTables$Page;JLPlannedTables$Row;)V"⟩, prog_17_method_5_code, none, []),
  (⟨"PlannedTables$Tree", "split", "(LPlannedTables$Page;I)V"⟩, prog_17_method_6_code, none, []),
  (⟨"PlannedTables$Tree", "find", "(J)LPlannedTables$Row;"⟩, prog_17_method_3_code, (some (.object "PlannedTables$Row")), []),
  (⟨"PlannedTables$Tree", "remove", "(J)V"⟩, prog_17_method_7_code, none, []),
  (⟨"PlannedTables$Tree", "take", "(LPlannedTables$Page;J)V"⟩, prog_17_method_8_code, none, []),
  (⟨"PlannedTables$Tree", "fill", "(LPlannedTables$Page;I)V"⟩, prog_17_method_9_code, none, []),
  (⟨"PlannedTables$Tree", "fromLeft", "(LPlannedTables$Page;I)V"⟩, prog_17_method_10_code, none, []),
  (⟨"PlannedTables$Tree", "fromRight", "(LPlannedTables$Page;I)V"⟩, prog_17_method_11_code, none, []),
  (⟨"PlannedTables$Tree", "join", "(LPlannedTables$Page;I)V"⟩, prog_17_method_12_code, none, []),
  (⟨"PlannedTables$Walker", "<init>", "()V"⟩, prog_18_method_1_code, none, []),
  (⟨"PlannedTables$Walker", "open", "(LPlannedTables$Tree;JJ)V"⟩, prog_18_method_2_code, none, []),
  (⟨"PlannedTables$Walker", "next", "()LPlannedTables$Row;"⟩, prog_18_method_3_code, (some (.object "PlannedTables$Row")), []),
  (⟨"PlannedTablesModel", "<init>", "()V"⟩, prog_20_method_1_code, none, []),
  (⟨"PlannedTablesModel", "thrown", "()I"⟩, prog_20_method_2_code, (some .int), []),
  (⟨"PlannedTablesModel", "table", "(I)I"⟩, prog_20_method_5_code, (some .int), []),
  (⟨"PlannedTablesModel", "index", "(II)Z"⟩, prog_20_method_6_code, (some .boolean), []),
  (⟨"PlannedTablesModel", "isTable", "(I)Z"⟩, prog_20_method_3_code, (some .boolean), []),
  (⟨"PlannedTablesModel", "isColumn", "(II)Z"⟩, prog_20_method_4_code, (some .boolean), []),
  (⟨"PlannedTablesModel", "stage", "(II)Z"⟩, prog_20_method_7_code, (some .boolean), []),
  (⟨"PlannedTablesModel", "insert", "(I)I"⟩, prog_20_method_10_code, (some .int), []),
  (⟨"PlannedTablesModel", "rowWith", "(II)I"⟩, prog_20_method_8_code, (some .int), []),
  (⟨"PlannedTablesModel", "rowsOf", "(I)I"⟩, prog_20_method_9_code, (some .int), []),
  (⟨"PlannedTablesModel", "delete", "(II)I"⟩, prog_20_method_11_code, (some .int), []),
  (⟨"PlannedTablesModel", "cell", "(III)I"⟩, prog_20_method_12_code, (some .int), []),
  (⟨"PlannedTablesModel", "keyFrom", "(II)I"⟩, prog_20_method_13_code, (some .int), []),
  (⟨"PlannedTablesModel", "rows", "(I)I"⟩, prog_20_method_14_code, (some .int), []),
  (⟨"PlannedTablesModel", "word", "(I)Z"⟩, prog_20_method_15_code, (some .boolean), []),
  (⟨"PlannedTablesModel", "clear", "()I"⟩, prog_20_method_16_code, (some .int), []),
  (⟨"PlannedTablesModel", "fault", "()I"⟩, prog_20_method_25_code, (some .int), []),
  (⟨"PlannedTablesModel", "readPlan", "()V"⟩, prog_20_method_24_code, none, []),
  (⟨"PlannedTablesModel", "readSource", "()V"⟩, prog_20_method_19_code, none, []),
  (⟨"PlannedTablesModel", "wordAt", "(I)I"⟩, prog_20_method_18_code, (some .int), []),
  (⟨"PlannedTablesModel", "demand", "(IZ)V"⟩, prog_20_method_17_code, none, []),
  (⟨"PlannedTablesModel", "readStep", "(II)I"⟩, prog_20_method_23_code, (some .int), []),
  (⟨"PlannedTablesModel", "isCell", "(I)Z"⟩, prog_20_method_20_code, (some .boolean), []),
  (⟨"PlannedTablesModel", "readCells", "(I)I"⟩, prog_20_method_21_code, (some .int), []),
  (⟨"PlannedTablesModel", "readJoin", "(I)I"⟩, prog_20_method_22_code, (some .int), []),
  (⟨"PlannedTablesModel", "width", "()I"⟩, prog_20_method_26_code, (some .int), []),
  (⟨"PlannedTablesModel", "run", "(I)I"⟩, prog_20_method_44_code, (some .int), []),
  (⟨"PlannedTablesModel", "ready", "(I)V"⟩, prog_20_method_42_code, none, []),
  (⟨"PlannedTablesModel", "go", "()V"⟩, prog_20_method_43_code, none, []),
  (⟨"PlannedTablesModel", "waiting", "(I)I"⟩, prog_20_method_38_code, (some .int), []),
  (⟨"PlannedTablesModel", "satisfied", "(I)I"⟩, prog_20_method_39_code, (some .int), []),
  (⟨"PlannedTablesModel", "follow", "(I)V"⟩, prog_20_method_40_code, none, []),
  (⟨"PlannedTablesModel", "nextOfStep", "(I)I"⟩, prog_20_method_29_code, (some .int), []),
  (⟨"PlannedTablesModel", "visit", "()Z"⟩, prog_20_method_27_code, (some .boolean), []),
  (⟨"PlannedTablesModel", "load", "(III)V"⟩, prog_20_method_36_code, none, []),
  (⟨"PlannedTablesModel", "push", "(I)V"⟩, prog_20_method_35_code, none, []),
  (⟨"PlannedTablesModel", "goesOn", "(I)Z"⟩, prog_20_method_34_code, (some .boolean), []),
  (⟨"PlannedTablesModel", "passes", "(III)Z"⟩, prog_20_method_30_code, (some .boolean), []),
  (⟨"PlannedTablesModel", "choose", "(I)V"⟩, prog_20_method_31_code, none, []),
  (⟨"PlannedTablesModel", "hold", "(II)V"⟩, prog_20_method_32_code, none, []),
  (⟨"PlannedTablesModel", "runEnds", "(I)Z"⟩, prog_20_method_33_code, (some .boolean), []),
  (⟨"PlannedTablesModel", "close", "(I)V"⟩, prog_20_method_37_code, none, []),
  (⟨"PlannedTablesModel", "begin", "()Z"⟩, prog_20_method_41_code, (some .boolean), []),
  (⟨"PlannedTablesModel", "nextOfSource", "()I"⟩, prog_20_method_28_code, (some .int), []),
  (⟨"PlannedTablesModel", "visits", "()I"⟩, prog_20_method_45_code, (some .int), []),
  (⟨"PlannedTablesModel", "size", "()I"⟩, prog_20_method_46_code, (some .int), []),
  (⟨"PlannedTablesModel", "out", "(I)I"⟩, prog_20_method_47_code, (some .int), []),
  (⟨"PlannedTables$Stage", "<init>", "()V"⟩, prog_13_method_1_code, none, []),
  (⟨"PlannedTables$Stage", "copy", "([III)V"⟩, prog_13_method_3_code, none, []),
  (⟨"PlannedTables$Step", "<init>", "(LPlannedTables$Stage;)V"⟩, prog_14_method_1_code, none, []),
  (⟨"PlannedTables$Step", "pass", "()V"⟩, prog_14_method_2_code, none, []),
  (⟨"PlannedTablesLaw", "table", "(LPlannedTables;I[J)I"⟩, method_3_code, (some .int), [(0, 9, 12, 13), (0, 9, 15, 15)]),
  (⟨"PlannedTablesLaw", "index", "(LPlannedTables;II[J)I"⟩, method_4_code, (some .int), [(0, 17, 20, 21)]),
  (⟨"PlannedTablesLaw", "insert", "(LPlannedTables;I[J)I"⟩, method_5_code, (some .int), [(0, 9, 12, 21), (0, 9, 15, 26), (0, 9, 18, 15)]),
  (⟨"PlannedTablesLaw", "delete", "(LPlannedTables;II[J)I"⟩, method_6_code, (some .int), [(0, 10, 13, 21), (0, 10, 17, 32)]),
  (⟨"PlannedTablesLaw", "cell", "(LPlannedTables;III[J)I"⟩, method_7_code, (some .int), [(0, 12, 15, 21), (0, 12, 19, 32)]),
  (⟨"PlannedTablesLaw", "keyFrom", "(LPlannedTables;II[J)I"⟩, method_8_code, (some .int), [(0, 10, 13, 21), (0, 10, 17, 32)]),
  (⟨"PlannedTablesLaw", "run", "(LPlannedTables;I[J)I"⟩, method_9_code, (some .int), [(0, 9, 12, 13), (0, 9, 15, 26), (0, 9, 18, 15)]),
  (⟨"PlannedTablesLaw", "law", "([I)Z"⟩, code, (some .boolean), [])]
def mO (M : Nat) : Nat := (x_meth.getD M (0, 0, false, [])).1
def mL (M : Nat) : Nat := (x_meth.getD M (0, 0, false, [])).2.1
def mZ (M : Nat) : Bool := (x_meth.getD M (0, 0, false, [])).2.2.1
def mH (M : Nat) : List (Nat × Nat × Nat × Nat) := (x_meth.getD M (0, 0, false, [])).2.2.2
def fetch (M pc : Nat) : Option EI := (x_code.getD M []).lookup pc
end
section
/-! ===== THE INTERPRETER AS A PREDICATE TRANSFORMER ===== -/
abbrev PT : Type := (Option AV ⊕ Nat) → AH → Prop
/-- depth, method, pc, locals, stack, heap, post -/
abbrev FT : Type := Nat → Nat → Nat → List AV → List AV → AH → PT → Prop
def pI (st : List AV) (f : Int32 → List AV → Prop) : Prop := match st with
  | .inl x :: r => f x r
  | _ => False
def pL (st : List AV) (f : Int64 → List AV → Prop) : Prop := match st with
  | .inr (.inl x) :: r => f x r
  | _ => False
def pR (st : List AV) (f : Option Nat → List AV → Prop) : Prop := match st with
  | .inr (.inr (.inl x)) :: r => f x r
  | _ => False
def pA (st : List AV) (f : Nat → List AV → Prop) : Prop := match st with
  | .inr (.inr (.inl (some x))) :: r => f x r
  | _ => False
theorem pI_inv {st : List AV} {f : Int32 → List AV → Prop} (h : pI st f) : ∃ x r, st = vI x :: r ∧ f x r := by
  unfold pI at h; split at h
  · exact ⟨_, _, rfl, h⟩
  · exact h.elim
theorem pL_inv {st : List AV} {f : Int64 → List AV → Prop} (h : pL st f) : ∃ x r, st = vL x :: r ∧ f x r := by
  unfold pL at h; split at h
  · exact ⟨_, _, rfl, h⟩
  · exact h.elim
theorem pR_inv {st : List AV} {f : Option Nat → List AV → Prop} (h : pR st f) : ∃ x r, st = vR x :: r ∧ f x r := by
  unfold pR at h; split at h
  · exact ⟨_, _, rfl, h⟩
  · exact h.elim
theorem pA_inv {st : List AV} {f : Nat → List AV → Prop} (h : pA st f) : ∃ x r, st = vR (some x) :: r ∧ f x r := by
  unfold pA at h; split at h
  · exact ⟨_, _, rfl, h⟩
  · exact h.elim
theorem pI_mono {st : List AV} {f g : Int32 → List AV → Prop} (h : ∀ x r, f x r → g x r) (k : pI st f) : pI st g := by
  obtain ⟨x, r, rfl, k⟩ := pI_inv k; exact h x r k
theorem pL_mono {st : List AV} {f g : Int64 → List AV → Prop} (h : ∀ x r, f x r → g x r) (k : pL st f) : pL st g := by
  obtain ⟨x, r, rfl, k⟩ := pL_inv k; exact h x r k
theorem pR_mono {st : List AV} {f g : Option Nat → List AV → Prop} (h : ∀ x r, f x r → g x r) (k : pR st f) : pR st g := by
  obtain ⟨x, r, rfl, k⟩ := pR_inv k; exact h x r k
theorem pA_mono {st : List AV} {f g : Nat → List AV → Prop} (h : ∀ x r, f x r → g x r) (k : pA st f) : pA st g := by
  obtain ⟨x, r, rfl, k⟩ := pA_inv k; exact h x r k
def lg (ls : List AV) (k : Nat) : AV := ls.getD k vU
/-- a store in the locals: a long at the place before falls -/
def kl (v : AV) : AV := match v with
  | .inr (.inl _) => vU
  | w => w
def st1 : List AV → Nat → AV → List AV
  | [], _, _ => []
  | _ :: xs, 0, v => v :: xs
  | x :: xs, 1, v => kl x :: st1 xs 0 v
  | x :: xs, n + 2, v => x :: st1 xs (n + 1) v
def st2 : List AV → Nat → AV → List AV
  | [], _, _ => []
  | _ :: xs, 0, v => v :: xs.set 0 vU
  | x :: xs, 1, v => kl x :: st2 xs 0 v
  | x :: xs, n + 2, v => x :: st2 xs (n + 1) v
def cQ (c : ClassFile.Cond) (x y : Int32) : Prop := match c with
  | .eq => x = y
  | .ne => ¬ x = y
  | .lt => x < y
  | .ge => y ≤ x
  | .gt => y < x
  | .le => x ≤ y
def brQ (c A B : Prop) : Prop := (c → A) ∧ (¬ c → B)
def idsOf (c : Nat) : List Nat := x_ids.getD c []
def fok (h : AH) (a f : Nat) : Prop := (match hT h a with
  | some t => (idsOf t.1).contains f
  | none => false) = true
/-- an index within an array of the type ty -/
def ain (h : AH) (a ty : Nat) (i : Int32) : Prop := ∃ n, hT h a = some (100 + ty, n) ∧ vp_in i n
def aIn (h : AH) (a : Nat) (i : Int32) : Prop := ∃ n, (hT h a = some (100, n) ∨ hT h a = some (107, n)) ∧ vp_in i n
/-- the class of the elements of an array of references -/
def cmpC (ty : Nat) : Nat := if ty = 3 then 9 else if ty = 4 then 7 else if ty = 5 then 14 else 12
def aRf (h : AH) (a : Nat) (i : Int32) : Prop := ∃ ty n, 3 ≤ ty ∧ ty ≤ 6 ∧ hT h a = some (100 + ty, n) ∧ vp_in i n
def aRs (h : AH) (a : Nat) (i : Int32) (r : Option Nat) : Prop := ∃ ty n, 3 ≤ ty ∧ ty ≤ 6 ∧ hT h a = some (100 + ty, n) ∧ vp_in i n ∧ ∀ b, r = some b → ∃ k, hT h b = some (cmpC ty, k)
def isB (x : Int32) : Prop := x = 0 ∨ x = 1
def fgt (h : AH) (a f : Nat) : AV := match f % 4 with
  | 1 => vL (hL h a f)
  | 2 => vR (hR h a f)
  | _ => vI (hI h a f)
/-- a switch: the targets from lo on -/
def swQ (x : Int32) (K : Nat → Prop) : Int32 → List Nat → Prop
  | _, [] => True
  | lo, t :: r => (x = lo → K t) ∧ swQ x K (lo + 1) r
def dsp : List Nat → Nat → Option Nat
  | c :: m :: r, k => if k = c then some m else dsp r k
  | _, _ => none
def sl2 (v : AV) : List AV := match v with
  | .inr (.inl x) => [vL x, vU]
  | w => [w]
def ent (n : Nat) (args : List AV) : List AV := args.flatMap sl2 ++ List.replicate (n - (args.flatMap sl2).length) vU
def hfnd (hs : List (Nat × Nat × Nat × Nat)) (pc e : Nat) : Option Nat := (hs.find? (fun x => Nat.ble x.1 pc && Nat.blt pc x.2.1 && Nat.beq (50 + x.2.2.2) e)).map (fun x => x.2.2.1)
/-- an exception a has come up at pc -/
def thrQ (F : FT) (d M : Nat) (P : PT) (pc : Nat) (ls : List AV) (a : Nat) (h : AH) : Prop :=
  ∃ e n, hT h a = some (e, n) ∧ (50 ≤ e ∧ e < 55) ∧ (match hfnd (mH M) pc e with
    | some hp => F d M hp ls [vR (some a)] h P
    | none => P (.inr a) h)
/-- arguments that fit into so many locals -/
def aokB : List AV → Nat → Bool
  | [], _ => true
  | .inl _ :: r, n + 1 => aokB r n
  | .inr (.inl _) :: r, n + 2 => aokB r n
  | .inr (.inr (.inl _)) :: r, n + 1 => aokB r n
  | _, _ => false
def calQ (F : FT) (d M : Nat) (P : PT) (pc : Nat) (ls rest : List AV) (M' : Nat) (args : List AV) (h : AH) : Prop := match d with
  | 0 => False
  | d' + 1 => rest.length ≤ 4 ∧ aokB args (mL M') = true ∧ F d' M' 0 (ent (mL M') args) [] h (fun o h' => match o with
    | .inl v => F (d' + 1) M (pc + 3) ls (v.toList ++ rest) h' P
    | .inr a => thrQ F (d' + 1) M P pc ls a h')
def nSlots (c : Nat) : Nat := (idsOf c).length
def stepQ (F : FT) (d M : Nat) (P : PT) (pc : Nat) (e : EI) (ls st : List AV) (h : AH) : Prop := match e.1 with
  | .aconst_null => F d M (pc + 1) ls (vR none :: st) h P
  | .iconst _ => F d M (pc + 1) ls (e.2.2.2.1 :: st) h P
  | .bipush _ => F d M (pc + 2) ls (e.2.2.2.1 :: st) h P
  | .sipush _ => F d M (pc + 3) ls (e.2.2.2.1 :: st) h P
  | .lconst _ => F d M (pc + 1) ls (e.2.2.2.1 :: st) h P
  | .ldc _ => e.2.2.1 = 0 ∧ F d M (pc + 2) ls (e.2.2.2.1 :: st) h P
  | .ldc2_w _ => F d M (pc + 3) ls (e.2.2.2.1 :: st) h P
  | .iload _ => pI [lg ls e.2.2.1] fun x _ => F d M (pc + 2) ls (vI x :: st) h P
  | .iload_n _ => pI [lg ls e.2.2.1] fun x _ => F d M (pc + 1) ls (vI x :: st) h P
  | .lload _ => pL [lg ls e.2.2.1] fun x _ => F d M (pc + 2) ls (vL x :: st) h P
  | .lload_n _ => pL [lg ls e.2.2.1] fun x _ => F d M (pc + 1) ls (vL x :: st) h P
  | .aload _ => pR [lg ls e.2.2.1] fun x _ => F d M (pc + 2) ls (vR x :: st) h P
  | .aload_n _ => pR [lg ls e.2.2.1] fun x _ => F d M (pc + 1) ls (vR x :: st) h P
  | .istore _ => pI st fun x st => F d M (pc + 2) (st1 ls e.2.2.1 (vI x)) st h P
  | .istore_n _ => pI st fun x st => F d M (pc + 1) (st1 ls e.2.2.1 (vI x)) st h P
  | .lstore _ => pL st fun x st => F d M (pc + 2) (st2 ls e.2.2.1 (vL x)) st h P
  | .lstore_n _ => pL st fun x st => F d M (pc + 1) (st2 ls e.2.2.1 (vL x)) st h P
  | .astore _ => pR st fun x st => F d M (pc + 2) (st1 ls e.2.2.1 (vR x)) st h P
  | .astore_n _ => pR st fun x st => F d M (pc + 1) (st1 ls e.2.2.1 (vR x)) st h P
  | .iinc _ _ => pI [lg ls e.2.2.1] fun x _ => pI [e.2.2.2.1] fun c _ => F d M (pc + 3) (st1 ls e.2.2.1 (vI (x + c))) st h P
  | .iadd => pI st fun y st => pI st fun x st => F d M (pc + 1) ls (vI (x + y) :: st) h P
  | .isub => pI st fun y st => pI st fun x st => F d M (pc + 1) ls (vI (x - y) :: st) h P
  | .imul => pI st fun y st => pI st fun x st => F d M (pc + 1) ls (vI (x * y) :: st) h P
  | .iand => pI st fun y st => pI st fun x st => F d M (pc + 1) ls (vI (x &&& y) :: st) h P
  | .idiv => pI st fun y st => pI st fun x st => ¬ y = 0 ∧ F d M (pc + 1) ls (vI (x / y) :: st) h P
  | .ladd => pL st fun y st => pL st fun x st => F d M (pc + 1) ls (vL (x + y) :: st) h P
  | .lor => pL st fun y st => pL st fun x st => F d M (pc + 1) ls (vL (x ||| y) :: st) h P
  | .lshl => pI st fun y st => pL st fun x st => F d M (pc + 1) ls (vL (x <<< (y.toInt64 &&& 63)) :: st) h P
  | .lcmp => pL st fun y st => pL st fun x st => F d M (pc + 1) ls (vI (lg_cmp x y) :: st) h P
  | .i2l => pI st fun x st => F d M (pc + 1) ls (vL x.toInt64 :: st) h P
  | .pop => (pI st fun _ st => F d M (pc + 1) ls st h P) ∨ (pR st fun _ st => F d M (pc + 1) ls st h P)
  | .dup => (pI st fun x st => F d M (pc + 1) ls (vI x :: vI x :: st) h P) ∨ (pR st fun x st => F d M (pc + 1) ls (vR x :: vR x :: st) h P)
  | .dup_x1 => pI st fun x st => pR st fun y st => F d M (pc + 1) ls (vI x :: vR y :: vI x :: st) h P
  | .dup2 => pI st fun x st => pR st fun y st => F d M (pc + 1) ls (vI x :: vR y :: vI x :: vR y :: st) h P
  | .ifCond c _ => pI st fun x st => brQ (cQ c x 0) (F d M e.2.2.1 ls st h P) (F d M (pc + 3) ls st h P)
  | .if_icmp c _ => pI st fun y st => pI st fun x st => brQ (cQ c x y) (F d M e.2.2.1 ls st h P) (F d M (pc + 3) ls st h P)
  | .ifnull _ => pR st fun x st => brQ (x = none) (F d M e.2.2.1 ls st h P) (F d M (pc + 3) ls st h P)
  | .ifnonnull _ => pR st fun x st => brQ (x = none) (F d M (pc + 3) ls st h P) (F d M e.2.2.1 ls st h P)
  | .goto _ => F d M e.2.2.1 ls st h P
  | .tableswitch _ _ _ _ => pI st fun x st => pI [e.2.2.2.1] fun lo _ => swQ x (fun t => F d M t ls st h P) lo e.2.2.2.2 ∧ (x.toInt < lo.toInt ∨ lo.toInt + e.2.2.2.2.length ≤ x.toInt → F d M e.2.2.1 ls st h P)
  | .getfield _ => pA st fun a st => fok h a e.2.2.1 ∧ F d M (pc + 3) ls (fgt h a e.2.2.1 :: st) h P
  | .putfield _ => match e.2.2.1 % 4 with
    | 0 => pI st fun x st => pA st fun a st => fok h a e.2.2.1 ∧ F d M (pc + 3) ls st (wI h a e.2.2.1 x) P
    | 1 => pL st fun x st => pA st fun a st => fok h a e.2.2.1 ∧ F d M (pc + 3) ls st (wL h a e.2.2.1 x) P
    | 2 => pR st fun x st => pA st fun a st => fok h a e.2.2.1 ∧ F d M (pc + 3) ls st (wR h a e.2.2.1 x) P
    | _ => pI st fun x st => pA st fun a st => isB x ∧ fok h a e.2.2.1 ∧ F d M (pc + 3) ls st (wI h a e.2.2.1 x) P
  | .iaload => pI st fun i st => pA st fun a st => aIn h a i ∧ F d M (pc + 1) ls (vI (hI h a i.toNatClampNeg) :: st) h P
  | .baload => pI st fun i st => pA st fun a st => ain h a 1 i ∧ F d M (pc + 1) ls (vI (hI h a i.toNatClampNeg) :: st) h P
  | .laload => pI st fun i st => pA st fun a st => ain h a 2 i ∧ F d M (pc + 1) ls (vL (hL h a i.toNatClampNeg) :: st) h P
  | .aaload => pI st fun i st => pA st fun a st => aRf h a i ∧ F d M (pc + 1) ls (vR (hR h a i.toNatClampNeg) :: st) h P
  | .iastore => pI st fun x st => pI st fun i st => pA st fun a st => ain h a 0 i ∧ F d M (pc + 1) ls st (wI h a i.toNatClampNeg x) P
  | .bastore => pI st fun x st => pI st fun i st => pA st fun a st => isB x ∧ ain h a 1 i ∧ F d M (pc + 1) ls st (wI h a i.toNatClampNeg x) P
  | .lastore => pL st fun x st => pI st fun i st => pA st fun a st => ain h a 2 i ∧ F d M (pc + 1) ls st (wL h a i.toNatClampNeg x) P
  | .aastore => pR st fun x st => pI st fun i st => pA st fun a st => aRs h a i x ∧ F d M (pc + 1) ls st (wR h a i.toNatClampNeg x) P
  | .arraylength => pA st fun a st => ∃ ty n, ty ≤ 7 ∧ hT h a = some (100 + ty, n) ∧ F d M (pc + 1) ls (vI (nI n) :: st) h P
  | .newarray _ => pI st fun n st => ¬ n < 0 ∧ n.toNatClampNeg ≤ 1000 ∧ 1 ≤ hC h ∧ n.toNatClampNeg ≤ hS h ∧ F d M (pc + 2) ls (vR (some (hN h)) :: st) (al h (100 + e.2.2.1, n.toNatClampNeg) n.toNatClampNeg) P
  | .anewarray _ => pI st fun n st => ¬ n < 0 ∧ n.toNatClampNeg ≤ 1000 ∧ 1 ≤ hC h ∧ n.toNatClampNeg ≤ hS h ∧ F d M (pc + 3) ls (vR (some (hN h)) :: st) (al h (100 + e.2.2.1, n.toNatClampNeg) n.toNatClampNeg) P
  | .new _ => match decide (e.2.2.1 < 50) with
    | true => 1 ≤ hC h ∧ nSlots e.2.2.1 ≤ hS h ∧ F d M (pc + 3) ls (vR (some (hN h)) :: st) (al h (e.2.2.1, 0) (nSlots e.2.2.1)) P
    | false => 1 ≤ hC h ∧ 6 ≤ hS h ∧ st.length ≤ 4 ∧ P (.inr (hN h)) (al h (e.2.2.1 - 10, 0) 6)
  | .invokevirtual _ => e.2.2.1 ≤ st.length ∧ pA (st.drop e.2.2.1) fun b rest => ∃ c n M', hT h b = some (c, n) ∧ dsp e.2.2.2.2 c = some M' ∧ calQ F d M P pc ls rest M' (vR (some b) :: (st.take e.2.2.1).reverse) h
  | .invokestatic _ => match e.2.2.2.2 with
    | [m] => match decide (m = 9998) with
      | true => pI st fun n st => pI st fun dp st => pA st fun b st => pI st fun sp st => pA st fun a st => st.length ≤ 4 ∧ ¬ a = b ∧ ¬ sp < 0 ∧ ¬ dp < 0 ∧ ¬ n < 0 ∧ (∃ na nb, hT h a = some (100, na) ∧ hT h b = some (100, nb) ∧ sp.toNatClampNeg + n.toNatClampNeg ≤ na ∧ dp.toNatClampNeg + n.toNatClampNeg ≤ nb) ∧
        F d M (pc + 3) ls st (cpI h a sp.toNatClampNeg b dp.toNatClampNeg n.toNatClampNeg) P
      | false => e.2.2.1 ≤ st.length ∧ calQ F d M P pc ls (st.drop e.2.2.1) m (st.take e.2.2.1).reverse h
    | _ => False
  | .invokespecial _ => match e.2.2.2.2 with
    | [m] => match decide (m = 9999) with
      | true => pA st fun _ st => st.length ≤ 4 ∧ F d M (pc + 3) ls st h P
      | false => e.2.2.1 ≤ st.length ∧ (pA (st.drop (e.2.2.1 - 1)) fun _ _ => True) ∧ calQ F d M P pc ls (st.drop e.2.2.1) m (st.take e.2.2.1).reverse h
    | _ => False
  | .ireturn => pI st fun x r => r = [] ∧ (mZ M = true → isB x) ∧ P (.inl (some (vI x))) h
  | .lreturn => pL st fun x r => r = [] ∧ P (.inl (some (vL x))) h
  | .areturn => pR st fun x r => r = [] ∧ P (.inl (some (vR x))) h
  | .return_ => st = [] ∧ P (.inl none) h
  | _ => False
def stpQ (F : FT) (d M pc : Nat) (ls st : List AV) (h : AH) (P : PT) : Prop := match fetch M pc with
  | some e => stepQ F d M P pc e ls st h
  | none => False
/-- monotone in its post -/
def FMono (F : FT) : Prop := ∀ d M pc ls st h (P P' : PT), (∀ o h, P o h → P' o h) → F d M pc ls st h P → F d M pc ls st h P'
/-- THE SEMANTICS: the least monotone F with stpQ F ⊆ F -/
def Ev : FT := fun d M pc ls st h P => ∀ X : FT, FMono X → (∀ d M pc ls st h P, stpQ X d M pc ls st h P → X d M pc ls st h P) → X d M pc ls st h P
end
section
theorem thrQ_mono {F G : FT} (hFG : ∀ d M pc ls st h P, F d M pc ls st h P → G d M pc ls st h P) {d M : Nat} {P : PT} {pc : Nat} {ls : List AV} {a : Nat} {h : AH} (k : thrQ F d M P pc ls a h) : thrQ G d M P pc ls a h := by
  obtain ⟨e, n, h1, h2, h3⟩ := k
  refine ⟨e, n, h1, h2, ?_⟩
  cases hf : hfnd (mH M) pc e with
  | none => rw [hf] at h3; exact h3
  | some hp => rw [hf] at h3; exact hFG _ _ _ _ _ _ _ h3
theorem calQ_mono {F G : FT} (hG : FMono G) (hFG : ∀ d M pc ls st h P, F d M pc ls st h P → G d M pc ls st h P) {d M : Nat} {P : PT} {pc : Nat} {ls rest : List AV} {M' : Nat} {args : List AV} {h : AH} (k : calQ F d M P pc ls rest M' args h) : calQ G d M P pc ls rest M' args h := by
  cases d with
  | zero => exact k.elim
  | succ d =>
    refine ⟨k.1, k.2.1, hG _ _ _ _ _ _ _ _ ?_ (hFG _ _ _ _ _ _ _ k.2.2)⟩
    intro o h' q
    cases o with
    | inl v => exact hFG _ _ _ _ _ _ _ q
    | inr a => exact thrQ_mono hFG q
theorem swQ_mono {x : Int32} {K K' : Nat → Prop} (hK : ∀ t, K t → K' t) : ∀ (L : List Nat) (lo : Int32), swQ x K lo L → swQ x K' lo L
  | [], _, _ => trivial
  | _ :: r, lo, h => ⟨fun e => hK _ (h.1 e), swQ_mono hK r (lo + 1) h.2⟩
theorem brQ_mono {c A B A' B' : Prop} (ha : A → A') (hb : B → B') (h : brQ c A B) : brQ c A' B' := ⟨fun q => ha (h.1 q), fun q => hb (h.2 q)⟩
set_option maxHeartbeats 4000000 in
theorem stepQ_mono {F G : FT} (hG : FMono G) (hFG : ∀ d M pc ls st h P, F d M pc ls st h P → G d M pc ls st h P) {d M : Nat} {P : PT} {pc : Nat} {e : EI} {ls st : List AV} {h : AH} (k : stepQ F d M P pc e ls st h) : stepQ G d M P pc e ls st h := by
  unfold stepQ at k ⊢
  split at k
  all_goals try exact k.elim
  all_goals try exact hFG _ _ _ _ _ _ _ k
  all_goals try exact pI_mono (fun x r q => hFG _ _ _ _ _ _ _ q) k
  all_goals try exact pL_mono (fun x r q => hFG _ _ _ _ _ _ _ q) k
  all_goals try exact pR_mono (fun x r q => hFG _ _ _ _ _ _ _ q) k
  all_goals try exact ⟨k.1, hFG _ _ _ _ _ _ _ k.2⟩
  all_goals try exact pI_mono (fun x r q => pI_mono (fun x r q => hFG _ _ _ _ _ _ _ q) q) k
  all_goals try exact pI_mono (fun x r q => pI_mono (fun x r q => ⟨q.1, hFG _ _ _ _ _ _ _ q.2⟩) q) k
  all_goals try exact pL_mono (fun x r q => pL_mono (fun x r q => hFG _ _ _ _ _ _ _ q) q) k
  all_goals try exact pI_mono (fun x r q => pL_mono (fun x r q => hFG _ _ _ _ _ _ _ q) q) k
  all_goals try exact pI_mono (fun x r q => pR_mono (fun x r q => hFG _ _ _ _ _ _ _ q) q) k
  all_goals try exact k.imp (pI_mono (fun x r q => hFG _ _ _ _ _ _ _ q)) (pR_mono (fun x r q => hFG _ _ _ _ _ _ _ q))
  all_goals try exact pI_mono (fun x r q => brQ_mono (hFG _ _ _ _ _ _ _) (hFG _ _ _ _ _ _ _) q) k
  all_goals try exact pR_mono (fun x r q => brQ_mono (hFG _ _ _ _ _ _ _) (hFG _ _ _ _ _ _ _) q) k
  all_goals try exact pI_mono (fun x r q => pI_mono (fun x r q => brQ_mono (hFG _ _ _ _ _ _ _) (hFG _ _ _ _ _ _ _) q) q) k
  all_goals try exact pI_mono (fun x r q => pI_mono (fun y r q => ⟨swQ_mono (fun t => hFG _ _ _ _ _ _ _) _ _ q.1, fun z => hFG _ _ _ _ _ _ _ (q.2 z)⟩) q) k
  all_goals try exact pA_mono (fun x r q => ⟨q.1, hFG _ _ _ _ _ _ _ q.2⟩) k
  all_goals try exact pI_mono (fun x r q => pA_mono (fun x r q => ⟨q.1, hFG _ _ _ _ _ _ _ q.2⟩) q) k
  all_goals try exact pI_mono (fun x r q => pI_mono (fun x r q => pA_mono (fun x r q => ⟨q.1, hFG _ _ _ _ _ _ _ q.2⟩) q) q) k
  all_goals try exact pI_mono (fun x r q => pI_mono (fun x r q => pA_mono (fun x r q => ⟨q.1, q.2.1, hFG _ _ _ _ _ _ _ q.2.2⟩) q) q) k
  all_goals try exact pL_mono (fun x r q => pI_mono (fun x r q => pA_mono (fun x r q => ⟨q.1, hFG _ _ _ _ _ _ _ q.2⟩) q) q) k
  all_goals try exact pR_mono (fun x r q => pI_mono (fun x r q => pA_mono (fun x r q => ⟨q.1, hFG _ _ _ _ _ _ _ q.2⟩) q) q) k
  all_goals try exact pA_mono (fun x r ⟨ty, n, q1, q2, q3⟩ => ⟨ty, n, q1, q2, hFG _ _ _ _ _ _ _ q3⟩) k
  all_goals try exact pI_mono (fun x r q => ⟨q.1, q.2.1, q.2.2.1, q.2.2.2.1, hFG _ _ _ _ _ _ _ q.2.2.2.2⟩) k
  all_goals try exact ⟨k.1, pA_mono (fun b r ⟨c, n, M', q1, q2, q3⟩ => ⟨c, n, M', q1, q2, calQ_mono hG hFG q3⟩) k.2⟩
  all_goals try exact k
  · split at k
    · exact pI_mono (fun x r q => pA_mono (fun x r q => ⟨q.1, hFG _ _ _ _ _ _ _ q.2⟩) q) k
    · exact pL_mono (fun x r q => pA_mono (fun x r q => ⟨q.1, hFG _ _ _ _ _ _ _ q.2⟩) q) k
    · exact pR_mono (fun x r q => pA_mono (fun x r q => ⟨q.1, hFG _ _ _ _ _ _ _ q.2⟩) q) k
    · exact pI_mono (fun x r q => pA_mono (fun x r q => ⟨q.1, q.2.1, hFG _ _ _ _ _ _ _ q.2.2⟩) q) k
  · split at k
    · exact ⟨k.1, k.2.1, hFG _ _ _ _ _ _ _ k.2.2⟩
    · exact k
  · split at k
    · split at k
      · exact pI_mono (fun x r q => pI_mono (fun x r q => pA_mono (fun x r q => pI_mono (fun x r q => pA_mono (fun x r q => ⟨q.1, q.2.1, q.2.2.1, q.2.2.2.1, q.2.2.2.2.1, q.2.2.2.2.2.1, hFG _ _ _ _ _ _ _ q.2.2.2.2.2.2⟩) q) q) q) q) k
      · exact ⟨k.1, calQ_mono hG hFG k.2⟩
    · exact k.elim
  · split at k
    · split at k
      · exact pA_mono (fun x r q => ⟨q.1, hFG _ _ _ _ _ _ _ q.2⟩) k
      · exact ⟨k.1, k.2.1, calQ_mono hG hFG k.2.2⟩
    · exact k.elim
theorem stpQ_mono {F G : FT} (hG : FMono G) (hFG : ∀ d M pc ls st h P, F d M pc ls st h P → G d M pc ls st h P) {d M : Nat} {P : PT} {pc : Nat} {ls st : List AV} {h : AH} (k : stpQ F d M pc ls st h P) : stpQ G d M pc ls st h P := by
  unfold stpQ at k ⊢
  cases hf : fetch M pc with
  | none => rw [hf] at k; exact k
  | some e => rw [hf] at k; exact stepQ_mono hG hFG k
theorem Ev.mono : FMono Ev := fun d M pc ls st h P P' hP k X hX hc => hX _ _ _ _ _ _ _ _ hP (k X hX hc)
theorem Ev.intro {d M : Nat} {P : PT} {pc : Nat} {ls st : List AV} {h : AH} (k : stpQ Ev d M pc ls st h P) : Ev d M pc ls st h P :=
  fun X hX hc => hc _ _ _ _ _ _ _ (stpQ_mono hX (fun _ _ _ _ _ _ _ q => q X hX hc) k)
theorem Ev.step {d M : Nat} {P : PT} {pc : Nat} {ls st : List AV} {h : AH} {e : EI} (he : fetch M pc = some e) (k : stepQ Ev d M P pc e ls st h) : Ev d M pc ls st h P :=
  Ev.intro (by unfold stpQ; rw [he]; exact k)
/-- the post at the end, by what follows from it -/
theorem Ev.post {d M : Nat} {P P' : PT} {pc : Nat} {ls st : List AV} {h : AH} (k : Ev d M pc ls st h P) (hP : ∀ o h, P o h → P' o h) : Ev d M pc ls st h P' := Ev.mono _ _ _ _ _ _ _ _ hP k
end
section
/-! ===== THE WORLD: words, classes, and how an abstract heap lies in the machine's ===== -/
def oN (o : Nat) : String := x_own.getD o ""
def eN (e : Nat) : String := x_exc.getD e ""
def fD (f : Nat) : String × String × String × Bool := x_fld.getD (f / 4) ("", "", "", false)
def cT (c : Nat) : u_T := fun k => fD ((idsOf c).getD k 0)
def aty (t : Nat) : FieldType := match t with
  | 0 => .int
  | 1 => .boolean
  | 2 => .long
  | 3 => .object "PlannedTables$Row"
  | 4 => .object "PlannedTables$Page"
  | 5 => .object "PlannedTables$Tree"
  | _ => .object "PlannedTables$Table"
/-- words that stay true as the tables get warmer -/
def wok (w : Jvm.Cond) : Bool := match w with
  | .arrayClass _ => true
  | .arrayOver (.object _) => true
  | .methodLinkNest _ _ _ _ => true
  | .declares _ => true
  | .castable _ _ => true
  | w => w.onTables && w.keeps
theorem wok_move {w : Jvm.Cond} (hw : wok w = true) {A A' : Array Value} {s U : State} (hW : s.WarmedH U.vm) (h : w.before A s = true) : w.before A' U = true := by
  unfold wok at hw
  split at hw
  · exact word_at hW (Or.inr ⟨_, rfl⟩) h
  · exact va_AO.use (va_AO.moved hW.alike (va_AO.of h))
  · exact va_Nw.use rfl (va_Nw.warmM hW (va_Nw.of rfl h))
  · exact va_Nw.use rfl (va_Nw.warmD hW (va_Nw.of rfl h))
  · exact va_Nw.use rfl (va_Nw.warmC hW (va_Nw.of rfl h))
  · exact word_at hW (Or.inl hw) h
/-- the classes, and the array classes -/
def sn_K (dC : Nat → ClassId) (dI : Nat → Nat → Nat) (dA : Nat → ClassId) (U : State) : Prop :=
  (∀ c, c < 17 → u_Kn U (oN c) (cT c) (idsOf c).length (dC c) (dI c)) ∧ ∀ t, t < 7 → ArrOfT U (dA t) (aty t) ∧ va_RA U (dA t) (aty t)
theorem sn_K.moved {dC : Nat → ClassId} {dI : Nat → Nat → Nat} {dA : Nat → ClassId} {u U : State} (hvm : u.vm.Alike U.vm) (h : sn_K dC dI dA u) : sn_K dC dI dA U :=
  ⟨fun c hc => u_Kn_moved hvm (h.1 c hc), fun t ht => ⟨arrOfT_moved hvm (h.2 t ht).1, (h.2 t ht).2.moved hvm⟩⟩
def x_str : List (Nat × Nat × String) := [(1, 25, "wrong word"), (0, 43, "no such width"), (0, 54, "no more tables"), (0, 62, "no such table"), (0, 73, "no such column"), (0, 86, "the key is there"), (0, 92, "no more rows"), (0, 118, "no such row"), (0, 142, "none from there on"), (0, 211, "no such plan"), (6, 18, "no fuel"), (0, 208, "too long"), (0, 227, "the output is too long"), (0, 229, "the fuel is at its end")]
abbrev x_steD : String := "[Ljava/lang/StackTraceElement;"
abbrev x_listD : String := "Ljava/util/List;"
/-- a static of Throwable's: a reference or null, in a cell that is never written -/
def sn_Z (C n d : String) (b0 : Nat) (U : State) : Prop := va_Zq C n d (fun q => b0 ≤ q) U U.heap ∧ (Jvm.Cond.laysStatic C n d).before #[] U = true
theorem sn_Z.moved {C n d : String} {b0 : Nat} {u U : State} (hvm : u.vm.Alike U.vm) (hh : ∀ q, q < b0 → U.heap[q]? = u.heap[q]?) (h : sn_Z C n d b0 u) : sn_Z C n d b0 U := by
  refine ⟨va_Zq.kept (va_Zq.moved hvm h.1) (fun a _ hn => hh a (Nat.not_le.mp hn)), ?_⟩
  obtain ⟨c, k, i, f, a, cell, hc, hi, hst, ha, hcell, hs, hcls, hlt, hty⟩ := Cond.laysStatic_spec h.2
  have hab : a < b0 := by
    have key : ∀ v, va_Z C n d v (fun q => b0 ≤ q) u u.heap → a < b0 := by
      rintro v ⟨cf, kf, fi, fd, a', cell', g1, g2, g3, g4, g5, g6, g7, g8⟩
      cases Option.some.inj (hi.symm.trans g1)
      cases Option.some.inj (ha.symm.trans g4)
      exact Nat.not_le.mp g8
    rcases h.1 with z | ⟨t, z⟩
    · exact key _ z
    · exact key _ z
  obtain ⟨k', hi', hek⟩ := State.fieldFound?_setVm hvm hi
  exact Cond.laysStatic_of (s := U) (by rw [hvm.findClass]; exact hc) hi' hst (by rw [hek]; exact ha) (by rw [hh a hab]; exact hcell) hs hcls hlt (by rw [hek]; exact hty)
/-- what holds at every state of the run that matters -/
def sn_W (dC : Nat → ClassId) (dI : Nat → Nat → Nat) (dA : Nat → ClassId) (b0 : Nat) (U : State) : Prop :=
  (∀ w ∈ lw_tbl, wok w = true → w.before #[] U = true) ∧ sn_K dC dI dA U ∧
  sn_Z "java/lang/Throwable" "UNASSIGNED_STACK" x_steD b0 U ∧ sn_Z "java/lang/Throwable" "SUPPRESSED_SENTINEL" x_listD b0 U ∧
  (∀ q ∈ x_str, ∃ a, vk_R (oN q.1) q.2.1 q.2.2 a U) ∧ ∀ i j, i < 5 → j < 5 → i ≠ j → va_Nc (eN i) (eN j) U
theorem sn_W.moved {dC : Nat → ClassId} {dI : Nat → Nat → Nat} {dA : Nat → ClassId} {b0 : Nat} {u U : State} (h : sn_W dC dI dA b0 u) (hW : u.WarmedH U.vm) (hh : ∀ q, q < b0 → U.heap[q]? = u.heap[q]?) : sn_W dC dI dA b0 U := by
  obtain ⟨h1, h2, h3, h4, h5, h6⟩ := h
  refine ⟨fun w hw ho => wok_move ho hW (h1 w hw ho), h2.moved hW.alike, h3.moved hW.alike hh, h4.moved hW.alike hh, fun q hq => ?_, fun i j hi hj hn => (h6 i j hi hj hn).moved hW.alike⟩
  obtain ⟨a, ha⟩ := h5 q hq
  exact ⟨a, ha.warm hW⟩
/-- a field's value, an element -/
def objV (h : AH) (a c : Nat) : Nat → Value := fun k => av_V (fgt h a ((idsOf c).getD k 0))
def arrF (h : AH) (a t : Nat) : Nat → Value := fun j => if t = 2 then .long (hL h a j) else if t < 2 then .int (hI h a j) else va_rf (hR h a j)
/-- the cell a with the tag t -/
def sn_C (dC : Nat → ClassId) (dI : Nat → Nat → Nat) (dA : Nat → ClassId) (b0 : Nat) (U : State) (h : AH) (H : Heap) (a : Nat) (t : Nat × Nat) : Prop :=
  (t.1 < 17 ∧ b0 ≤ a ∧ t_OB a (dC t.1) (idsOf t.1).length (dI t.1) H (objV h a t.1)) ∨
  (∃ ty, ty < 7 ∧ t.1 = 100 + ty ∧ b0 ≤ a ∧ H[a]? = some (arrV (dA ty) t.2 (arrF h a ty))) ∨
  (t.1 = 107 ∧ a < b0 ∧ va_X a t.2 (hI h a) U H) ∨
  (50 ≤ t.1 ∧ t.1 < 55 ∧ b0 ≤ a ∧ ∃ cell : Cell, H[a]? = some cell ∧ cell.vm.isStatics = false ∧ U.vm.findClass (eN (t.1 - 50)) = some cell.cls)
def sn_R (dC : Nat → ClassId) (dI : Nat → Nat → Nat) (dA : Nat → ClassId) (b0 : Nat) (U : State) (h : AH) (H : Heap) : Prop :=
  H.size = hN h ∧ b0 ≤ H.size ∧ ∀ a t, hT h a = some t → sn_C dC dI dA b0 U h H a t
theorem sn_C.lt {dC : Nat → ClassId} {dI : Nat → Nat → Nat} {dA : Nat → ClassId} {b0 : Nat} {U : State} {h : AH} {H : Heap} {a : Nat} {t : Nat × Nat} (k : sn_C dC dI dA b0 U h H a t) : a < H.size := by
  rcases k with ⟨-, -, cell, q, -⟩ | ⟨ty, -, -, -, q⟩ | ⟨-, -, cell, q, -⟩ | ⟨-, -, -, cell, q, -⟩ <;> exact (Array.getElem?_eq_some_iff.mp q).1
/-- a cell that neither heap has touched -/
theorem sn_C.kept {dC : Nat → ClassId} {dI : Nat → Nat → Nat} {dA : Nat → ClassId} {b0 : Nat} {u U : State} (hvm : u.vm.Alike U.vm) {h h' : AH} {H H' : Heap} {a : Nat} {t : Nat × Nat} (k : sn_C dC dI dA b0 u h H a t) (hH : H'[a]? = H[a]?) (hi : hI h' a = hI h a) (hl : hL h' a = hL h a) (hr : hR h' a = hR h a) : sn_C dC dI dA b0 U h' H' a t := by
  have hf : ∀ f, fgt h' a f = fgt h a f := by intro f; simp only [fgt, hi, hl, hr]
  have ha : ∀ ty, arrF h' a ty = arrF h a ty := by intro ty; unfold arrF; rw [hi, hl, hr]
  rcases k with ⟨h1, h2, h3⟩ | ⟨ty, h1, h2, h3, h4⟩ | ⟨h1, h2, h3⟩ | ⟨h1, h2, h3, cell, h4, h5, h6⟩
  · exact Or.inl ⟨h1, h2, (h3.kept hH).to (fun k _ => by simp only [objV, hf])⟩
  · exact Or.inr (Or.inl ⟨ty, h1, h2, h3, by rw [hH, ha]; exact h4⟩)
  · exact Or.inr (Or.inr (Or.inl ⟨h1, h2, by rw [hi]; exact (va_X.moved hvm h3).kept hH⟩))
  · exact Or.inr (Or.inr (Or.inr ⟨h1, h2, h3, cell, by rw [hH]; exact h4, h5, by rw [hvm.findClass]; exact h6⟩))
theorem sn_R.moved {dC : Nat → ClassId} {dI : Nat → Nat → Nat} {dA : Nat → ClassId} {b0 : Nat} {u U : State} (hvm : u.vm.Alike U.vm) {h : AH} {H : Heap} (k : sn_R dC dI dA b0 u h H) : sn_R dC dI dA b0 U h H :=
  ⟨k.1, k.2.1, fun a t ht => (k.2.2 a t ht).kept hvm rfl rfl rfl rfl⟩
/-- one cell has changed, in both -/
theorem sn_R.put {dC : Nat → ClassId} {dI : Nat → Nat → Nat} {dA : Nat → ClassId} {b0 : Nat} {U : State} {h h' : AH} {H H' : Heap} {a : Nat} (k : sn_R dC dI dA b0 U h H) (hz : H'.size = H.size) (hq : ∀ q, q ≠ a → H'[q]? = H[q]?) (hN' : hN h' = hN h) (hT' : hT h' = hT h)
    (hi : ∀ q, q ≠ a → hI h' q = hI h q) (hl : ∀ q, q ≠ a → hL h' q = hL h q) (hr : ∀ q, q ≠ a → hR h' q = hR h q) (hc : ∀ t, hT h a = some t → sn_C dC dI dA b0 U h' H' a t) : sn_R dC dI dA b0 U h' H' := by
  refine ⟨by rw [hz, hN']; exact k.1, by rw [hz]; exact k.2.1, fun q t ht => ?_⟩
  rw [hT'] at ht
  by_cases e : q = a
  · subst e; exact hc t ht
  · exact (k.2.2 q t ht).kept (Vm.Alike.refl _) (hq q e) (hi q e) (hl q e) (hr q e)
/-- a new cell -/
theorem sn_R.push {dC : Nat → ClassId} {dI : Nat → Nat → Nat} {dA : Nat → ClassId} {b0 : Nat} {U : State} {h : AH} {H H' : Heap} {t : Nat × Nat} {n : Nat} (k : sn_R dC dI dA b0 U h H) (hz : H'.size = H.size + 1) (hq : ∀ q, q < H.size → H'[q]? = H[q]?) (hc : sn_C dC dI dA b0 U (al h t n) H' (hN h) t) : sn_R dC dI dA b0 U (al h t n) H' := by
  refine ⟨by rw [hz, hN_al, k.1], by rw [hz]; exact Nat.le_succ_of_le k.2.1, fun q t' ht => ?_⟩
  rw [hT_al] at ht
  by_cases e : q = hN h
  · subst e
    rw [if_pos rfl] at ht
    cases ht
    exact hc
  · rw [if_neg e] at ht
    have hk := k.2.2 q t' ht
    refine hk.kept (Vm.Alike.refl _) (hq q hk.lt) ?_ ?_ ?_ <;> (funext j; simp [hI_al, hL_al, hR_al, e])
/-- locals -/
def sn_L (LS : Array Slot) (n : Nat) (ls : List AV) : Prop := LS.size = n ∧ lv_wf LS ∧ ∀ (i : Nat) (v : AV), ls[i]? = some v → v ≠ vU → LS[i]? = some (Slot.val (av_V v))
/-- an outcome -/
def oc (o : Option AV ⊕ Nat) : Outcome := match o with
  | .inl v => .returned (v.map av_V)
  | .inr a => .threw a
/-- the end of a method, from the machine's side -/
def sn_E (dC : Nat → ClassId) (dI : Nat → Nat → Nat) (dA : Nat → ClassId) (b0 : Nat) (s : State) (below : List Frame) (N0 S0 : Nat) (t : State) (o : Option AV ⊕ Nat) (h' : AH) : Prop :=
  t.status = .running ∧ Ended t below (oc o) ∧ sn_R dC dI dA b0 s h' t.heap ∧ (∀ q, q < b0 → t.heap[q]? = s.heap[q]?) ∧ s.WarmedH t.vm ∧
    ∃ L k n, s.sameButNew ({ t with vm := s.vm } : State) L k n ∧ (∀ q ∈ L, b0 ≤ q.base) ∧ k + hC h' = N0 ∧ n + hS h' = S0
/-- methods: name, bytes, answer, handlers -/
def mY (M : Nat) : MethodName := (x_name.getD M (⟨"", "", ""⟩, ⟨#[]⟩, none, [])).1
def mB (M : Nat) : ByteArray := (x_name.getD M (⟨"", "", ""⟩, ⟨#[]⟩, none, [])).2.1
def mR (M : Nat) : Option FieldType := (x_name.getD M (⟨"", "", ""⟩, ⟨#[]⟩, none, [])).2.2.1
def mX (M : Nat) : List (Nat × Nat × Nat × Nat) := (x_name.getD M (⟨"", "", ""⟩, ⟨#[]⟩, none, [])).2.2.2
/-- the frame's method is M -/
def sn_F (p : Program) (s : State) (m : MethodId) (meth : Method) (c : Code) (M : Nat) : Prop :=
  p.tables.exec = Jvm.exec ∧ c.code = mB M ∧ c.maxLocals = mL M ∧ meth.sig.returnType = mR M ∧ meth.locks = false ∧ s.vm.findClass (oN (mO M)) = some m.cls ∧ meth.name = (mY M).name ∧ c.exceptionTable.toList.map (fun x => (x.startPc, x.endPc, x.handlerPc, x.catchType)) = mX M
/-- WHAT Ev SAYS OF THE MACHINE -/
def SX (l : Launch) (dC : Nat → ClassId) (dI : Nat → Nat → Nat) (dA : Nat → ClassId) (b0 : Nat) : FT := fun d M pc ls st h P =>
  ∀ (p : Program) (e : Env) (R : Room) (s : State) (m : MethodId) (args : Array Value) (below : List Frame) (meth : Method) (c : Code) (H : Heap) (locs : List Loc) (cells slots : Nat) (LS : Array Slot) (Q : State → Prop),
    sn_F p s m meth c M → sn_W dC dI dA b0 s → (d + 20 ≤ R.frames ∧ 60 * d + 200 ≤ R.locals ∧ cells + hC h ≤ R.cells ∧ slots + hS h ≤ R.slots) →
    sn_R dC dI dA b0 s h H → (∀ q, q < b0 → H[q]? = s.heap[q]?) → (∀ q ∈ locs, b0 ≤ q.base) → sn_L LS (mL M) ls →
    (∀ o h' t, P o h' → sn_E dC dI dA b0 s below (cells + hC h) (slots + hS h) t o h' → Q t) →
    W p l e R s m args below meth c H locs cells slots Q (F0 m pc LS (st.map av_V))
theorem SX.mono {l : Launch} {dC : Nat → ClassId} {dI : Nat → Nat → Nat} {dA : Nat → ClassId} {b0 : Nat} : FMono (SX l dC dI dA b0) :=
  fun d M pc ls st h P P' hP k p e R s m args below meth c H locs cells slots LS Q h1 h2 h3 h4 h5 h6 h7 h8 => k p e R s m args below meth c H locs cells slots LS Q h1 h2 h3 h4 h5 h6 h7 (fun o h' t q => h8 o h' t (hP o h' q))
theorem W.post {p : Program} {l : Launch} {e : Env} {R : Room} {s : State} {m : MethodId} {args : Array Value} {below : List Frame} {meth : Method} {c : Code} {H : Heap} {locs : List Loc} {cells slots : Nat} {Q Q' : State → Prop} {g : JFrame} (h : W p l e R s m args below meth c H locs cells slots Q g) (hQ : ∀ t, Q t → Q' t) : W p l e R s m args below meth c H locs cells slots Q' g := by
  intro T hT X
  obtain ⟨t, a, b⟩ := h T hT X
  exact ⟨t, a, hQ t b⟩
end
section
/-! ===== locals ===== -/
theorem st1_get : ∀ (ls : List AV) (i : Nat) (v : AV) (j : Nat), (st1 ls i v)[j]? = if j = i then (if i < ls.length then some v else none) else if j + 1 = i then (ls[j]?).map kl else ls[j]?
  | [], i, v, j => by simp [st1]
  | x :: xs, 0, v, j => by cases j <;> simp [st1]
  | x :: xs, 1, v, j => by
    cases j with
    | zero => simp [st1]
    | succ j => simp [st1, st1_get xs 0 v j]
  | x :: xs, n + 2, v, j => by
    cases j with
    | zero => simp [st1]
    | succ j =>
      simp only [st1, List.getElem?_cons_succ, st1_get xs (n + 1) v j, List.length_cons, Nat.add_right_cancel_iff, show (n + 2 < xs.length + 1) = (n + 1 < xs.length) from propext (by omega), show (j + 1 = n + 2) = (j = n + 1) from propext (by omega), show (j + 1 + 1 = n + 2) = (j + 1 = n + 1) from propext (by omega)]
theorem st2_get : ∀ (ls : List AV) (i : Nat) (v : AV) (j : Nat), (st2 ls i v)[j]? = if j = i then (if i < ls.length then some v else none) else if j = i + 1 then (if j < ls.length then some vU else none) else if j + 1 = i then (ls[j]?).map kl else ls[j]?
  | [], i, v, j => by simp [st2]
  | x :: xs, 0, v, j => by
    cases j with
    | zero => simp [st2]
    | succ j => cases j <;> cases xs <;> simp [st2]
  | x :: xs, 1, v, j => by
    cases j with
    | zero => simp [st2]
    | succ j => simp [st2, st2_get xs 0 v j]
  | x :: xs, n + 2, v, j => by
    cases j with
    | zero => simp [st2]
    | succ j =>
      simp only [st2, List.getElem?_cons_succ, st2_get xs (n + 1) v j, List.length_cons, show (n + 2 < xs.length + 1) = (n + 1 < xs.length) from propext (by omega), show (j + 1 = n + 2) = (j = n + 1) from propext (by omega), show (j + 1 = n + 2 + 1) = (j = n + 1 + 1) from propext (by omega), show (j + 1 < xs.length + 1) = (j < xs.length) from propext (by omega), show (j + 1 + 1 = n + 2) = (j + 1 = n + 1) from propext (by omega)]
/-- the listed locals -/
def prs (ls : List AV) : List (Nat × Value) := (List.range ls.length).filterMap (fun i => if lg ls i = vU then none else some (i, av_V (lg ls i)))
theorem mem_prs {ls : List AV} {i : Nat} {w : Value} : (i, w) ∈ prs ls ↔ ∃ v, ls[i]? = some v ∧ v ≠ vU ∧ w = av_V v := by
  unfold prs
  rw [List.mem_filterMap]
  constructor
  · rintro ⟨j, hj, h⟩
    have hj := List.mem_range.mp hj
    split at h
    · cases h
    · rename_i hv
      cases h
      exact ⟨lg ls i, by simp [lg, hj], hv, rfl⟩
  · rintro ⟨v, hv, hn, rfl⟩
    have hi : i < ls.length := (List.getElem?_eq_some_iff.mp hv).1
    have e : lg ls i = v := by simp [lg, hv]
    exact ⟨i, List.mem_range.mpr hi, by rw [e, if_neg hn]⟩
theorem sn_L.has {LS : Array Slot} {n : Nat} {ls : List AV} (h : sn_L LS n ls) : lv_has LS n (prs ls) := by
  refine ⟨h.1, h.2.1, fun q hq => ?_⟩
  obtain ⟨i, w⟩ := q
  obtain ⟨v, hv, hn, rfl⟩ := mem_prs.mp hq
  exact h.2.2 i v hv hn
theorem sn_L.get {LS : Array Slot} {n : Nat} {ls : List AV} (h : sn_L LS n ls) {k : Nat} {v : AV} (hv : lg ls k = v) (hn : v ≠ vU) : LS[k]? = some (Slot.val (av_V v)) := by
  refine h.2.2 k v ?_ hn
  unfold lg at hv
  rw [List.getD_eq_getElem?_getD] at hv
  cases he : ls[k]? with
  | none => rw [he] at hv; exact absurd hv.symm hn
  | some w => rw [he] at hv; simpa using hv
theorem kl_ne {x : AV} (h : kl x ≠ vU) : kl x = x ∧ (av_V x).category = 1 := by
  rcases x with x | x | x | x
  · exact ⟨rfl, rfl⟩
  · exact absurd rfl h
  · exact ⟨rfl, by cases x <;> rfl⟩
  · exact absurd rfl h
theorem sn_L.st1 {LS : Array Slot} {n i : Nat} {ls : List AV} {v : AV} (h : lv_has LS n ((i, av_V v) :: (prs ls).filter (fun q => !(q.1 == i) && !(q.1 + 1 == i && q.2.category == 2)))) : sn_L LS n (st1 ls i v) := by
  refine ⟨h.1, h.2.1, fun j w hj hn => ?_⟩
  rw [st1_get] at hj
  split at hj
  · rename_i e
    subst e
    split at hj
    · cases hj; exact h.2.2 (j, av_V v) List.mem_cons_self
    · cases hj
  · rename_i hne
    refine h.2.2 (j, av_V w) (List.mem_cons_of_mem _ (List.mem_filter.mpr ⟨?_, ?_⟩))
    · refine mem_prs.mpr ?_
      split at hj
      · cases he : ls[j]? with
        | none => rw [he] at hj; cases hj
        | some x =>
          rw [he] at hj
          cases hj
          exact ⟨x, rfl, fun e => hn (by rw [(kl_ne hn).1]; exact e), by rw [(kl_ne hn).1]⟩
      · exact ⟨w, hj, hn, rfl⟩
    · split at hj
      · cases he : ls[j]? with
        | none => rw [he] at hj; cases hj
        | some x =>
          rw [he] at hj
          cases hj
          simp [hne, (kl_ne hn).1, (kl_ne hn).2]
      · rename_i hne2
        simp [hne, hne2]
theorem sn_L.st2 {LS : Array Slot} {n i : Nat} {ls : List AV} {v : AV} (h : lv_has LS n ((i, av_V v) :: (prs ls).filter (fun q => !(q.1 == i) && (!(q.1 == i + 1) && !(q.1 + 1 == i && q.2.category == 2))))) : sn_L LS n (st2 ls i v) := by
  refine ⟨h.1, h.2.1, fun j w hj hn => ?_⟩
  rw [st2_get] at hj
  split at hj
  · rename_i e
    subst e
    split at hj
    · cases hj; exact h.2.2 (j, av_V v) List.mem_cons_self
    · cases hj
  · rename_i hne
    split at hj
    · split at hj
      · cases hj; exact absurd rfl hn
      · cases hj
    · rename_i hne1
      refine h.2.2 (j, av_V w) (List.mem_cons_of_mem _ (List.mem_filter.mpr ⟨?_, ?_⟩))
      · refine mem_prs.mpr ?_
        split at hj
        · cases he : ls[j]? with
          | none => rw [he] at hj; cases hj
          | some x =>
            rw [he] at hj
            cases hj
            exact ⟨x, rfl, fun e => hn (by rw [(kl_ne hn).1]; exact e), by rw [(kl_ne hn).1]⟩
        · exact ⟨w, hj, hn, rfl⟩
      · split at hj
        · cases he : ls[j]? with
          | none => rw [he] at hj; cases hj
          | some x =>
            rw [he] at hj
            cases hj
            simp [hne, hne1, (kl_ne hn).1, (kl_ne hn).2]
        · rename_i hne2
          simp [hne, hne1, hne2]
/-- the locals with which a method begins -/
theorem sn_L_ent {args : List AV} {n : Nat} (hu : ∀ v ∈ args, v ≠ vU) (hn : (lg_sl (args.map av_V)).length ≤ n) : sn_L ((lg_sl (args.map av_V) ++ List.replicate (n - (lg_sl (args.map av_V)).length) Slot.unset).toArray) n (ent n args) := by
  have h := lv_entry (args.map av_V) hn
  refine ⟨h.1, h.2.1, ?_⟩
  have key : ∀ (args : List AV), (∀ v ∈ args, v ≠ vU) → ∀ (b i : Nat) (w : AV), (args.flatMap sl2)[i]? = some w → w ≠ vU → (b + i, av_V w) ∈ lv_args b (args.map av_V) := by
    intro args
    induction args with
    | nil => intro _ b i w hi; simp at hi
    | cons a as ih =>
      intro hu b i w hi hw
      have ih := ih (fun v hv => hu v (List.mem_cons_of_mem _ hv))
      rcases a with x | x | x | x
      · simp only [List.flatMap_cons, List.map_cons, sl2] at hi ⊢
        unfold lv_args
        cases i with
        | zero => simp at hi; subst hi; exact List.mem_cons_self
        | succ i =>
          simp at hi
          have := ih (b + 1) i w (by simpa using hi) hw
          refine List.mem_cons_of_mem _ ?_
          rw [if_neg (by simp [av_V, Value.category])]
          rw [show b + (i + 1) = b + 1 + i by omega]; exact this
      · simp only [List.flatMap_cons, List.map_cons, sl2] at hi ⊢
        unfold lv_args
        cases i with
        | zero => simp at hi; subst hi; exact List.mem_cons_self
        | succ i =>
          cases i with
          | zero => simp at hi; exact absurd hi.symm hw
          | succ i =>
            simp at hi
            have := ih (b + 2) i w (by simpa using hi) hw
            refine List.mem_cons_of_mem _ ?_
            rw [if_pos (by simp [av_V, Value.category])]
            rw [show b + (i + 1 + 1) = b + 2 + i by omega]; exact this
      · simp only [List.flatMap_cons, List.map_cons, sl2] at hi ⊢
        unfold lv_args
        cases i with
        | zero => simp at hi; subst hi; exact List.mem_cons_self
        | succ i =>
          simp at hi
          have := ih (b + 1) i w (by simpa using hi) hw
          refine List.mem_cons_of_mem _ ?_
          rw [if_neg (by cases x <;> simp [av_V, va_rf, Value.category])]
          rw [show b + (i + 1) = b + 1 + i by omega]; exact this
      · exact absurd rfl (hu _ List.mem_cons_self)
  intro i w hi hw
  unfold ent at hi
  by_cases hl : i < (args.flatMap sl2).length
  · rw [List.getElem?_append_left hl] at hi
    have := key args hu 0 i w hi hw
    rw [Nat.zero_add] at this
    exact h.2.2 _ this
  · rw [List.getElem?_append_right (by omega)] at hi
    rw [List.getElem?_replicate] at hi
    split at hi
    · cases hi; exact absurd rfl hw
    · cases hi
end
section
/-! ===== soundness of the plain instructions (printed by print_sx.py) ===== -/
section SX8
variable {l : Launch} {dC : Nat → ClassId} {dI : Nat → Nat → Nat} {dA : Nat → ClassId} {b0 d M pc : Nat} {ls st : List AV} {h : AH} {P : PT}
theorem sx_null (hd : decode (mB M) pc = .ok (.aconst_null, 1)) (k : SX l dC dI dA b0 d M (pc + 1) ls (vR none :: st) h P) : SX l dC dI dA b0 d M pc ls (st) h P := by
  intro p e R s m args below meth c H locs cells slots LS Q hF hW hR hRp ho hl hL hQ
  exact lv_null hF.1 hF.2.1 hd (k p e R s m args below meth c H locs cells slots LS Q hF hW hR hRp ho hl hL hQ)
theorem sx_iconst {n : Int} {v : Int32} (hd : decode (mB M) pc = .ok (.iconst n, 1)) (hv : Int32.ofInt n = v) (k : SX l dC dI dA b0 d M (pc + 1) ls (vI v :: st) h P) : SX l dC dI dA b0 d M pc ls (st) h P := by
  intro p e R s m args below meth c H locs cells slots LS Q hF hW hR hRp ho hl hL hQ
  exact lv_iconst hF.1 hF.2.1 hd hv (k p e R s m args below meth c H locs cells slots LS Q hF hW hR hRp ho hl hL hQ)
theorem sx_bipush {n : Int} {v : Int32} (hd : decode (mB M) pc = .ok (.bipush n, 2)) (hv : (Int8.ofInt n).toInt32 = v) (k : SX l dC dI dA b0 d M (pc + 2) ls (vI v :: st) h P) : SX l dC dI dA b0 d M pc ls (st) h P := by
  intro p e R s m args below meth c H locs cells slots LS Q hF hW hR hRp ho hl hL hQ
  exact lv_bipush hF.1 hF.2.1 hd hv (k p e R s m args below meth c H locs cells slots LS Q hF hW hR hRp ho hl hL hQ)
theorem sx_sipush {n : Int} {v : Int32} (hd : decode (mB M) pc = .ok (.sipush n, 3)) (hv : (Int16.ofInt n).toInt32 = v) (k : SX l dC dI dA b0 d M (pc + 3) ls (vI v :: st) h P) : SX l dC dI dA b0 d M pc ls (st) h P := by
  intro p e R s m args below meth c H locs cells slots LS Q hF hW hR hRp ho hl hL hQ
  exact lv_sipush hF.1 hF.2.1 hd hv (k p e R s m args below meth c H locs cells slots LS Q hF hW hR hRp ho hl hL hQ)
theorem sx_lconst {n : Fin 2} {v : Int64} (hd : decode (mB M) pc = .ok (.lconst n, 1)) (hv : Int64.ofNat (n : Nat) = v) (k : SX l dC dI dA b0 d M (pc + 1) ls (vL v :: st) h P) : SX l dC dI dA b0 d M pc ls (st) h P := by
  intro p e R s m args below meth c H locs cells slots LS Q hF hW hR hRp ho hl hL hQ
  exact lv_lconst hF.1 hF.2.1 hd hv (k p e R s m args below meth c H locs cells slots LS Q hF hW hR hRp ho hl hL hQ)
theorem sx_ldc {i : Nat} {v : Int32} (hd : decode (mB M) pc = .ok (.ldc i, 2)) (hw : Jvm.Cond.constant (oN (mO M)) i v ∈ lw_tbl) (k : SX l dC dI dA b0 d M (pc + 2) ls (vI v :: st) h P) : SX l dC dI dA b0 d M pc ls (st) h P := by
  intro p e R s m args below meth c H locs cells slots LS Q hF hW hR hRp ho hl hL hQ
  exact lv_ldc hF.1 hF.2.1 hF.2.2.2.2.2.1 (wok_move (U := s) rfl (State.WarmedH.refl s) (hW.1 _ hw rfl)) hd (k p e R s m args below meth c H locs cells slots LS Q hF hW hR hRp ho hl hL hQ)
theorem sx_ldc2 {i : Nat} {v : Int64} (hd : decode (mB M) pc = .ok (.ldc2_w i, 3)) (hw : Jvm.Cond.constantLong (oN (mO M)) i v ∈ lw_tbl) (k : SX l dC dI dA b0 d M (pc + 3) ls (vL v :: st) h P) : SX l dC dI dA b0 d M pc ls (st) h P := by
  intro p e R s m args below meth c H locs cells slots LS Q hF hW hR hRp ho hl hL hQ
  exact lv_ldc2 hF.1 hF.2.1 hF.2.2.2.2.2.1 (wok_move (U := s) rfl (State.WarmedH.refl s) (hW.1 _ hw rfl)) hd (k p e R s m args below meth c H locs cells slots LS Q hF hW hR hRp ho hl hL hQ)
theorem sx_iload {i : Nat} {x : Int32} (hd : decode (mB M) pc = .ok (.iload i, 2)) (hg : lg ls i = vI x) (k : SX l dC dI dA b0 d M (pc + 2) ls (vI x :: st) h P) : SX l dC dI dA b0 d M pc ls (st) h P := by
  intro p e R s m args below meth c H locs cells slots LS Q hF hW hR hRp ho hl hL hQ
  exact lv_iload hF.1 hF.2.1 hd (hL.get hg (by simp)) (k p e R s m args below meth c H locs cells slots LS Q hF hW hR hRp ho hl hL hQ)
theorem sx_iload_n {n : Fin 4} {x : Int32} (hd : decode (mB M) pc = .ok (.iload_n n, 1)) (hg : lg ls (n : Nat) = vI x) (k : SX l dC dI dA b0 d M (pc + 1) ls (vI x :: st) h P) : SX l dC dI dA b0 d M pc ls (st) h P := by
  intro p e R s m args below meth c H locs cells slots LS Q hF hW hR hRp ho hl hL hQ
  exact lv_iload_n hF.1 hF.2.1 hd rfl (hL.get hg (by simp)) (k p e R s m args below meth c H locs cells slots LS Q hF hW hR hRp ho hl hL hQ)
theorem sx_lload {i : Nat} {x : Int64} (hd : decode (mB M) pc = .ok (.lload i, 2)) (hg : lg ls i = vL x) (k : SX l dC dI dA b0 d M (pc + 2) ls (vL x :: st) h P) : SX l dC dI dA b0 d M pc ls (st) h P := by
  intro p e R s m args below meth c H locs cells slots LS Q hF hW hR hRp ho hl hL hQ
  exact lv_lload hF.1 hF.2.1 hd (hL.get hg (by simp)) (k p e R s m args below meth c H locs cells slots LS Q hF hW hR hRp ho hl hL hQ)
theorem sx_lload_n {n : Fin 4} {x : Int64} (hd : decode (mB M) pc = .ok (.lload_n n, 1)) (hg : lg ls (n : Nat) = vL x) (k : SX l dC dI dA b0 d M (pc + 1) ls (vL x :: st) h P) : SX l dC dI dA b0 d M pc ls (st) h P := by
  intro p e R s m args below meth c H locs cells slots LS Q hF hW hR hRp ho hl hL hQ
  exact lv_lload_n hF.1 hF.2.1 hd rfl (hL.get hg (by simp)) (k p e R s m args below meth c H locs cells slots LS Q hF hW hR hRp ho hl hL hQ)
theorem sx_aload {i : Nat} {x : Option Nat} (hd : decode (mB M) pc = .ok (.aload i, 2)) (hg : lg ls i = vR x) (k : SX l dC dI dA b0 d M (pc + 2) ls (vR x :: st) h P) : SX l dC dI dA b0 d M pc ls (st) h P := by
  intro p e R s m args below meth c H locs cells slots LS Q hF hW hR hRp ho hl hL hQ
  cases x with
  | none => exact lv_aloadN hF.1 hF.2.1 hd (hL.get hg (by simp)) (k p e R s m args below meth c H locs cells slots LS Q hF hW hR hRp ho hl hL hQ)
  | some a => exact lv_aload hF.1 hF.2.1 hd (hL.get hg (by simp)) (k p e R s m args below meth c H locs cells slots LS Q hF hW hR hRp ho hl hL hQ)
theorem sx_aload_n {n : Fin 4} {x : Option Nat} (hd : decode (mB M) pc = .ok (.aload_n n, 1)) (hg : lg ls (n : Nat) = vR x) (k : SX l dC dI dA b0 d M (pc + 1) ls (vR x :: st) h P) : SX l dC dI dA b0 d M pc ls (st) h P := by
  intro p e R s m args below meth c H locs cells slots LS Q hF hW hR hRp ho hl hL hQ
  cases x with
  | none => exact lv_aload_nN hF.1 hF.2.1 hd rfl (hL.get hg (by simp)) (k p e R s m args below meth c H locs cells slots LS Q hF hW hR hRp ho hl hL hQ)
  | some a => exact lv_aload_n hF.1 hF.2.1 hd rfl (hL.get hg (by simp)) (k p e R s m args below meth c H locs cells slots LS Q hF hW hR hRp ho hl hL hQ)
theorem sx_istore {i : Nat} {x : Int32} (hd : decode (mB M) pc = .ok (.istore i, 2)) (hi : i < mL M) (k : SX l dC dI dA b0 d M (pc + 2) (st1 ls i (vI x)) st h P) : SX l dC dI dA b0 d M pc ls (vI x :: st) h P := by
  intro p e R s m args below meth c H locs cells slots LS Q hF hW hR hRp ho hl hL hQ
  exact lv_istore hF.1 hF.2.1 hd hL.has hi rfl (fun LS hL => k p e R s m args below meth c H locs cells slots LS Q hF hW hR hRp ho hl (sn_L.st1 (v := vI x) hL) hQ)
theorem sx_istore_n {n : Fin 4} {x : Int32} (hd : decode (mB M) pc = .ok (.istore_n n, 1)) (hi : (n : Nat) < mL M) (k : SX l dC dI dA b0 d M (pc + 1) (st1 ls (n : Nat) (vI x)) st h P) : SX l dC dI dA b0 d M pc ls (vI x :: st) h P := by
  intro p e R s m args below meth c H locs cells slots LS Q hF hW hR hRp ho hl hL hQ
  exact lv_istore_n hF.1 hF.2.1 hd rfl hL.has hi rfl (fun LS hL => k p e R s m args below meth c H locs cells slots LS Q hF hW hR hRp ho hl (sn_L.st1 (v := vI x) hL) hQ)
theorem sx_lstore {i : Nat} {x : Int64} (hd : decode (mB M) pc = .ok (.lstore i, 2)) (hi : i + 1 < mL M) (k : SX l dC dI dA b0 d M (pc + 2) (st2 ls i (vL x)) st h P) : SX l dC dI dA b0 d M pc ls (vL x :: st) h P := by
  intro p e R s m args below meth c H locs cells slots LS Q hF hW hR hRp ho hl hL hQ
  exact lv_lstore hF.1 hF.2.1 hd hL.has hi rfl (fun LS hL => k p e R s m args below meth c H locs cells slots LS Q hF hW hR hRp ho hl (sn_L.st2 (v := vL x) hL) hQ)
theorem sx_lstore_n {n : Fin 4} {x : Int64} (hd : decode (mB M) pc = .ok (.lstore_n n, 1)) (hi : (n : Nat) + 1 < mL M) (k : SX l dC dI dA b0 d M (pc + 1) (st2 ls (n : Nat) (vL x)) st h P) : SX l dC dI dA b0 d M pc ls (vL x :: st) h P := by
  intro p e R s m args below meth c H locs cells slots LS Q hF hW hR hRp ho hl hL hQ
  exact lv_lstore_n hF.1 hF.2.1 hd rfl hL.has hi rfl (fun LS hL => k p e R s m args below meth c H locs cells slots LS Q hF hW hR hRp ho hl (sn_L.st2 (v := vL x) hL) hQ)
theorem sx_astore {i : Nat} {x : Option Nat} (hd : decode (mB M) pc = .ok (.astore i, 2)) (hi : i < mL M) (k : SX l dC dI dA b0 d M (pc + 2) (st1 ls i (vR x)) st h P) : SX l dC dI dA b0 d M pc ls (vR x :: st) h P := by
  intro p e R s m args below meth c H locs cells slots LS Q hF hW hR hRp ho hl hL hQ
  cases x with
  | none => exact lv_astoreN hF.1 hF.2.1 hd hL.has hi rfl (fun LS hL => k p e R s m args below meth c H locs cells slots LS Q hF hW hR hRp ho hl (sn_L.st1 (v := vR none) hL) hQ)
  | some a => exact lv_astore hF.1 hF.2.1 hd hL.has hi rfl (fun LS hL => k p e R s m args below meth c H locs cells slots LS Q hF hW hR hRp ho hl (sn_L.st1 (v := vR (some a)) hL) hQ)
theorem sx_astore_n {n : Fin 4} {x : Option Nat} (hd : decode (mB M) pc = .ok (.astore_n n, 1)) (hi : (n : Nat) < mL M) (k : SX l dC dI dA b0 d M (pc + 1) (st1 ls (n : Nat) (vR x)) st h P) : SX l dC dI dA b0 d M pc ls (vR x :: st) h P := by
  intro p e R s m args below meth c H locs cells slots LS Q hF hW hR hRp ho hl hL hQ
  cases x with
  | none => exact lv_astore_nN hF.1 hF.2.1 hd rfl hL.has hi rfl (fun LS hL => k p e R s m args below meth c H locs cells slots LS Q hF hW hR hRp ho hl (sn_L.st1 (v := vR none) hL) hQ)
  | some a => exact lv_astore_n hF.1 hF.2.1 hd rfl hL.has hi rfl (fun LS hL => k p e R s m args below meth c H locs cells slots LS Q hF hW hR hRp ho hl (sn_L.st1 (v := vR (some a)) hL) hQ)
theorem sx_iinc {i : Nat} {n : Int} {x v : Int32} (hd : decode (mB M) pc = .ok (.iinc i n, 3)) (hi : i < mL M) (hg : lg ls i = vI x) (hv : Int32.ofInt n = v) (k : SX l dC dI dA b0 d M (pc + 3) (st1 ls i (vI (x + v))) st h P) : SX l dC dI dA b0 d M pc ls st h P := by
  intro p e R s m args below meth c H locs cells slots LS Q hF hW hR hRp ho hl hL hQ
  have hm : (i, Value.int x) ∈ prs ls := mem_prs.mpr ⟨vI x, by
    unfold lg at hg
    rw [List.getD_eq_getElem?_getD] at hg
    cases he : ls[i]? with
    | none => rw [he] at hg; cases hg
    | some w => rw [he] at hg; simpa using hg, by simp, rfl⟩
  obtain ⟨j, hj⟩ := List.getElem?_of_mem hm
  exact lv_iinc hF.1 hF.2.1 hd hL.has hj (by rw [hv]) hi rfl (fun LS hL => k p e R s m args below meth c H locs cells slots LS Q hF hW hR hRp ho hl (sn_L.st1 (v := vI (x + v)) hL) hQ)
theorem sx_iadd {x y : Int32} (hd : decode (mB M) pc = .ok (.iadd, 1)) (k : SX l dC dI dA b0 d M (pc + 1) ls (vI (x + y) :: st) h P) : SX l dC dI dA b0 d M pc ls (vI y :: vI x :: st) h P := by
  intro p e R s m args below meth c H locs cells slots LS Q hF hW hR hRp ho hl hL hQ
  exact lv_iadd hF.1 hF.2.1 hd (k p e R s m args below meth c H locs cells slots LS Q hF hW hR hRp ho hl hL hQ)
theorem sx_isub {x y : Int32} (hd : decode (mB M) pc = .ok (.isub, 1)) (k : SX l dC dI dA b0 d M (pc + 1) ls (vI (x - y) :: st) h P) : SX l dC dI dA b0 d M pc ls (vI y :: vI x :: st) h P := by
  intro p e R s m args below meth c H locs cells slots LS Q hF hW hR hRp ho hl hL hQ
  exact lv_isub hF.1 hF.2.1 hd (k p e R s m args below meth c H locs cells slots LS Q hF hW hR hRp ho hl hL hQ)
theorem sx_imul {x y : Int32} (hd : decode (mB M) pc = .ok (.imul, 1)) (k : SX l dC dI dA b0 d M (pc + 1) ls (vI (x * y) :: st) h P) : SX l dC dI dA b0 d M pc ls (vI y :: vI x :: st) h P := by
  intro p e R s m args below meth c H locs cells slots LS Q hF hW hR hRp ho hl hL hQ
  exact lv_imul hF.1 hF.2.1 hd (k p e R s m args below meth c H locs cells slots LS Q hF hW hR hRp ho hl hL hQ)
theorem sx_iand {x y : Int32} (hd : decode (mB M) pc = .ok (.iand, 1)) (k : SX l dC dI dA b0 d M (pc + 1) ls (vI (x &&& y) :: st) h P) : SX l dC dI dA b0 d M pc ls (vI y :: vI x :: st) h P := by
  intro p e R s m args below meth c H locs cells slots LS Q hF hW hR hRp ho hl hL hQ
  exact lv_iand hF.1 hF.2.1 hd (k p e R s m args below meth c H locs cells slots LS Q hF hW hR hRp ho hl hL hQ)
theorem sx_idiv {x y : Int32} (hd : decode (mB M) pc = .ok (.idiv, 1)) (hne : ¬ y = 0) (k : SX l dC dI dA b0 d M (pc + 1) ls (vI (x / y) :: st) h P) : SX l dC dI dA b0 d M pc ls (vI y :: vI x :: st) h P := by
  intro p e R s m args below meth c H locs cells slots LS Q hF hW hR hRp ho hl hL hQ
  exact lv_idiv hF.1 hF.2.1 hd hne (k p e R s m args below meth c H locs cells slots LS Q hF hW hR hRp ho hl hL hQ)
theorem sx_ladd {x y : Int64} (hd : decode (mB M) pc = .ok (.ladd, 1)) (k : SX l dC dI dA b0 d M (pc + 1) ls (vL (x + y) :: st) h P) : SX l dC dI dA b0 d M pc ls (vL y :: vL x :: st) h P := by
  intro p e R s m args below meth c H locs cells slots LS Q hF hW hR hRp ho hl hL hQ
  exact lv_ladd hF.1 hF.2.1 hd (k p e R s m args below meth c H locs cells slots LS Q hF hW hR hRp ho hl hL hQ)
theorem sx_lor {x y : Int64} (hd : decode (mB M) pc = .ok (.lor, 1)) (k : SX l dC dI dA b0 d M (pc + 1) ls (vL (x ||| y) :: st) h P) : SX l dC dI dA b0 d M pc ls (vL y :: vL x :: st) h P := by
  intro p e R s m args below meth c H locs cells slots LS Q hF hW hR hRp ho hl hL hQ
  exact lv_lor hF.1 hF.2.1 hd (k p e R s m args below meth c H locs cells slots LS Q hF hW hR hRp ho hl hL hQ)
theorem sx_lshl {x : Int64} {y : Int32} (hd : decode (mB M) pc = .ok (.lshl, 1)) (k : SX l dC dI dA b0 d M (pc + 1) ls (vL (x <<< (y.toInt64 &&& 63)) :: st) h P) : SX l dC dI dA b0 d M pc ls (vI y :: vL x :: st) h P := by
  intro p e R s m args below meth c H locs cells slots LS Q hF hW hR hRp ho hl hL hQ
  exact lv_lshl hF.1 hF.2.1 hd rfl (k p e R s m args below meth c H locs cells slots LS Q hF hW hR hRp ho hl hL hQ)
theorem sx_lcmp {x y : Int64} (hd : decode (mB M) pc = .ok (.lcmp, 1)) (k : SX l dC dI dA b0 d M (pc + 1) ls (vI (lg_cmp x y) :: st) h P) : SX l dC dI dA b0 d M pc ls (vL y :: vL x :: st) h P := by
  intro p e R s m args below meth c H locs cells slots LS Q hF hW hR hRp ho hl hL hQ
  exact W.lcmp hF.1 hF.2.1 hd (k p e R s m args below meth c H locs cells slots LS Q hF hW hR hRp ho hl hL hQ)
theorem sx_i2l {x : Int32} (hd : decode (mB M) pc = .ok (.i2l, 1)) (k : SX l dC dI dA b0 d M (pc + 1) ls (vL x.toInt64 :: st) h P) : SX l dC dI dA b0 d M pc ls (vI x :: st) h P := by
  intro p e R s m args below meth c H locs cells slots LS Q hF hW hR hRp ho hl hL hQ
  exact lv_i2l hF.1 hF.2.1 hd rfl (k p e R s m args below meth c H locs cells slots LS Q hF hW hR hRp ho hl hL hQ)
theorem av_cI (x : Int32) : (av_V (vI x)).category = 1 := rfl
theorem av_cR (x : Option Nat) : (av_V (vR x)).category = 1 := by cases x <;> rfl
theorem sx_popvI {x : Int32} (hd : decode (mB M) pc = .ok (.pop, 1)) (k : SX l dC dI dA b0 d M (pc + 1) ls st h P) : SX l dC dI dA b0 d M pc ls (vI x :: st) h P := by
  intro p e R s m args below meth c H locs cells slots LS Q hF hW hR hRp ho hl hL hQ
  exact lv_pop (va := av_V (vI x)) hF.1 hF.2.1 hd (av_cI x) (k p e R s m args below meth c H locs cells slots LS Q hF hW hR hRp ho hl hL hQ)
theorem sx_dupvI {x : Int32} (hd : decode (mB M) pc = .ok (.dup, 1)) (k : SX l dC dI dA b0 d M (pc + 1) ls (vI x :: vI x :: st) h P) : SX l dC dI dA b0 d M pc ls (vI x :: st) h P := by
  intro p e R s m args below meth c H locs cells slots LS Q hF hW hR hRp ho hl hL hQ
  exact lv_dup (va := av_V (vI x)) hF.1 hF.2.1 hd (av_cI x) (k p e R s m args below meth c H locs cells slots LS Q hF hW hR hRp ho hl hL hQ)
theorem sx_popvR {x : Option Nat} (hd : decode (mB M) pc = .ok (.pop, 1)) (k : SX l dC dI dA b0 d M (pc + 1) ls st h P) : SX l dC dI dA b0 d M pc ls (vR x :: st) h P := by
  intro p e R s m args below meth c H locs cells slots LS Q hF hW hR hRp ho hl hL hQ
  exact lv_pop (va := av_V (vR x)) hF.1 hF.2.1 hd (av_cR x) (k p e R s m args below meth c H locs cells slots LS Q hF hW hR hRp ho hl hL hQ)
theorem sx_dupvR {x : Option Nat} (hd : decode (mB M) pc = .ok (.dup, 1)) (k : SX l dC dI dA b0 d M (pc + 1) ls (vR x :: vR x :: st) h P) : SX l dC dI dA b0 d M pc ls (vR x :: st) h P := by
  intro p e R s m args below meth c H locs cells slots LS Q hF hW hR hRp ho hl hL hQ
  exact lv_dup (va := av_V (vR x)) hF.1 hF.2.1 hd (av_cR x) (k p e R s m args below meth c H locs cells slots LS Q hF hW hR hRp ho hl hL hQ)
theorem sx_dup_x1 {x : Int32} {y : Option Nat} (hd : decode (mB M) pc = .ok (.dup_x1, 1)) (k : SX l dC dI dA b0 d M (pc + 1) ls (vI x :: vR y :: vI x :: st) h P) : SX l dC dI dA b0 d M pc ls (vI x :: vR y :: st) h P := by
  intro p e R s m args below meth c H locs cells slots LS Q hF hW hR hRp ho hl hL hQ
  exact lv_dup_x1 (va := av_V (vI x)) (vb := av_V (vR y)) hF.1 hF.2.1 hd (av_cI x) (av_cR y) (k p e R s m args below meth c H locs cells slots LS Q hF hW hR hRp ho hl hL hQ)
theorem sx_dup2 {x : Int32} {y : Option Nat} (hd : decode (mB M) pc = .ok (.dup2, 1)) (k : SX l dC dI dA b0 d M (pc + 1) ls (vI x :: vR y :: vI x :: vR y :: st) h P) : SX l dC dI dA b0 d M pc ls (vI x :: vR y :: st) h P := by
  intro p e R s m args below meth c H locs cells slots LS Q hF hW hR hRp ho hl hL hQ
  exact lv_dup2_11 (va := av_V (vI x)) (vb := av_V (vR y)) hF.1 hF.2.1 hd (av_cI x) (av_cR y) (k p e R s m args below meth c H locs cells slots LS Q hF hW hR hRp ho hl hL hQ)
theorem sx_if {co : ClassFile.Cond} {off : Int} {tgt : Nat} {x : Int32} (hd : decode (mB M) pc = .ok (.ifCond co off, 3)) (ht : (pc : Int) + off = (tgt : Int)) (k1 : cQ co x 0 → SX l dC dI dA b0 d M tgt ls st h P) (k2 : ¬ cQ co x 0 → SX l dC dI dA b0 d M (pc + 3) ls st h P) : SX l dC dI dA b0 d M pc ls (vI x :: st) h P := by
  intro p e R s m args below meth c H locs cells slots LS Q hF hW hR hRp ho hl hL hQ
  cases co with
  | eq => exact lv_if_eq hF.1 hF.2.1 hd ht (fun q => k1 q p e R s m args below meth c H locs cells slots LS Q hF hW hR hRp ho hl hL hQ) (fun q => k2 q p e R s m args below meth c H locs cells slots LS Q hF hW hR hRp ho hl hL hQ)
  | ne => exact lv_if_ne hF.1 hF.2.1 hd ht (fun q => k1 q p e R s m args below meth c H locs cells slots LS Q hF hW hR hRp ho hl hL hQ) (fun q => k2 (fun z => z q) p e R s m args below meth c H locs cells slots LS Q hF hW hR hRp ho hl hL hQ)
  | lt => exact lv_if_lt hF.1 hF.2.1 hd ht (fun q => k1 q p e R s m args below meth c H locs cells slots LS Q hF hW hR hRp ho hl hL hQ) (fun q => k2 q p e R s m args below meth c H locs cells slots LS Q hF hW hR hRp ho hl hL hQ)
  | ge => exact lv_if_ge hF.1 hF.2.1 hd ht (fun q => k1 q p e R s m args below meth c H locs cells slots LS Q hF hW hR hRp ho hl hL hQ) (fun q => k2 q p e R s m args below meth c H locs cells slots LS Q hF hW hR hRp ho hl hL hQ)
  | gt => exact lv_if_gt hF.1 hF.2.1 hd ht (fun q => k1 q p e R s m args below meth c H locs cells slots LS Q hF hW hR hRp ho hl hL hQ) (fun q => k2 q p e R s m args below meth c H locs cells slots LS Q hF hW hR hRp ho hl hL hQ)
  | le => exact lv_if_le hF.1 hF.2.1 hd ht (fun q => k1 q p e R s m args below meth c H locs cells slots LS Q hF hW hR hRp ho hl hL hQ) (fun q => k2 q p e R s m args below meth c H locs cells slots LS Q hF hW hR hRp ho hl hL hQ)
theorem sx_icmp {co : ClassFile.Cond} {off : Int} {tgt : Nat} {x y : Int32} (hd : decode (mB M) pc = .ok (.if_icmp co off, 3)) (ht : (pc : Int) + off = (tgt : Int)) (k1 : cQ co x y → SX l dC dI dA b0 d M tgt ls st h P) (k2 : ¬ cQ co x y → SX l dC dI dA b0 d M (pc + 3) ls st h P) : SX l dC dI dA b0 d M pc ls (vI y :: vI x :: st) h P := by
  intro p e R s m args below meth c H locs cells slots LS Q hF hW hR hRp ho hl hL hQ
  cases co with
  | eq => exact lv_icmp_eq hF.1 hF.2.1 hd ht (fun q => k1 q p e R s m args below meth c H locs cells slots LS Q hF hW hR hRp ho hl hL hQ) (fun q => k2 q p e R s m args below meth c H locs cells slots LS Q hF hW hR hRp ho hl hL hQ)
  | ne => exact lv_icmp_ne hF.1 hF.2.1 hd ht (fun q => k1 q p e R s m args below meth c H locs cells slots LS Q hF hW hR hRp ho hl hL hQ) (fun q => k2 (fun z => z q) p e R s m args below meth c H locs cells slots LS Q hF hW hR hRp ho hl hL hQ)
  | lt => exact lv_icmp_lt hF.1 hF.2.1 hd ht (fun q => k1 q p e R s m args below meth c H locs cells slots LS Q hF hW hR hRp ho hl hL hQ) (fun q => k2 q p e R s m args below meth c H locs cells slots LS Q hF hW hR hRp ho hl hL hQ)
  | ge => exact lv_icmp_ge hF.1 hF.2.1 hd ht (fun q => k1 q p e R s m args below meth c H locs cells slots LS Q hF hW hR hRp ho hl hL hQ) (fun q => k2 q p e R s m args below meth c H locs cells slots LS Q hF hW hR hRp ho hl hL hQ)
  | gt => exact lv_icmp_gt hF.1 hF.2.1 hd ht (fun q => k1 q p e R s m args below meth c H locs cells slots LS Q hF hW hR hRp ho hl hL hQ) (fun q => k2 q p e R s m args below meth c H locs cells slots LS Q hF hW hR hRp ho hl hL hQ)
  | le => exact lv_icmp_le hF.1 hF.2.1 hd ht (fun q => k1 q p e R s m args below meth c H locs cells slots LS Q hF hW hR hRp ho hl hL hQ) (fun q => k2 q p e R s m args below meth c H locs cells slots LS Q hF hW hR hRp ho hl hL hQ)
theorem sx_ifnull {off : Int} {tgt : Nat} {x : Option Nat} (hd : decode (mB M) pc = .ok (.ifnull off, 3)) (ht : (pc : Int) + off = (tgt : Int)) (k1 : x = none → SX l dC dI dA b0 d M tgt ls st h P) (k2 : ¬ x = none → SX l dC dI dA b0 d M (pc + 3) ls st h P) : SX l dC dI dA b0 d M pc ls (vR x :: st) h P := by
  intro p e R s m args below meth c H locs cells slots LS Q hF hW hR hRp ho hl hL hQ
  cases x with
  | none => exact lv_ifnullN hF.1 hF.2.1 hd ht (k1 rfl p e R s m args below meth c H locs cells slots LS Q hF hW hR hRp ho hl hL hQ)
  | some a => exact lv_ifnull hF.1 hF.2.1 hd (k2 (by simp) p e R s m args below meth c H locs cells slots LS Q hF hW hR hRp ho hl hL hQ)
theorem sx_ifnonnull {off : Int} {tgt : Nat} {x : Option Nat} (hd : decode (mB M) pc = .ok (.ifnonnull off, 3)) (ht : (pc : Int) + off = (tgt : Int)) (k1 : x = none → SX l dC dI dA b0 d M (pc + 3) ls st h P) (k2 : ¬ x = none → SX l dC dI dA b0 d M tgt ls st h P) : SX l dC dI dA b0 d M pc ls (vR x :: st) h P := by
  intro p e R s m args below meth c H locs cells slots LS Q hF hW hR hRp ho hl hL hQ
  cases x with
  | none => exact lv_ifnonnullN hF.1 hF.2.1 hd (k1 rfl p e R s m args below meth c H locs cells slots LS Q hF hW hR hRp ho hl hL hQ)
  | some a => exact lv_ifnonnull hF.1 hF.2.1 hd ht (k2 (by simp) p e R s m args below meth c H locs cells slots LS Q hF hW hR hRp ho hl hL hQ)
theorem sx_goto {off : Int} {tgt : Nat} (hd : decode (mB M) pc = .ok (.goto off, 3)) (ht : (pc : Int) + off = (tgt : Int)) (k : SX l dC dI dA b0 d M tgt ls st h P) : SX l dC dI dA b0 d M pc ls st h P := by
  intro p e R s m args below meth c H locs cells slots LS Q hF hW hR hRp ho hl hL hQ
  exact lv_goto hF.1 hF.2.1 hd ht (k p e R s m args below meth c H locs cells slots LS Q hF hW hR hRp ho hl hL hQ)
theorem swQ_at {x lo : Int32} {K : Nat → Prop} : ∀ (L : List Nat) (lo : Int32) (j : Nat), swQ x K lo L → j < L.length → x = lo + nI j → ∃ t, L[j]? = some t ∧ K t
  | [], _, j, _, hj, _ => absurd hj (Nat.not_lt_zero j)
  | t :: r, lo, 0, h, _, hx => ⟨t, rfl, h.1 (by rw [hx, nI_0]; simp)⟩
  | t :: r, lo, j + 1, h, hj, hx => by
    obtain ⟨t', e1, e2⟩ := swQ_at (x := x) (lo := lo) r (lo + 1) j h.2 (by simpa using hj) (by rw [hx, nI_succ]; rw [Int32.add_assoc, Int32.add_comm 1])
    exact ⟨t', by simpa using e1, e2⟩
theorem sx_switch {df lo hi : Int} {offs : Array Int} {len : Nat} {x lo' : Int32} {tgt : Nat} {L : List Nat} (hd : decode (mB M) pc = .ok (.tableswitch df lo hi offs, len)) (hlo : lo'.toInt = lo) (hhi : hi = lo + L.length - 1) (hof : offs.toList.map (fun o => (pc : Int) + o) = L.map (fun t : Nat => (t : Int))) (ht : (pc : Int) + df = (tgt : Int)) (hb : lo + L.length < 2 ^ 31) (hb2 : L.length < 2 ^ 31)
    (k1 : swQ x (fun t => SX l dC dI dA b0 d M t ls st h P) lo' L) (k2 : x.toInt < lo'.toInt ∨ lo'.toInt + L.length ≤ x.toInt → SX l dC dI dA b0 d M tgt ls st h P) : SX l dC dI dA b0 d M pc ls (vI x :: st) h P := by
  by_cases hx : x.toInt < lo'.toInt ∨ lo'.toInt + L.length ≤ x.toInt
  · have k := k2 hx
    intro p e R s m args below meth c H locs cells slots LS Q hF hW hR hRp ho hl hL hQ
    exact lv_tableOut hF.1 hF.2.1 hd (by rw [hlo] at hx; rcases hx with q | q <;> omega) ht (k p e R s m args below meth c H locs cells slots LS Q hF hW hR hRp ho hl hL hQ)
  · have hx1 : ¬ x.toInt < lo'.toInt := fun q => hx (Or.inl q)
    have hx2 : ¬ lo'.toInt + L.length ≤ x.toInt := fun q => hx (Or.inr q)
    have hm := Int32.le_toInt lo'
    have hj : (x.toInt - lo).toNat < L.length := by omega
    obtain ⟨t, e1, k⟩ := swQ_at (x := x) (lo := lo') L lo' (x.toInt - lo).toNat k1 hj (by
      apply Int32.toInt_inj.mp
      rw [Int32.toInt_add, nI_toInt (by omega)]
      have h3 : lo'.toInt + ((x.toInt - lo).toNat : Int) = x.toInt := by omega
      rw [h3]
      have h1 := Int32.le_toInt x
      have h2 := Int32.toInt_lt x
      rw [Int.bmod_eq_of_le (by omega) (by omega)])
    have hlen : offs.toList.length = L.length := by have := congrArg List.length hof; simpa using this
    have h9 : (offs.toList.map (fun o => (pc : Int) + o))[(x.toInt - lo).toNat]? = some (t : Int) := by rw [hof, List.getElem?_map, e1]; rfl
    rw [List.getElem?_map] at h9
    cases ho9 : offs.toList[(x.toInt - lo).toNat]? with
    | none => rw [ho9] at h9; cases h9
    | some o =>
      rw [ho9] at h9
      intro p e R s m args below meth c H locs cells slots LS Q hF hW hR hRp ho hl hL hQ
      exact lv_tableIn (off := o) (tgt := t) hF.1 hF.2.1 hd (by omega) (by omega) (by rw [← Array.getElem?_toList]; exact ho9) (Option.some.inj h9) (k p e R s m args below meth c H locs cells slots LS Q hF hW hR hRp ho hl hL hQ)
end SX8
end
section
/-! ===== what the tables say of classes and fields: decided ===== -/
def fty (f : Nat) : FieldType := (parseFieldDescriptor (fD f).2.2.1).getD .int
def isRefTy (t : FieldType) : Bool := match t with
  | .object _ => true
  | .array _ => true
  | _ => false
def kOK (f : Nat) : Bool := match f % 4 with
  | 0 => decide (fty f = .int)
  | 1 => decide (fty f = .long)
  | 2 => isRefTy (fty f)
  | _ => decide (fty f = .boolean)
set_option maxRecDepth 100000 in
theorem st_u : ∀ c, c < 17 → ∀ w ∈ u_ws (oN c) (cT c) (idsOf c).length, w ∈ lw_tbl ∧ wok w = true := by decide +kernel
set_option maxRecDepth 100000 in
theorem st_n : ∀ c, c < 17 → ∀ a, a < (idsOf c).length → ∀ b, b < (idsOf c).length → a ≠ b → (cT c a).2.1 ≠ (cT c b).2.1 := by decide +kernel
set_option maxRecDepth 100000 in
theorem st_t : ∀ c, c < 17 → ∀ k, k < (idsOf c).length → parseFieldDescriptor (cT c k).2.2.1 = some (fty ((idsOf c).getD k 0)) ∧ kOK ((idsOf c).getD k 0) = true := by decide +kernel
theorem st_17 (c : Nat) (h : 17 ≤ c) : idsOf c = [] := by
  unfold idsOf
  rw [List.getD_eq_getElem?_getD, List.getElem?_eq_none (by simpa [x_ids] using h)]
  rfl
theorem st_i : ∀ c, c < 17 → (Jvm.Cond.instantiable (oN c) (idsOf c).length ∈ lw_tbl ∧ Jvm.Cond.initialized (oN c) ∈ lw_tbl) := by decide +kernel
theorem st_d : ∀ c, c < 17 → (idsOf c).Nodup := by decide +kernel
end
section
/-! ===== soundness of the instructions on the heap, and of the returns ===== -/
/-- the field f by the pool's entry i of the class o -/
def fOK (o i f : Nat) : Prop := ∃ ref, Jvm.Cond.fieldLink (oN o) i ref (fD f).2.1 (fD f).2.2.1 ∈ lw_tbl ∧ (ref = (fD f).1 ∨ Jvm.Cond.sameField ref (fD f).1 (fD f).2.1 (fD f).2.2.1 ∈ lw_tbl)
section SX10
variable {l : Launch} {dC : Nat → ClassId} {dI : Nat → Nat → Nat} {dA : Nat → ClassId} {b0 d M pc : Nat} {ls st : List AV} {h : AH} {P : PT}
theorem sn_W.use {U : State} (hW : sn_W dC dI dA b0 U) {w : Jvm.Cond} (hw : w ∈ lw_tbl) (ho : wok w = true) {A : Array Value} : w.before A U = true := wok_move ho (State.WarmedH.refl U) (hW.1 w hw ho)
theorem sn_fok {U : State} {H : Heap} {a f : Nat} (hR : sn_R dC dI dA b0 U h H) (hf : fok h a f) : ∃ c n k, c < 17 ∧ hT h a = some (c, n) ∧ b0 ≤ a ∧ t_OB a (dC c) (idsOf c).length (dI c) H (objV h a c) ∧ k < (idsOf c).length ∧ (idsOf c).getD k 0 = f ∧ (idsOf c)[k]? = some f := by
  unfold fok at hf
  cases ht : hT h a with
  | none => rw [ht] at hf; cases hf
  | some t =>
    rw [ht] at hf
    obtain ⟨c, n⟩ := t
    have hm : f ∈ idsOf c := by simpa using hf
    have hc : c < 17 := by
      rcases Nat.lt_or_ge c 17 with q | q
      · exact q
      · rw [st_17 c q] at hm; cases hm
    obtain ⟨k, hk⟩ := List.getElem?_of_mem hm
    rcases hR.2.2 a _ ht with ⟨h1, h2, h3⟩ | ⟨ty, h1, h2, h3, h4⟩ | ⟨h1, h2, h3⟩ | ⟨h1, h2, h3, h4⟩
    · exact ⟨c, n, k, hc, rfl, h2, h3, (List.getElem?_eq_some_iff.mp hk).1, by simp [hk], hk⟩
    · have h2 : c = 100 + ty := h2
      omega
    · have h1 : c = 107 := h1
      omega
    · have h1 : 50 ≤ c := h1
      omega
theorem sn_ws {U : State} (hW : sn_W dC dI dA b0 U) {c : Nat} (hc : c < 17) {A : Array Value} : ∀ w ∈ u_ws (oN c) (cT c) (idsOf c).length, w.before A U = true :=
  fun w hw => hW.use (st_u c hc w hw).1 (st_u c hc w hw).2
theorem sx_getf {i f a : Nat} (hd : decode (mB M) pc = .ok (.getfield i, 3)) (hfk : fOK (mO M) i f) (hok : fok h a f) (k : SX l dC dI dA b0 d M (pc + 3) ls (fgt h a f :: st) h P) : SX l dC dI dA b0 d M pc ls (vR (some a) :: st) h P := by
  intro p e R s m args below meth c H locs cells slots LS Q hF hW hRm hRp ho hl hLc hQ
  obtain ⟨ci, n, j, hc, ht, hb0, ⟨cell, q1, q2, q3, q4⟩, hj, hjf, -⟩ := sn_fok hRp hok
  obtain ⟨ref, w1, w2⟩ := hfk
  obtain ⟨hS, hfc, kC, hkC, hkind⟩ := hW.2.1.1 ci hc
  obtain ⟨cf, kf, fi, fd, hi, hsl⟩ := hS j hj
  have hT : cT ci j = fD f := by show fD _ = _; rw [hjf]
  have hi' : s.fieldFound? ref (fD f).2.1 (fD f).2.2.1 = some (cf, kf, fi, fd) := by
    rw [hT] at hi
    rcases w2 with rfl | w2
    · exact hi
    · exact u_same (hW.use (A := args) w2 rfl) _ hi
  refine W.getf hF.1 hF.2.1 hF.2.2.2.2.2.1 (hW.use w1 rfl) hi' (u_facts hfc hkC (u_lays (sn_ws hW hc (A := args)) (fun w hw => hw) hj) hi).1 q1 (by rw [q3]; exact fun h => by cases h) (v := av_V (fgt h a f)) ?_ rfl rfl hd (k p e R s m args below meth c H locs cells slots LS Q hF hW hRm hRp ho hl hLc hQ)
  rw [hsl, q4 j hj]
  show some (av_V (fgt h a ((idsOf ci).getD j 0))) = _
  rw [hjf]
/-- a store into a field: what changes in the abstract heap is the field f of a alone, and it holds v -/
theorem sx_putf {i f a : Nat} {v : AV} {h' : AH} (hd : decode (mB M) pc = .ok (.putfield i, 3)) (hfk : fOK (mO M) i f) (hfin : (fD f).2.2.2 = false ∨ ((mY M).name = "<init>" ∧ (fD f).1 = oN (mO M))) (hok : fok h a f)
    (hn : narrow (fty f) (av_V v) = av_V v) (hfit : fits (fty f) (av_V v) = true)
    (hN' : hN h' = hN h) (hT' : hT h' = hT h) (hC' : hC h' = hC h) (hS' : hS h' = hS h) (hi9 : ∀ q, q ≠ a → hI h' q = hI h q) (hl9 : ∀ q, q ≠ a → hL h' q = hL h q) (hr9 : ∀ q, q ≠ a → hR h' q = hR h q) (hv : fgt h' a f = v) (ho9 : ∀ g, g ≠ f → fgt h' a g = fgt h a g)
    (k : SX l dC dI dA b0 d M (pc + 3) ls st h' P) : SX l dC dI dA b0 d M pc ls (v :: vR (some a) :: st) h P := by
  intro p e R s m args below meth c H locs cells slots LS Q hF hW hRm hRp ho hl hLc hQ
  obtain ⟨ci, n, j, hc, ht, hb0, ⟨cell, q1, q2, q3, q4⟩, hj, hjf, hjf2⟩ := sn_fok hRp hok
  obtain ⟨ref, w1, w2⟩ := hfk
  obtain ⟨hS, hfc, kC, hkC, hkind⟩ := hW.2.1.1 ci hc
  obtain ⟨cf, kf, fi, fd, hi, hsl⟩ := hS j hj
  have hT : cT ci j = fD f := by show fD _ = _; rw [hjf]
  have hi' : s.fieldFound? ref (fD f).2.1 (fD f).2.2.1 = some (cf, kf, fi, fd) := by
    rw [hT] at hi
    rcases w2 with rfl | w2
    · exact hi
    · exact u_same (hW.use (A := args) w2 rfl) _ hi
  have hlays := u_lays (sn_ws hW hc (A := args)) (fun w hw => hw) hj
  have hst := (u_facts hfc hkC hlays hi).1
  have hty := (st_t ci hc j hj).1
  rw [hjf] at hty
  have hap : ∀ x y, x < (idsOf ci).length → y < (idsOf ci).length → x ≠ y → dI ci x ≠ dI ci y := by
    intro x y hx hy hne
    obtain ⟨_, _, _, fa, hia, ea⟩ := hS x hx
    obtain ⟨_, _, _, fb, hib, eb⟩ := hS y hy
    rw [← ea, ← eb]
    refine u_apart (u_lays (sn_ws hW hc (A := args)) (fun w hw => hw) hx) (u_lays (sn_ws hW hc (A := args)) (fun w hw => hw) hy) hia hib ?_
    rw [(State.fieldFound?_type hia (st_t ci hc x hx).1).1, (State.fieldFound?_type hib (st_t ci hc y hy).1).1]
    exact st_n ci hc x hx y hy hne
  have hlay := (sn_ws hW hc (A := args)) _ (u_in_lay hj)
  have hend : ∀ H' : Heap, H'[a]? = some (cell.setSlot fd.slot (av_V v)) → H'.size = H.size → (∀ q, q ≠ a → H'[q]? = H[q]?) → W p l e R s m args below meth c H' (locs ++ [⟨a, fd.slot⟩]) cells slots Q (F0 m (pc + 3) LS (st.map av_V)) := by
    intro H' e1 e2 e3
    refine k p e R s m args below meth c H' _ cells slots LS Q hF hW (by rw [hC', hS']; exact hRm) ?_ (fun q hq => by rw [e3 q (by omega)]; exact ho q hq) (fun q hq => ?_) hLc (fun o h2 t hp he => hQ o h2 t hp (by rw [hC', hS'] at he; exact he))
    · refine hRp.put (a := a) e2 e3 hN' hT' hi9 hl9 hr9 (fun t' ht' => ?_)
      cases ht.symm.trans ht'
      refine Or.inl ⟨hc, hb0, ⟨_, e1, q2, q3, fun x hx => ?_⟩⟩
      rw [hsl, t_set q4 hap hj (av_V v) x hx]
      unfold updV
      split
      · rename_i e
        subst e
        show _ = some (av_V (fgt h' a ((idsOf ci).getD x 0)))
        rw [hjf, hv]
      · rename_i e
        show some (av_V (fgt h a ((idsOf ci).getD x 0))) = some (av_V (fgt h' a ((idsOf ci).getD x 0)))
        rw [ho9]
        intro e9
        apply e
        have hx2 : (idsOf ci)[x]? = some f := by rw [List.getElem?_eq_getElem hx]; rw [← e9]; simp [hx]
        exact (List.getElem?_inj hx (st_d ci hc)).mp (hx2.trans hjf2.symm)
    · rcases List.mem_append.mp hq with z | z
      · exact hl q z
      · rw [List.mem_singleton.mp z]; exact hb0
  by_cases hfi : (fD f).2.2.2 = false
  · unfold u_lay at hlay
    rw [if_neg (by rw [hT, hfi]; decide), hT] at hlay
    have h6 := u_store hfc hkC hkind hlay (by rw [hT] at hi; exact hi) (by rw [hT] at hty; exact hty) hn hfit
    exact W.putK hF.1 hF.2.1 (f := fd) ⟨hF.2.2.2.2.2.1, hW.use w1 rfl, ⟨_, _, _, hi'⟩, hst⟩ (by rw [q2]; exact h6) q1 q3 (by rw [hsl]; exact k2_hasslot (q4 j hj)) rfl rfl hd hend
  · have hfi : (fD f).2.2.2 = true := by cases hb9 : (fD f).2.2.2 with
      | true => rfl
      | false => exact absurd hb9 hfi
    obtain ⟨hin2, hdecl⟩ := hfin.resolve_left (by rw [hfi]; decide)
    unfold u_lay at hlay
    rw [if_pos (by rw [hT]; exact hfi), hT] at hlay
    have hi2 := hi
    rw [hT] at hi2
    have hcf : m.cls = cf := by
      obtain ⟨_, _, c', _, _, _, -, -, hf', -, -, -, hown2, -⟩ := Cond.laysFinal_spec hlay
      have e1 : c' = cf := by have := hi2.symm.trans hf'; simp at this; exact this.1.symm
      rw [hdecl] at hown2
      rw [← e1]; exact Option.some.inj (hF.2.2.2.2.2.1.symm.trans hown2)
    have h6 := u_fits hfc hkC hkind (Or.inr hlay) hi2 (by rw [hT] at hty; exact hty) hn hfit
    exact W.putFinK hF.1 hF.2.1 hF.2.2.2.2.2.1 (hW.use w1 rfl) hi' hst hcf (hF.2.2.2.2.2.2.1.trans hin2) (by rw [q2]; exact h6) q1 q3 (by rw [hsl]; exact k2_hasslot (q4 j hj)) rfl rfl hd hend
/-- an array's cell -/
theorem sn_arr {U : State} {H : Heap} {a ty n : Nat} (hty : ty < 7) (hR : sn_R dC dI dA b0 U h H) (ht : hT h a = some (100 + ty, n)) : b0 ≤ a ∧ H[a]? = some (arrV (dA ty) n (arrF h a ty)) := by
  rcases hR.2.2 a _ ht with ⟨h1, h2, h3⟩ | ⟨ty', h1, h2, h3, h4⟩ | ⟨h1, h2, h3⟩ | ⟨h1, h2, h3, h4⟩
  · have h1 : 100 + ty < 17 := h1
    omega
  · have h2 : 100 + ty = 100 + ty' := h2
    have e : ty' = ty := by omega
    subst e
    exact ⟨h3, h4⟩
  · have h1 : 100 + ty = 107 := h1
    omega
  · have h2 : 100 + ty < 55 := h2
    omega
theorem sx_iald {a : Nat} {i : Int32} (hd : decode (mB M) pc = .ok (.iaload, 1)) (hok : aIn h a i) (k : SX l dC dI dA b0 d M (pc + 1) ls (vI (hI h a i.toNatClampNeg) :: st) h P) : SX l dC dI dA b0 d M pc ls (vI i :: vR (some a) :: st) h P := by
  intro p e R s m args below meth c H locs cells slots LS Q hF hW hRm hRp ho hl hLc hQ
  obtain ⟨n, ht, hin⟩ := hok
  have hlt : i.toNatClampNeg < n := Nat.not_le.mp fun q => hin (Or.inr q)
  rcases ht with ht | ht
  · obtain ⟨-, hc⟩ := sn_arr (ty := 0) (by decide) hRp ht
    exact W.iald (v := .int (hI h a i.toNatClampNeg)) hF.1 hF.2.1 hc ((hW.2.1.2 0 (by decide)).1 n _) (fun q => by cases q) (by rw [arrV_size]; exact hin) (by rw [arrV_read _ _ hlt]; rfl) rfl rfl hd (k p e R s m args below meth c H locs cells slots LS Q hF hW hRm hRp ho hl hLc hQ)
  · rcases hRp.2.2 a _ ht with ⟨h1, h2, h3⟩ | ⟨ty', h1, h2, h3, h4⟩ | ⟨h1, h2, scr, x1, x2, x3, x4, x5⟩ | ⟨h1, h2, h3, h4⟩
    · have h1 : 107 < 17 := h1
      omega
    · have h2 : 107 = 100 + ty' := h2
      omega
    · exact W.iald (v := .int (hI h a i.toNatClampNeg)) hF.1 hF.2.1 x1 x2 x3 (by rw [x4]; exact hin) (x5 _ hlt) rfl rfl hd (k p e R s m args below meth c H locs cells slots LS Q hF hW hRm hRp ho hl hLc hQ)
    · have h2 : 107 < 55 := h2
      omega
theorem sx_bald {a : Nat} {i : Int32} (hd : decode (mB M) pc = .ok (.baload, 1)) (hok : ain h a 1 i) (k : SX l dC dI dA b0 d M (pc + 1) ls (vI (hI h a i.toNatClampNeg) :: st) h P) : SX l dC dI dA b0 d M pc ls (vI i :: vR (some a) :: st) h P := by
  intro p e R s m args below meth c H locs cells slots LS Q hF hW hRm hRp ho hl hLc hQ
  obtain ⟨n, ht, hin⟩ := hok
  have hlt : i.toNatClampNeg < n := Nat.not_le.mp fun q => hin (Or.inr q)
  obtain ⟨-, hc⟩ := sn_arr (ty := 1) (by decide) hRp ht
  exact W.zald (v := .int (hI h a i.toNatClampNeg)) hF.1 hF.2.1 hc ((hW.2.1.2 1 (by decide)).1 n _) (fun q => by cases q) (by rw [arrV_size]; exact hin) (by rw [arrV_read _ _ hlt]; rfl) rfl rfl hd (k p e R s m args below meth c H locs cells slots LS Q hF hW hRm hRp ho hl hLc hQ)
theorem sx_lald {a : Nat} {i : Int32} (hd : decode (mB M) pc = .ok (.laload, 1)) (hok : ain h a 2 i) (k : SX l dC dI dA b0 d M (pc + 1) ls (vL (hL h a i.toNatClampNeg) :: st) h P) : SX l dC dI dA b0 d M pc ls (vI i :: vR (some a) :: st) h P := by
  intro p e R s m args below meth c H locs cells slots LS Q hF hW hRm hRp ho hl hLc hQ
  obtain ⟨n, ht, hin⟩ := hok
  have hlt : i.toNatClampNeg < n := Nat.not_le.mp fun q => hin (Or.inr q)
  obtain ⟨-, hc⟩ := sn_arr (ty := 2) (by decide) hRp ht
  exact W.lald (v := .long (hL h a i.toNatClampNeg)) hF.1 hF.2.1 hc ((hW.2.1.2 2 (by decide)).1 n _) (fun q => by cases q) (by rw [arrV_size]; exact hin) (by rw [arrV_read _ _ hlt]; rfl) rfl rfl hd (k p e R s m args below meth c H locs cells slots LS Q hF hW hRm hRp ho hl hLc hQ)
theorem aty_ref {ty : Nat} (h1 : 3 ≤ ty) (h2 : ty ≤ 6) : aty ty = .object (oN (cmpC ty)) ∧ cmpC ty < 17 := by
  rcases (show ty = 3 ∨ ty = 4 ∨ ty = 5 ∨ ty = 6 by omega) with rfl | rfl | rfl | rfl <;> exact ⟨rfl, by decide⟩
theorem sx_aald {a : Nat} {i : Int32} (hd : decode (mB M) pc = .ok (.aaload, 1)) (hok : aRf h a i) (k : SX l dC dI dA b0 d M (pc + 1) ls (vR (hR h a i.toNatClampNeg) :: st) h P) : SX l dC dI dA b0 d M pc ls (vI i :: vR (some a) :: st) h P := by
  intro p e R s m args below meth c H locs cells slots LS Q hF hW hRm hRp ho hl hLc hQ
  obtain ⟨ty, n, t1, t2, ht, hin⟩ := hok
  have hlt : i.toNatClampNeg < n := Nat.not_le.mp fun q => hin (Or.inr q)
  obtain ⟨-, hc⟩ := sn_arr (ty := ty) (by omega) hRp ht
  refine W.aald (ty := aty ty) (v := va_rf (hR h a i.toNatClampNeg)) hF.1 hF.2.1 hc ((hW.2.1.2 ty (by omega)).1 n _) (by rw [(aty_ref t1 t2).1]; rfl) (fun q => by cases q) (by rw [arrV_size]; exact hin) ?_ rfl rfl hd (k p e R s m args below meth c H locs cells slots LS Q hF hW hRm hRp ho hl hLc hQ)
  rw [arrV_read _ _ hlt]
  unfold arrF
  rw [if_neg (by omega), if_neg (by omega)]
/-- behind a store into an array -/
theorem sx_ast {p : Program} {e : Env} {R : Room} {s : State} {m : MethodId} {args : Array Value} {below : List Frame} {meth : Method} {c : Code} {H H' : Heap} {locs : List Loc} {cells slots : Nat} {LS : Array Slot} {Q : State → Prop} {a ty n j pc' : Nat} {v : Value} {h' : AH} (hty : ty < 7)
    (hF : sn_F p s m meth c M) (hW : sn_W dC dI dA b0 s) (hRm : d + 20 ≤ R.frames ∧ 60 * d + 200 ≤ R.locals ∧ cells + hC h ≤ R.cells ∧ slots + hS h ≤ R.slots) (hRp : sn_R dC dI dA b0 s h H) (ho : ∀ q, q < b0 → H[q]? = s.heap[q]?) (hl : ∀ q ∈ locs, b0 ≤ q.base) (hLc : sn_L LS (mL M) ls)
    (hQ : ∀ o h' t, P o h' → sn_E dC dI dA b0 s below (cells + hC h) (slots + hS h) t o h' → Q t) (ht : hT h a = some (100 + ty, n))
    (e1 : H'[a]? = some ((arrV (dA ty) n (arrF h a ty)).setSlot j v)) (e2 : H'.size = H.size) (e3 : ∀ q, q ≠ a → H'[q]? = H[q]?)
    (hN' : hN h' = hN h) (hT' : hT h' = hT h) (hC' : hC h' = hC h) (hS' : hS h' = hS h) (hi9 : ∀ q, q ≠ a → hI h' q = hI h q) (hl9 : ∀ q, q ≠ a → hL h' q = hL h q) (hr9 : ∀ q, q ≠ a → hR h' q = hR h q) (hv : arrF h' a ty = updV (arrF h a ty) j v)
    (k : SX l dC dI dA b0 d M pc' ls st h' P) : W p l e R s m args below meth c H' (locs ++ [⟨a, j⟩]) cells slots Q (F0 m pc' LS (st.map av_V)) := by
  obtain ⟨hb0, hc⟩ := sn_arr hty hRp ht
  refine k p e R s m args below meth c H' _ cells slots LS Q hF hW (by rw [hC', hS']; exact hRm) ?_ (fun q hq => by rw [e3 q (by omega)]; exact ho q hq) (fun q hq => ?_) hLc (fun o h2 t hp he => hQ o h2 t hp (by rw [hC', hS'] at he; exact he))
  · refine hRp.put (a := a) e2 e3 hN' hT' hi9 hl9 hr9 (fun t' ht' => ?_)
    cases ht.symm.trans ht'
    exact Or.inr (Or.inl ⟨ty, hty, rfl, hb0, by rw [e1, arrV_store, hv]⟩)
  · rcases List.mem_append.mp hq with z | z
    · exact hl q z
    · rw [List.mem_singleton.mp z]; exact hb0
theorem u2_ne {α : Type} (f : Nat → Nat → α) {a k : Nat} {v : α} {q : Nat} (h : q ≠ a) : u2 f a k v q = f q := by
  funext j; simp [u2, h]
theorem u2_at {α : Type} (f : Nat → Nat → α) {a k : Nat} {v : α} (j : Nat) : u2 f a k v a j = if j = k then v else f a j := by
  simp [u2]
theorem arrF_I {h : AH} {a j : Nat} {x : Int32} {ty : Nat} (hty : ty < 2) : arrF (wI h a j x) a ty = updV (arrF h a ty) j (.int x) := by
  funext q
  unfold arrF updV
  simp only [if_neg (show ¬ ty = 2 by omega), if_pos hty, hI_wI, true_and]
  split <;> simp_all
theorem arrF_L {h : AH} {a j : Nat} {x : Int64} : arrF (wL h a j x) a 2 = updV (arrF h a 2) j (.long x) := by
  funext q
  unfold arrF updV
  simp only [if_true, hL_wL, true_and]
  split <;> simp_all
theorem arrF_R {h : AH} {a j : Nat} {x : Option Nat} {ty : Nat} (hty : 3 ≤ ty) : arrF (wR h a j x) a ty = updV (arrF h a ty) j (va_rf x) := by
  funext q
  unfold arrF updV
  simp only [if_neg (show ¬ ty = 2 by omega), if_neg (show ¬ ty < 2 by omega), hR_wR, true_and]
  split <;> simp_all
theorem wI_ne {h : AH} {a k : Nat} {v : Int32} : ∀ q, q ≠ a → hI (wI h a k v) q = hI h q := fun q hq => u2_ne _ hq
theorem wL_ne {h : AH} {a k : Nat} {v : Int64} : ∀ q, q ≠ a → hL (wL h a k v) q = hL h q := fun q hq => u2_ne _ hq
theorem wR_ne {h : AH} {a k : Nat} {v : Option Nat} : ∀ q, q ≠ a → hR (wR h a k v) q = hR h q := fun q hq => u2_ne _ hq
theorem sx_iast {a : Nat} {i x : Int32} (hd : decode (mB M) pc = .ok (.iastore, 1)) (hok : ain h a 0 i) (k : SX l dC dI dA b0 d M (pc + 1) ls st (wI h a i.toNatClampNeg x) P) : SX l dC dI dA b0 d M pc ls (vI x :: vI i :: vR (some a) :: st) h P := by
  intro p e R s m args below meth c H locs cells slots LS Q hF hW hRm hRp ho hl hLc hQ
  obtain ⟨n, ht, hin⟩ := hok
  obtain ⟨-, hc⟩ := sn_arr (ty := 0) (by decide) hRp ht
  exact W.iast hF.1 hF.2.1 hc ((hW.2.1.2 0 (by decide)).1 n _) (fun q => by cases q) (by rw [arrV_size]; exact hin) rfl rfl hd (fun H' e1 e2 e3 => sx_ast (h' := wI h a i.toNatClampNeg x) (ty := 0) (by decide) hF hW hRm hRp ho hl hLc hQ ht e1 e2 e3 rfl rfl rfl rfl wI_ne (fun _ _ => rfl) (fun _ _ => rfl) (arrF_I (by decide)) k)
theorem nar_B {x : Int32} (hx : isB x) : narrow .boolean (.int x) = .int x := by rcases hx with rfl | rfl <;> decide +kernel
theorem sx_bast {a : Nat} {i x : Int32} (hd : decode (mB M) pc = .ok (.bastore, 1)) (hx : isB x) (hok : ain h a 1 i) (k : SX l dC dI dA b0 d M (pc + 1) ls st (wI h a i.toNatClampNeg x) P) : SX l dC dI dA b0 d M pc ls (vI x :: vI i :: vR (some a) :: st) h P := by
  intro p e R s m args below meth c H locs cells slots LS Q hF hW hRm hRp ho hl hLc hQ
  obtain ⟨n, ht, hin⟩ := hok
  obtain ⟨-, hc⟩ := sn_arr (ty := 1) (by decide) hRp ht
  exact W.zast hF.1 hF.2.1 hc ((hW.2.1.2 1 (by decide)).1 n _) (fun q => by cases q) (by rw [arrV_size]; exact hin) rfl rfl hd (fun H' e1 e2 e3 => sx_ast (h' := wI h a i.toNatClampNeg x) (ty := 1) (by decide) hF hW hRm hRp ho hl hLc hQ ht (by rw [nar_B hx] at e1; exact e1) e2 e3 rfl rfl rfl rfl wI_ne (fun _ _ => rfl) (fun _ _ => rfl) (arrF_I (by decide)) k)
theorem sx_last {a : Nat} {i : Int32} {x : Int64} (hd : decode (mB M) pc = .ok (.lastore, 1)) (hok : ain h a 2 i) (k : SX l dC dI dA b0 d M (pc + 1) ls st (wL h a i.toNatClampNeg x) P) : SX l dC dI dA b0 d M pc ls (vL x :: vI i :: vR (some a) :: st) h P := by
  intro p e R s m args below meth c H locs cells slots LS Q hF hW hRm hRp ho hl hLc hQ
  obtain ⟨n, ht, hin⟩ := hok
  obtain ⟨-, hc⟩ := sn_arr (ty := 2) (by decide) hRp ht
  exact W.last hF.1 hF.2.1 hc ((hW.2.1.2 2 (by decide)).1 n _) (fun q => by cases q) (by rw [arrV_size]; exact hin) rfl rfl hd (fun H' e1 e2 e3 => sx_ast (h' := wL h a i.toNatClampNeg x) (ty := 2) (by decide) hF hW hRm hRp ho hl hLc hQ ht e1 e2 e3 rfl rfl rfl rfl (fun _ _ => rfl) wL_ne (fun _ _ => rfl) arrF_L k)
theorem sn_obj {U : State} {H : Heap} {a c n : Nat} (hc : c < 17) (hR : sn_R dC dI dA b0 U h H) (ht : hT h a = some (c, n)) : b0 ≤ a ∧ t_OB a (dC c) (idsOf c).length (dI c) H (objV h a c) := by
  rcases hR.2.2 a _ ht with ⟨h1, h2, h3⟩ | ⟨ty', h1, h2, h3, h4⟩ | ⟨h1, h2, h3⟩ | ⟨h1, h2, h3, h4⟩
  · exact ⟨h2, h3⟩
  · have h2 : c = 100 + ty' := h2
    omega
  · have h1 : c = 107 := h1
    omega
  · have h1 : 50 ≤ c := h1
    omega
theorem sx_aast {a : Nat} {i : Int32} {x : Option Nat} (hd : decode (mB M) pc = .ok (.aastore, 1)) (hok : aRs h a i x) (k : SX l dC dI dA b0 d M (pc + 1) ls st (wR h a i.toNatClampNeg x) P) : SX l dC dI dA b0 d M pc ls (vR x :: vI i :: vR (some a) :: st) h P := by
  intro p e R s m args below meth c H locs cells slots LS Q hF hW hRm hRp ho hl hLc hQ
  obtain ⟨ty, n, t1, t2, ht, hin, hx⟩ := hok
  obtain ⟨-, hc⟩ := sn_arr (ty := ty) (by omega) hRp ht
  obtain ⟨ha1, ha2⟩ := aty_ref t1 t2
  obtain ⟨hA1, hA2⟩ := hW.2.1.2 ty (by omega)
  have fin : ∀ H' : Heap, H'[a]? = some ((arrV (dA ty) n (arrF h a ty)).setSlot i.toNatClampNeg (va_rf x)) → H'.size = H.size → (∀ q, q ≠ a → H'[q]? = H[q]?) → W p l e R s m args below meth c H' (locs ++ [⟨a, i.toNatClampNeg⟩]) cells slots Q (F0 m (pc + 1) LS (st.map av_V)) :=
    fun H' e1 e2 e3 => sx_ast (h' := wR h a i.toNatClampNeg x) (ty := ty) (by omega) hF hW hRm hRp ho hl hLc hQ ht e1 e2 e3 rfl rfl rfl rfl (fun _ _ => rfl) (fun _ _ => rfl) wR_ne (arrF_R t1) k
  cases x with
  | none =>
    rw [ha1] at hA1
    exact va_WaastN (C := oN (cmpC ty)) hF.1 hF.2.1 hc (hA1 n _) (fun q => by cases q) (by rw [arrV_size]; exact hin) rfl rfl hd fin
  | some b =>
    obtain ⟨kb, hb⟩ := hx b rfl
    obtain ⟨-, cell, q1, q2, q3, q4⟩ := sn_obj ha2 hRp hb
    rw [ha1] at hA2
    obtain ⟨kA, comp, g1, g2, g3, g4⟩ := hA2
    obtain ⟨hS, hfc, kC, hkC, hkind⟩ := hW.2.1.1 (cmpC ty) ha2
    have hcomp : comp = dC (cmpC ty) := Option.some.inj (g3.symm.trans hfc)
    subst hcomp
    exact W.aast hF.1 hF.2.1 hc (fun q z => by cases z) (fun z => by cases z) g1 g2 rfl hkC ⟨fun z => hin (Or.inl z), by rw [arrV_size]; exact Nat.not_le.mp fun z => hin (Or.inr z)⟩ q1 (fun q z => by rw [q3] at z; cases z) (by rw [q2]; exact hkC) (by rw [q2]; exact va_assign ⟨hfc, kC, hkC, hkind⟩) rfl rfl hd fin
theorem sx_alen {a ty n : Nat} (hd : decode (mB M) pc = .ok (.arraylength, 1)) (hty : ty ≤ 7) (ht : hT h a = some (100 + ty, n)) (k : SX l dC dI dA b0 d M (pc + 1) ls (vI (nI n) :: st) h P) : SX l dC dI dA b0 d M pc ls (vR (some a) :: st) h P := by
  intro p e R s m args below meth c H locs cells slots LS Q hF hW hRm hRp ho hl hLc hQ
  by_cases h7 : ty = 7
  · subst h7
    rcases hRp.2.2 a _ ht with ⟨h1, h2, h3⟩ | ⟨ty', h1, h2, h3, h4⟩ | ⟨h1, h2, scr, x1, x2, x3, x4, x5⟩ | ⟨h1, h2, h3, h4⟩
    · have h1 : 107 < 17 := h1
      omega
    · have h2 : 107 = 100 + ty' := h2
      omega
    · exact W.alen (n := nI n) hF.1 hF.2.1 x1 x2 (by rw [x4]; rfl) rfl rfl hd (k p e R s m args below meth c H locs cells slots LS Q hF hW hRm hRp ho hl hLc hQ)
    · have h2 : 107 < 55 := h2
      omega
  · obtain ⟨-, hc⟩ := sn_arr (ty := ty) (by omega) hRp ht
    exact W.alen (n := nI n) hF.1 hF.2.1 hc ((hW.2.1.2 ty (by omega)).1 n _) (by rw [arrV_size]; rfl) rfl rfl hd (k p e R s m args below meth c H locs cells slots LS Q hF hW hRm hRp ho hl hLc hQ)
end SX10
end
section
/-! ===== soundness: new cells, returns, Object's constructor, arraycopy ===== -/
section SX11
variable {l : Launch} {dC : Nat → ClassId} {dI : Nat → Nat → Nat} {dA : Nat → ClassId} {b0 d M pc : Nat} {ls st : List AV} {h : AH} {P : PT}
theorem dv_ok {h : AH} {t : Nat × Nat} {n f : Nat} (hk : kOK f = true) : defaultValue (fty f) = av_V (fgt (al h t n) (hN h) f) := by
  have hi : hI (al h t n) (hN h) f = 0 := by simp [hI_al]
  have hl : hL (al h t n) (hN h) f = 0 := by simp [hL_al]
  have hr : hR (al h t n) (hN h) f = none := by simp [hR_al]
  unfold kOK at hk
  unfold fgt
  split at hk
  · rename_i e; rw [e]; rw [of_decide_eq_true hk]; simp only [hi]; rfl
  · rename_i e; rw [e]; rw [of_decide_eq_true hk]; simp only [hl]; rfl
  · rename_i e; rw [e]; simp only [hr]
    cases hft : fty f <;> rw [hft] at hk <;> first | rfl | cases hk
  · rename_i e1 e2 e3
    rw [of_decide_eq_true hk]
    split
    · rename_i e; exact absurd e e2
    · rename_i e; exact absurd e e3
    · simp only [hi]; rfl
theorem sx_new {i c : Nat} (hd : decode (mB M) pc = .ok (.new i, 3)) (hc : c < 17) (hw : Jvm.Cond.classLink (oN (mO M)) i (oN c) ∈ lw_tbl) (h1 : 1 ≤ hC h) (h2 : nSlots c ≤ hS h) (k : SX l dC dI dA b0 d M (pc + 3) ls (vR (some (hN h)) :: st) (al h (c, 0) (nSlots c)) P) : SX l dC dI dA b0 d M pc ls st h P := by
  intro p e R s m args below meth cd H locs cells slots LS Q hF hW hRm hRp ho hl hLc hQ
  have hKn := hW.2.1.1 c hc
  refine W.newcK hF.1 hF.2.1 hF.2.2.2.2.2.1 (hW.use hw rfl) (hW.use (st_i c hc).1 rfl) (hW.use (st_i c hc).2 rfl) rfl hd (by omega) (by unfold nSlots at h2; omega) hKn.2.1 hRp.1 (fun H' kC hkC e1 z1 o1 => ?_)
  have hbH : b0 ≤ hN h := by rw [← hRp.1]; exact hRp.2.1
  refine k p e R s m args below meth cd H' locs (cells + 1) (slots + (idsOf c).length) LS Q hF hW ⟨hRm.1, hRm.2.1, by rw [hC_al]; omega, by rw [hS_al]; unfold nSlots at h2 ⊢; omega⟩ ?_ (fun q hq => by rw [o1 q (by omega)]; exact ho q hq) hl hLc (fun o h' t hp he => hQ o h' t hp ?_)
  · refine hRp.push (by rw [z1, hRp.1]) (fun q hq => o1 q (by rw [← hRp.1]; exact hq)) (Or.inl ⟨hc, hbH, ?_⟩)
    exact (u_born (fun k => fty ((idsOf c).getD k 0)) (sn_ws hW hc (A := args)) (fun w hw => hw) hKn hkC e1 (fun k hk => (st_t c hc k hk).1)).to (fun k hk => dv_ok (st_t c hc k hk).2)
  · rw [hC_al, hS_al] at he
    rw [show cells + hC h = cells + 1 + (hC h - 1) by omega, show slots + hS h = slots + (idsOf c).length + (hS h - nSlots c) by unfold nSlots at h2 ⊢; omega]
    exact he
theorem arrF_al {h : AH} {t : Nat × Nat} {n ty : Nat} (hty : ty < 7) : arrF (al h t n) (hN h) ty = fun _ => defaultValue (aty ty) := by
  funext j
  unfold arrF
  simp only [hI_al, hL_al, hR_al, if_true]
  rcases (show ty = 0 ∨ ty = 1 ∨ ty = 2 ∨ ty = 3 ∨ ty = 4 ∨ ty = 5 ∨ ty = 6 by omega) with rfl | rfl | rfl | rfl | rfl | rfl | rfl <;> rfl
/-- behind a new array -/
theorem sx_arrnew {p : Program} {e : Env} {R : Room} {s : State} {m : MethodId} {args : Array Value} {below : List Frame} {meth : Method} {c : Code} {H H' : Heap} {locs : List Loc} {cells slots : Nat} {LS : Array Slot} {Q : State → Prop} {ty n pc' : Nat} (hty : ty < 7)
    (hF : sn_F p s m meth c M) (hW : sn_W dC dI dA b0 s) (hRm : d + 20 ≤ R.frames ∧ 60 * d + 200 ≤ R.locals ∧ cells + hC h ≤ R.cells ∧ slots + hS h ≤ R.slots) (hRp : sn_R dC dI dA b0 s h H) (ho : ∀ q, q < b0 → H[q]? = s.heap[q]?) (hl : ∀ q ∈ locs, b0 ≤ q.base) (hLc : sn_L LS (mL M) ls)
    (hQ : ∀ o h' t, P o h' → sn_E dC dI dA b0 s below (cells + hC h) (slots + hS h) t o h' → Q t) (h1 : 1 ≤ hC h) (h2 : n ≤ hS h)
    (e1 : H'[hN h]? = some (arrV (dA ty) n (fun _ => defaultValue (aty ty)))) (z1 : H'.size = hN h + 1) (o1 : ∀ q, q < hN h → H'[q]? = H[q]?)
    (k : SX l dC dI dA b0 d M pc' ls st (al h (100 + ty, n) n) P) : W p l e R s m args below meth c H' locs (cells + 1) (slots + n) Q (F0 m pc' LS (st.map av_V)) := by
  have hbH : b0 ≤ hN h := by rw [← hRp.1]; exact hRp.2.1
  refine k p e R s m args below meth c H' locs (cells + 1) (slots + n) LS Q hF hW ⟨hRm.1, hRm.2.1, by rw [hC_al]; omega, by rw [hS_al]; omega⟩ ?_ (fun q hq => by rw [o1 q (by omega)]; exact ho q hq) hl hLc (fun o h' t hp he => hQ o h' t hp ?_)
  · refine hRp.push (by rw [z1, hRp.1]) (fun q hq => o1 q (by rw [← hRp.1]; exact hq)) (Or.inr (Or.inl ⟨ty, hty, rfl, hbH, ?_⟩))
    rw [arrF_al hty]
    exact e1
  · rw [hC_al, hS_al] at he
    rw [show cells + hC h = cells + 1 + (hC h - 1) by omega, show slots + hS h = slots + n + (hS h - n) by omega]
    exact he
theorem sx_newa {at_ : ArrayType} {ty : Nat} {n : Int32} (hd : decode (mB M) pc = .ok (.newarray at_, 2)) (hty : ty < 3) (hat : newarray.typeOf at_ = aty ty) (hw : Jvm.Cond.arrayClass (aty ty) ∈ lw_tbl) (hn : ¬ n < 0) (hn2 : n.toNatClampNeg ≤ 1000) (h1 : 1 ≤ hC h) (h2 : n.toNatClampNeg ≤ hS h)
    (k : SX l dC dI dA b0 d M (pc + 2) ls (vR (some (hN h)) :: st) (al h (100 + ty, n.toNatClampNeg) n.toNatClampNeg) P) : SX l dC dI dA b0 d M pc ls (vI n :: st) h P := by
  intro p e R s m args below meth cd H locs cells slots LS Q hF hW hRm hRp ho hl hLc hQ
  refine va_newaK hF.1 hF.2.1 (atype := at_) (by rw [hat]; exact hW.use hw rfl) rfl hd rfl hn rfl ?_ (by omega) (by omega) hRp.1 (fun H' cA e1 z1 o1 hA hf => ?_)
  · rw [hat]
    have : componentBytes (aty ty) ≤ 8 := by
      rcases (show ty = 0 ∨ ty = 1 ∨ ty = 2 by omega) with rfl | rfl | rfl <;> decide
    calc n.toNatClampNeg * componentBytes (aty ty) ≤ 1000 * 8 := Nat.mul_le_mul hn2 this
      _ ≤ 536870912 := by decide
  · rw [hat] at e1 hf
    have hra := (hW.2.1.2 ty (by omega)).2
    have hcA : cA = dA ty := by
      rcases (show ty = 0 ∨ ty = 1 ∨ ty = 2 by omega) with rfl | rfl | rfl <;> exact Option.some.inj (hf.symm.trans hra)
    subst hcA
    exact sx_arrnew (st := vR (some (hN h)) :: st) (by omega) hF hW hRm hRp ho hl hLc hQ h1 h2 e1 z1 o1 k
theorem sx_anew {i ty : Nat} {n : Int32} (hd : decode (mB M) pc = .ok (.anewarray i, 3)) (t1 : 3 ≤ ty) (t2 : ty ≤ 6) (hw : Jvm.Cond.classLink (oN (mO M)) i (oN (cmpC ty)) ∈ lw_tbl) (hv : Jvm.Cond.arrayOver (.object (oN (cmpC ty))) ∈ lw_tbl) (hn : ¬ n < 0) (hn2 : n.toNatClampNeg ≤ 1000) (h1 : 1 ≤ hC h) (h2 : n.toNatClampNeg ≤ hS h)
    (k : SX l dC dI dA b0 d M (pc + 3) ls (vR (some (hN h)) :: st) (al h (100 + ty, n.toNatClampNeg) n.toNatClampNeg) P) : SX l dC dI dA b0 d M pc ls (vI n :: st) h P := by
  intro p e R s m args below meth cd H locs cells slots LS Q hF hW hRm hRp ho hl hLc hQ
  refine W.anew hF.1 hF.2.1 hF.2.2.2.2.2.1 (hW.use hw rfl) (hW.use hv rfl) rfl hd rfl hn (by omega) (by omega) (by omega) (fun cA kA comp f1 f2 f3 f4 => ?_)
  have hra := (hW.2.1.2 ty (by omega)).2
  rw [(aty_ref t1 t2).1] at hra
  obtain ⟨-, -, -, -, -, g4⟩ := hra
  have hcA : cA = dA ty := Option.some.inj (f1.symm.trans g4)
  subst hcA
  have z1 : (H.push ({ cls := dA ty, slots := Array.replicate n.toNatClampNeg .null, vm := .none } : Cell)).size = hN h + 1 := by rw [Array.size_push, hRp.1]
  have e1 : (H.push ({ cls := dA ty, slots := Array.replicate n.toNatClampNeg .null, vm := .none } : Cell))[hN h]? = some (arrV (dA ty) n.toNatClampNeg (fun _ => defaultValue (aty ty))) := by rw [← hRp.1, Array.getElem?_push_size, ← arrV_new, (aty_ref t1 t2).1]; rfl
  have o1 : ∀ q, q < hN h → (H.push ({ cls := dA ty, slots := Array.replicate n.toNatClampNeg .null, vm := .none } : Cell))[q]? = H[q]? := fun q hq => by rw [Array.getElem?_push, if_neg (by rw [hRp.1]; omega)]
  have := sx_arrnew (e := e) (args := args) (st := vR (some (hN h)) :: st) (pc' := pc + 3) (by omega) hF hW hRm hRp ho hl hLc hQ h1 h2 e1 z1 o1 k
  rw [← hRp.1] at this
  exact this
/-- behind a return -/
theorem sn_end {s : State} {below : List Frame} {H : Heap} {cells slots : Nat} {args : Array Value} {v : Option AV} (hRp : sn_R dC dI dA b0 s h H) (ho : ∀ q, q < b0 → H[q]? = s.heap[q]?) {t : State}
    (hm : MQ below (fun _ _ o t => o = .returned (v.map av_V) ∧ t.heap = H) args s cells slots (fun q => b0 ≤ q) t) : sn_E dC dI dA b0 s below (cells + hC h) (slots + hS h) t (.inl v) h := by
  obtain ⟨o, hrun, hend, ⟨rfl, hh⟩, L, ⟨-, hWm, hsame⟩, hL9⟩ := hm
  exact ⟨hrun, hend, by rw [hh]; exact hRp, by rw [hh]; exact ho, hWm, L, cells, slots, hsame, hL9, rfl, rfl⟩
theorem sx_iret {x : Int32} (hd : decode (mB M) pc = .ok (.ireturn, 1)) (hr : (mR M = some .int) ∨ (mR M = some .boolean ∧ isB x)) (k : P (.inl (some (vI x))) h) : SX l dC dI dA b0 d M pc ls [vI x] h P := by
  intro p e R s m args below meth c H locs cells slots LS Q hF hW hRm hRp ho hl hLc hQ
  rcases hr with hr | ⟨hr, hx⟩
  · exact W.post (W.zret (Qc := fun _ _ o t => o = .returned (Option.map av_V (some (vI x))) ∧ t.heap = H) (free := fun q => b0 ≤ q) (ty := .int) hF.1 hF.2.1 (hF.2.2.2.1.trans hr) rfl (fun t ht _ => ⟨rfl, ht⟩) hl hd hF.2.2.2.2.1) (fun t hm => hQ _ h t k (sn_end hRp ho hm))
  · exact W.post (W.zret (Qc := fun _ _ o t => o = .returned (Option.map av_V (some (vI x))) ∧ t.heap = H) (free := fun q => b0 ≤ q) (ty := .boolean) hF.1 hF.2.1 (hF.2.2.2.1.trans hr) (nar_B hx) (fun t ht _ => ⟨rfl, ht⟩) hl hd hF.2.2.2.2.1) (fun t hm => hQ _ h t k (sn_end hRp ho hm))
theorem sx_lret {x : Int64} (hd : decode (mB M) pc = .ok (.lreturn, 1)) (hr : mR M = some .long) (k : P (.inl (some (vL x))) h) : SX l dC dI dA b0 d M pc ls [vL x] h P := by
  intro p e R s m args below meth c H locs cells slots LS Q hF hW hRm hRp ho hl hLc hQ
  exact W.post (W.lret (Qc := fun _ _ o t => o = .returned (Option.map av_V (some (vL x))) ∧ t.heap = H) (free := fun q => b0 ≤ q) hF.1 hF.2.1 (hF.2.2.2.1.trans hr) (fun t ht _ => ⟨rfl, ht⟩) hl hd hF.2.2.2.2.1) (fun t hm => hQ _ h t k (sn_end hRp ho hm))
theorem sx_aret {x : Option Nat} {nm : String} (hd : decode (mB M) pc = .ok (.areturn, 1)) (hr : mR M = some (.object nm)) (k : P (.inl (some (vR x))) h) : SX l dC dI dA b0 d M pc ls [vR x] h P := by
  intro p e R s m args below meth c H locs cells slots LS Q hF hW hRm hRp ho hl hLc hQ
  exact W.post (W.aret (Qc := fun _ _ o t => o = .returned (Option.map av_V (some (vR x))) ∧ t.heap = H) (free := fun q => b0 ≤ q) (v := av_V (vR x)) hF.1 hF.2.1 (hF.2.2.2.1.trans hr) (Or.inl ⟨nm, rfl⟩) (by cases x with | none => exact Or.inl rfl | some a => exact Or.inr ⟨a, rfl⟩) (fun t ht _ => ⟨rfl, ht⟩) hl hd hF.2.2.2.2.1) (fun t hm => hQ _ h t k (sn_end hRp ho hm))
theorem sx_vret (hd : decode (mB M) pc = .ok (.return_, 1)) (hr : mR M = none) (k : P (.inl none) h) : SX l dC dI dA b0 d M pc ls [] h P := by
  intro p e R s m args below meth c H locs cells slots LS Q hF hW hRm hRp ho hl hLc hQ
  exact W.post (W.vret (Qc := fun _ _ o t => o = .returned (Option.map av_V none) ∧ t.heap = H) (free := fun q => b0 ≤ q) hF.1 hF.2.1 (hF.2.2.2.1.trans hr) (fun t ht _ => ⟨rfl, ht⟩) hl hd hF.2.2.2.2.1) (fun t hm => hQ _ h t k (sn_end hRp ho hm))
theorem cat_le (v : Value) : v.category ≤ 2 := by cases v <;> simp [Value.category]
theorem cat_sum : ∀ (st : List AV) (n : Nat), st.length ≤ n → ((st.map av_V).map fun v => v.category).sum ≤ 2 * n
  | [], _, _ => by simp
  | v :: r, n + 1, hl => by
    have := cat_sum r n (by simpa using hl)
    have h2 := cat_le (av_V v)
    simp only [List.map_cons, List.sum_cons]
    omega
theorem st_obj : Jvm.Cond.instanceMethod objectInit ∈ lw_tbl ∧ Jvm.Cond.code objectInit ⟨#[0xb1]⟩ 1 none ∈ lw_tbl := by decide +kernel
theorem sx_obj {i a : Nat} (hd : decode (mB M) pc = .ok (.invokespecial i, 3)) (hw : Jvm.Cond.methodLink (oN (mO M)) i objectInit ∈ lw_tbl) (hs : st.length ≤ 4) (k : SX l dC dI dA b0 d M (pc + 3) ls st h P) : SX l dC dI dA b0 d M pc ls (vR (some a) :: st) h P := by
  intro p e R s m args below meth c H locs cells slots LS Q hF hW hRm hRp ho hl hLc hQ
  have hc := cat_sum st 4 hs
  refine W.objInit hF.1 hF.2.1 hF.2.2.2.2.2.1 (hW.use hw rfl) (hW.use st_obj.1 rfl) (hW.use st_obj.2 rfl) rfl (by rw [hF.2.2.1]; exact hLc.1) rfl hd (by omega) ?_ (k p e R s m args below meth c H locs cells slots LS Q hF hW hRm hRp ho hl hLc hQ)
  show 2 * 0 + _ + 12 ≤ _
  omega
theorem st_cpy : Jvm.Cond.native arraycopyName ∈ lw_tbl ∧ Jvm.Cond.static arraycopyName ∈ lw_tbl ∧ Jvm.Cond.initialized "java/lang/System" ∈ lw_tbl := by decide +kernel
theorem clampI {z : Int32} (hz : ¬ z < 0) : z.toInt = (z.toNatClampNeg : Int) := by
  have hz0 : (0 : Int) ≤ z.toInt := by
    have := Int32.not_lt.mp hz
    simpa using Int32.le_iff_toInt_le.mp this
  show z.toInt = ((z.toInt.toNat : Nat) : Int)
  omega
theorem sx_cpy {i a b na nb : Nat} {sp dp n : Int32} (hd : decode (mB M) pc = .ok (.invokestatic i, 3)) (hw : Jvm.Cond.methodLink (oN (mO M)) i arraycopyName ∈ lw_tbl) (hs : st.length ≤ 4) (h1 : ¬ sp < 0) (h2 : ¬ dp < 0) (h3 : ¬ n < 0) (ha : hT h a = some (100, na)) (hb : hT h b = some (100, nb)) (h4 : sp.toNatClampNeg + n.toNatClampNeg ≤ na) (h5 : dp.toNatClampNeg + n.toNatClampNeg ≤ nb)
    (k : SX l dC dI dA b0 d M (pc + 3) ls st (cpI h a sp.toNatClampNeg b dp.toNatClampNeg n.toNatClampNeg) P) : SX l dC dI dA b0 d M pc ls (vI n :: vI dp :: vR (some b) :: vI sp :: vR (some a) :: st) h P := by
  intro p e R s m args below meth c H locs cells slots LS Q hF hW hRm hRp ho hl hLc hQ
  have hcat := cat_sum st 4 hs
  obtain ⟨-, hca⟩ := sn_arr (ty := 0) (by decide) hRp ha
  obtain ⟨hb0, hcb⟩ := sn_arr (ty := 0) (by decide) hRp hb
  have fa : arrF h a 0 = fun j => .int (hI h a j) := rfl
  have fb : arrF h b 0 = fun j => .int (hI h b j) := rfl
  rw [fa] at hca
  rw [fb] at hcb
  obtain ⟨-, k0, hk0, cm0, hkk0⟩ := (hW.2.1.2 0 (by decide)).1 na (fun j => .int (hI h a j))
  obtain ⟨-, k1, hk1, cm1, hkk1⟩ := (hW.2.1.2 0 (by decide)).1 nb (fun j => .int (hI h b j))
  intro T hT X
  obtain ⟨vm', X', step⟩ := X.arraycopy hF.1 hF.2.2.2.2.2.1 (hW.use hw rfl) (hW.use st_cpy.1 rfl) (hW.use st_cpy.2.1 rfl) (hW.use st_cpy.2.2 rfl) (src := a) (dst := b) (srcPos := sp) (destPos := dp) (n := n) (by rw [hT]; exact hca) (by rw [hT]; exact hcb)
    (fun _ h => by cases h) (fun _ h => by cases h) (fun h => by cases h) (fun h => by cases h) hk0 hk1 hkk0 hkk1 (by decide) h1 h2 h3
    (by rw [clampI h1, clampI h3, arrV_size]; omega)
    (by rw [clampI h2, clampI h3, arrV_size]; omega)
    (fun vm₁ _ j hj => by
      have e9 : (arrV (dA 0) na (fun j => .int (hI h a j))).slots.getD (sp.toNatClampNeg + j) .null = .int (hI h a (sp.toNatClampNeg + j)) := by
        rw [Array.getD_eq_getD_getElem?, arrV_read _ _ (by omega)]
        rfl
      refine ⟨?_, ?_⟩
      · rw [e9]
        rfl
      · rw [e9]
        exact trivial)
    (g := F0 m pc LS (.int n :: .int dp :: .ref b :: .int sp :: .ref a :: st.map av_V)) rfl (by rw [hF.2.2.1]; exact hLc.1) (rest := st.map av_V) rfl (by rw [hF.2.1]; exact hd) (by omega) (by
      show 2 * 0 + _ + _ ≤ _
      have : nativeFrameWords "java/lang/System" "arraycopy" 5 ≤ 100 := by decide +kernel
      omega)
  have e1 : copied (arrV (dA 0) na (fun j => .int (hI h a j))) (arrV (dA 0) nb (fun j => .int (hI h b j))) sp dp n = arrV (dA 0) nb (fun j => .int (va_cpy (hI h a) (hI h b) sp.toNatClampNeg dp.toNatClampNeg n.toNatClampNeg j)) := va_copied (fun z => .int z) (dA 0) (dA 0) (hI h a) (hI h b) h4
  rw [e1] at X' step
  generalize hcell : arrV (dA 0) nb (fun j => .int (va_cpy (hI h a) (hI h b) sp.toNatClampNeg dp.toNatClampNeg n.toNatClampNeg j)) = cell at X' step
  have hlt : b < H.size := (Array.getElem?_eq_some_iff.mp hcb).1
  have hheap : ((T.setVm vm').setCell b cell).heap = H.setIfInBounds b cell := by rw [← hT]; rfl
  have oq : ∀ q : Nat, q ≠ b → (H.setIfInBounds b cell)[q]? = H[q]? := fun q hq => by simp [Array.getElem?_setIfInBounds, Ne.symm hq]
  have key : ∀ L : List Loc, (∀ q ∈ L, b0 ≤ q.base) → W p l e R s m args below meth c (H.setIfInBounds b cell) (locs ++ L) cells slots Q (F0 m (pc + 3) LS (st.map av_V)) := by
    intro L hL9
    refine k p e R s m args below meth c (H.setIfInBounds b cell) (locs ++ L) cells slots LS Q hF hW hRm ?_ (fun q hq => by rw [oq q (by omega)]; exact ho q hq) ?_ hLc hQ
    · refine hRp.put (a := b) (by simp) oq rfl rfl ?_ (fun _ _ => rfl) (fun _ _ => rfl) (fun t' ht' => ?_)
      · intro q hq
        funext j
        simp [hI_cp, hq]
      · cases hb.symm.trans ht'
        refine Or.inr (Or.inl ⟨0, by decide, rfl, hb0, ?_⟩)
        rw [show (H.setIfInBounds b cell)[b]? = some cell by simp [Array.getElem?_setIfInBounds, hlt], ← hcell]
        congr 2
        funext j
        show Value.int _ = Value.int _
        congr 1
        simp [va_cpy, hI_cp]
    · intro q hq
      rcases List.mem_append.mp hq with z | z
      · exact hl q z
      · exact hL9 q z
  obtain ⟨t, a1, b1⟩ := key _ (fun q hq => by
    obtain ⟨z, -, hz⟩ := List.mem_map.mp hq
    rw [← hz]
    exact hb0) _ hheap X'
  exact ⟨t, step t a1, b1⟩
end SX11
end
section
/-! ===== an exception comes up in a frame: the search for a handler, its classes resolved or not ===== -/
def FindsV (e : Env) (s s' : State) (f : JFrame) (a : Addr) (h : Handler) : Prop :=
  ∀ (Q : Handler → Pre) (E : CtlPost) (d : Bool) (acts : List Action), wp (findHandler f a) Q E e d acts s ↔ Q h d acts s'
theorem fh_cold {E : CtlPost} {e : Env} {d : Bool} {acts : List Action} {s : State} {f : JFrame} {a : Addr} {Q : Handler → Pre} {x : ExceptionTableEntry} {t : List ExceptionTableEntry} {c : ClassId} {cell : Cell} {vm' : Vm} (hx : covers x f.pc = true) (h0 : x.catchType ≠ 0)
    (hr : (Jvm.resolveClass f.method.cls x.catchType).Gives e.toSetting s.vm (.ok c) vm') (hsz : vm'.classes.size ≤ s.vm.classes.size) (hcell : s.heap[a]? = some cell) (hobj : ∀ k, cell.vm ≠ .statics k)
    (hk : ∃ k, vm'.classes[cell.cls]? = some k) (hc : ∃ k, vm'.classes[c]? = some k) :
    wp (findHandler.go f a (x :: t)) Q E e d acts s ↔
      if vm'.assignable cell.cls c = true then Q (.found x.handlerPc) d acts (s.setVm vm') else wp (findHandler.go f a t) Q E e d acts (s.setVm vm') := by
  simp only [covers] at hx
  have hop : (VmOp.resolveClass f.method.cls x.catchType).answer e s.vm = .ok c ∧ (VmOp.resolveClass f.method.cls x.catchType).tables e s.vm = vm' := hr.op rfl
  cases hfit : vm'.assignable cell.cls c <;>
    simp [findHandler.go, hx, h0, hop, hcell, hobj, hk, hc, hfit, VmOp.dirties, VmOp.acts, State.setVm, hsz]
/-- the raw table and the resolved one -/
def hsOK (o : Nat) : List (Nat × Nat × Nat × Nat) → List (Nat × Nat × Nat × Nat) → Prop
  | [], [] => True
  | x :: r, y :: q => (x.1 = y.1 ∧ x.2.1 = y.2.1 ∧ x.2.2.1 = y.2.2.1 ∧ x.2.2.2 ≠ 0 ∧ y.2.2.2 < 5 ∧ Jvm.Cond.classLink (oN o) x.2.2.2 (eN y.2.2.2) ∈ lw_tbl) ∧ hsOK o r q
  | _, _ => False
theorem st_cast : ∀ i, i < 5 → Jvm.Cond.castable (eN i) (eN i) ∈ lw_tbl := by decide +kernel
section THR
variable {l : Launch} {dC : Nat → ClassId} {dI : Nat → Nat → Nat} {dA : Nat → ClassId} {b0 : Nat}
theorem sn_find {p : Program} {e : Env} {s : State} {m : MethodId} {a ex : Nat} {f : JFrame} {cell : Cell} {o : Nat} (hpl : e.platform.magicAccessors = ({} : Platform).magicAccessors) (hW : sn_W dC dI dA b0 s) (hown : s.vm.findClass (oN o) = some m.cls) (hf : f.method = m) (hex : ex < 5)
    (hst : cell.vm.isStatics = false) (hcls : s.vm.findClass (eN ex) = some cell.cls) :
    ∀ (E : List ExceptionTableEntry) (hs : List (Nat × Nat × Nat × Nat)), hsOK o (E.map (fun x => (x.startPc, x.endPc, x.handlerPc, x.catchType))) hs → ∀ (U : State), s.WarmedH U.vm → U.heap[a]? = some cell →
      ∃ vm', s.WarmedH vm' ∧ ∀ (Q : Handler → Pre) (Ec : CtlPost) (d : Bool) (acts : List Action), wp (findHandler.go f a E) Q Ec e d acts U ↔ Q (match hfnd hs f.pc (50 + ex) with | some hp => .found hp | none => .none) d acts (U.setVm vm')
  | [], [], _, U, hU, _ => ⟨U.vm, hU, fun Q Ec d acts => W.findHandler_go_nil⟩
  | [], _ :: _, h, _, _, _ => h.elim
  | _ :: _, [], h, _, _, _ => h.elim
  | x :: E, y :: hs, h, U, hU, hcell => by
    obtain ⟨⟨g1, g2, g3, g4, g5, g6⟩, hrest⟩ := h
    dsimp only at g1 g2 g3 g4
    cases hx : covers x f.pc with
    | false =>
      obtain ⟨vm', hw', hq⟩ := sn_find (p := p) (s := s) (m := m) (a := a) (ex := ex) (f := f) hpl hW hown hf hex hst hcls E hs hrest U hU hcell
      refine ⟨vm', hw', fun Q Ec d acts => ?_⟩
      rw [W.findHandler_go_skip hx, hq]
      have hne : (Nat.ble y.1 f.pc && Nat.blt f.pc y.2.1 && Nat.beq (50 + y.2.2.2) (50 + ex)) = false := by
        rw [← g1, ← g2]
        have : (Nat.ble x.startPc f.pc && Nat.blt f.pc x.endPc) = covers x f.pc := by
          rw [Bool.eq_iff_iff]; simp [covers, Nat.ble_eq, Nat.blt_eq]
        rw [this, hx]; rfl
      unfold hfnd
      rw [List.find?_cons, hne]
    | true =>
      obtain ⟨c', hc', hcl⟩ := Cond.classLink_spec hown (hW.use (A := #[]) g6 rfl) e.platform hpl
      obtain ⟨dk, _, _, kt, hd, _, _, _, _, hkt, _, hopen⟩ := hcl.here
      have hcl₀ := hU.classLinks hcl
      have hW' : s.WarmedH (U.vm.noted m.cls x.catchType (.cls c')) := hU.noted hd hopen (State.rightAt_cls hcl)
      obtain ⟨kt', hkt', -⟩ := hW'.alike.2.2 _ _ hkt
      obtain ⟨kc, hkc⟩ := Vm.classAt_of_findClass hcls
      obtain ⟨kc', hkc', -⟩ := hW'.alike.2.2 _ _ hkc
      have hgo := fun (Q : Handler → Pre) (Ec : CtlPost) (d : Bool) (acts : List Action) => fh_cold (E := Ec) (e := e) (d := d) (acts := acts) (s := U) (f := f) (a := a) (Q := Q) (x := x) (t := E) (c := c') (cell := cell) (vm' := U.vm.noted m.cls x.catchType (.cls c')) hx g4 (by rw [hf]; exact resolveClass_links e.toSetting hcl₀) (by no_record) hcell (VmData.ne_statics_of hst) ⟨kc', hkc'⟩ ⟨kt', hkt'⟩
      have hcov : (Nat.ble y.1 f.pc && Nat.blt f.pc y.2.1) = true := by
        rw [← g1, ← g2]
        have : (Nat.ble x.startPc f.pc && Nat.blt f.pc x.endPc) = covers x f.pc := by
          rw [Bool.eq_iff_iff]; simp [covers, Nat.ble_eq, Nat.blt_eq]
        rw [this, hx]
      by_cases he : y.2.2.2 = ex
      · subst he
        have hasg : (U.vm.noted m.cls x.catchType (.cls c')).assignable cell.cls c' = true := by
          obtain ⟨c3, c4, hc3, hc4, hasg⟩ := Cond.castable_spec (hW.use (A := #[]) (st_cast y.2.2.2 g5) rfl)
          cases Option.some.inj (hc3.symm.trans hcls)
          cases Option.some.inj (hc4.symm.trans hc')
          rw [hW'.alike.assignable]; exact hasg
        refine ⟨_, hW', fun Q Ec d acts => ?_⟩
        rw [hgo, if_pos hasg]
        unfold hfnd
        rw [List.find?_cons, hcov]
        simp [g3]
      · have hno : (U.vm.noted m.cls x.catchType (.cls c')).assignable cell.cls c' = false := by
          obtain ⟨c3, c4, hc3, hc4, hasg⟩ := hW.2.2.2.2.2 ex y.2.2.2 hex g5 (fun q => he q.symm)
          cases Option.some.inj (hc3.symm.trans hcls)
          cases Option.some.inj (hc4.symm.trans hc')
          rw [hW'.alike.assignable]; exact hasg
        obtain ⟨vm', hw', hq⟩ := sn_find (p := p) (s := s) (m := m) (a := a) (ex := ex) (f := f) hpl hW hown hf hex hst hcls E hs hrest (U.setVm (U.vm.noted m.cls x.catchType (.cls c'))) hW' hcell
        refine ⟨vm', hw', fun Q Ec d acts => ?_⟩
        rw [hgo, if_neg (by rw [hno]; decide), hq]
        have hne : (Nat.ble y.1 f.pc && Nat.blt f.pc y.2.1 && Nat.beq (50 + y.2.2.2) (50 + ex)) = false := by
          rw [hcov, Bool.true_and]
          cases hb : Nat.beq (50 + y.2.2.2) (50 + ex) with
          | false => rfl
          | true => exact absurd (Nat.eq_of_beq_eq_true hb) (by omega)
        unfold hfnd
        rw [List.find?_cons, hne]
        rfl
theorem th_catch {e : Env} {s s' : State} {a : Addr} {f : JFrame} {r : List Frame} {pc : Nat} (hfind : FindsV e s s' f a (.found pc)) :
    (stepThrowing e s a (.java f :: r)).Is (s'.setFrames (.java { f with pc := pc, stack := [.ref a] } :: r)) [] := by
  simp only [stepThrowing, searchFrame, vmDo]
  generalize hr : Sem.go _ e false [] s = res
  obtain ⟨as, rfl, ha⟩ := Sem.eq_ok_of hr (a := Handler.found pc) (s' := s') (acts' := []) (by simp [hfind _ _ _ _])
  exact ⟨rfl, ha⟩
theorem th_leave {e : Env} {s : State} {vm' : Vm} {a : Addr} {f : JFrame} {r : List Frame} {meth : Method}
    (hm : vm'.method? f.method = some meth) (hl : meth.locks = false) (hlocked : f.locked = none) (hentered : f.entered = []) (hfind : FindsV e s (s.setVm vm') f a .none) :
    (stepThrowing e s a (.java f :: r)).Is ((s.setVm vm').setFrames (.throwing a :: r)) [] := by
  simp only [stepThrowing, searchFrame, vmDo]
  generalize hr : Sem.go _ e false [] s = res
  obtain ⟨as, rfl, ha⟩ := Sem.eq_ok_of hr (a := Handler.none) (s' := s.setVm vm') (acts' := [])
    (by cases hp : e.platform.frameOwnsMonitors <;> simp [hfind _ _ _ _, hm, hl, hlocked, hentered, hp, leaveIfLocked])
  exact ⟨rfl, ha⟩
/-- an exception in a frame: to a handler of its own, or out -/
theorem sn_thr {d M pc a : Nat} {P : PT} {h : AH} {ls : List AV} (hs : hsOK (mO M) (mX M) (mH M)) (hq : thrQ (SX l dC dI dA b0) d M P pc ls a h)
    {p : Program} {e : Env} {R : Room} {s : State} {m : MethodId} {args : Array Value} {below : List Frame} {meth : Method} {c : Code} {H : Heap} {locs : List Loc} {cells slots : Nat} {LS : Array Slot} {Q : State → Prop} {stk : List Value}
    (hF : sn_F p s m meth c M) (hW : sn_W dC dI dA b0 s) (hRm : d + 20 ≤ R.frames ∧ 60 * d + 200 ≤ R.locals ∧ cells + hC h ≤ R.cells ∧ slots + hS h ≤ R.slots) (hRp : sn_R dC dI dA b0 s h H) (ho : ∀ q, q < b0 → H[q]? = s.heap[q]?) (hl : ∀ q ∈ locs, b0 ≤ q.base) (hLc : sn_L LS (mL M) ls)
    (hQ : ∀ o h' t, P o h' → sn_E dC dI dA b0 s below (cells + hC h) (slots + hS h) t o h' → Q t) {T : State} (hT9 : T.heap = H) (X : Stand p l e R s m args below meth c T locs cells slots) :
    ∃ t, Steps p.tables e below ((T.setTop (F0 m pc LS stk)).pushFrame (.throwing a)) t ∧ Q t := by
  obtain ⟨ex, n, ht, ⟨hx1, hx2⟩, hq⟩ := hq
  obtain ⟨i, rfl⟩ : ∃ i, ex = 50 + i := ⟨ex - 50, by omega⟩
  have hi : i < 5 := by omega
  obtain ⟨cell, hcell, hst, hcls⟩ : ∃ cell : Cell, H[a]? = some cell ∧ cell.vm.isStatics = false ∧ s.vm.findClass (eN i) = some cell.cls := by
    rcases hRp.2.2 a _ ht with ⟨h1, h2, h3⟩ | ⟨ty', h1, h2, h3, h4⟩ | ⟨h1, h2, h3⟩ | ⟨h1, h2, h3, cell, h4, h5, h6⟩
    · have h1 : 50 + i < 17 := h1
      omega
    · have h2 : 50 + i = 100 + ty' := h2
      omega
    · have h1 : 50 + i = 107 := h1
      omega
    · rw [show (50 + i, n).1 - 50 = i by simp] at h6
      exact ⟨cell, h4, h5, h6⟩
  have hpl : e.platform.magicAccessors = ({} : Platform).magicAccessors := by rw [X.admits.platform]
  generalize hg : F0 m pc LS stk = g
  have hgm : g.method = m := by rw [← hg]
  have hgpc : g.pc = pc := by rw [← hg]
  have hlk : g.locked = none := by rw [← hg]
  have hen : g.entered = [] := by rw [← hg]
  have hAt : At T g.method c below := by rw [hgm]; exact X.here
  have hvm : ((T.setTop g).pushFrame (.throwing a)).vm = T.vm := Stand.throwing_vm T g a
  have hhp : ((T.setTop g).pushFrame (.throwing a)).heap = T.heap := Stand.throwing_heap T g a
  obtain ⟨vm', hw', hfind⟩ := sn_find (p := p) (e := e) (s := s) (m := m) (a := a) (ex := i) (f := g) (cell := cell) (o := mO M) hpl hW hF.2.2.2.2.2.1 hgm hi hst hcls c.exceptionTable.toList (mH M) (by rw [hF.2.2.2.2.2.2.2]; exact hs) ((T.setTop g).pushFrame (.throwing a)) (by rw [hvm]; exact X.warmed) (by rw [hhp, hT9]; exact hcell)
  rw [hgpc] at hfind
  have hmeth : ((T.setTop g).pushFrame (.throwing a)).vm.method? g.method = some meth := by rw [hvm, hgm]; exact X.method'
  have hFv : ∀ r, (match hfnd (mH M) pc (50 + i) with | some hp => Handler.found hp | none => Handler.none) = r → FindsV e ((T.setTop g).pushFrame (.throwing a)) (((T.setTop g).pushFrame (.throwing a)).setVm vm') g a r := by
    rintro r rfl Q Ec d acts
    rw [W.findHandler_eq hmeth X.code]
    exact hfind Q Ec d acts
  have X' := X.noted hw'
  obtain ⟨hgo, hwi⟩ := hAt.throwing a
  obtain ⟨g₀, hg0⟩ := Option.isSome_iff_exists.mp hAt.top
  obtain ⟨r, hr⟩ := State.topJava?_eq_some.mp hg0
  cases hfd : hfnd (mH M) pc (50 + i) with
  | some hp =>
    rw [hfd] at hq
    obtain ⟨t, st, hqt⟩ := hq p e R s m args below meth c H locs cells slots LS Q hF hW hRm hRp ho hl hLc hQ (T.setVm vm') hT9 X'
    refine ⟨t, Steps.head hgo hwi ?_, hqt⟩
    rw [stepThread_throwing (frames_entered hAt.top _), (th_catch (hFv (.found hp) (by rw [hfd]))).1]
    have hr' : (T.setVm vm').frames = .java g₀ :: r := hr
    rw [State.setTop_of_frames _ hr'] at st
    have e9 : (((T.setTop g).pushFrame (.throwing a)).setVm vm').setFrames (.java { g with pc := hp, stack := [.ref a] } :: T.frames.tail) = (T.setVm vm').setFrames (.java (F0 m hp LS [.ref a]) :: r) := by
      rw [State.pushFrame, State.setTop_of_frames _ hr, hr, ← hg, State.setFrames_setFrames]
      exact State.setFrames_setFrames (T.setVm vm') _ _
    rw [e9]
    exact st
  | none =>
    rw [hfd] at hq
    have hmeth' : vm'.method? g.method = some meth := by rw [hgm]; exact X'.method'
    refine ⟨(T.setVm vm').setFrames (.throwing a :: below), Steps.head hgo hwi ?_, hQ (.inr a) h _ hq ⟨X.here.running, ?_, ?_, ?_, (X'.ends _).1, locs, cells, slots, (X'.ends _).2, hl, rfl, rfl⟩⟩
    · rw [stepThread_throwing (frames_entered hAt.top _), (th_leave hmeth' hF.2.2.2.2.1 hlk hen (hFv .none (by rw [hfd]))).1]
      have e9 : (((T.setTop g).pushFrame (.throwing a)).setVm vm').setFrames (.throwing a :: T.frames.tail) = (T.setVm vm').setFrames (.throwing a :: below) := by
        rw [State.pushFrame, State.setTop_of_frames _ hr, X.tail, State.setFrames_setFrames]
        exact State.setFrames_setFrames (T.setVm vm') _ _
      rw [e9]
      exact Steps.refl _
    · exact State.frames_setFrames _ (State.cur_lt_of_frames hr)
    · show sn_R dC dI dA b0 s h T.heap
      rw [hT9]; exact hRp
    · show ∀ q, q < b0 → T.heap[q]? = _
      rw [hT9]; exact ho
end THR
end
section
/-! ===== calls ===== -/
def mW (M : Nat) : Jvm.Cond := .codeWith (mY M) (mB M) (mL M) (mR M) (mX M)
/-- what the tables say of a method -/
def mOK (M : Nat) : Prop := ((mX M = [] ∧ Jvm.Cond.code (mY M) (mB M) (mL M) (mR M) ∈ lw_tbl) ∨ mW M ∈ lw_tbl) ∧ Jvm.Cond.initialized (mY M).cls ∈ lw_tbl ∧ plainName (mY M).cls = true ∧ (mY M).cls = oN (mO M) ∧ ((mY M).cls ≠ "java/lang/invoke/MethodHandle" ∧ (mY M).cls ≠ "java/lang/invoke/VarHandle")
section CAL
variable {l : Launch} {dC : Nat → ClassId} {dI : Nat → Nat → Nat} {dA : Nat → ClassId} {b0 : Nat}
theorem sn_code {M : Nat} {U : State} (hW : sn_W dC dI dA b0 U) (hM : mOK M) {A : Array Value} : (mW M).before A U = true := by
  rcases hM.1 with ⟨hx, hw⟩ | hw
  · have h1 := hW.use (A := A) hw rfl
    unfold mW
    rw [hx]
    simp only [Cond.before, Cond.holds] at h1 ⊢
    rw [← Cond.code_iff_codeWith_nil]
    exact h1
  · exact hW.use hw rfl
/-- a callee's end -/
def sn_Q (dC : Nat → ClassId) (dI : Nat → Nat → Nat) (dA : Nat → ClassId) (b0 : Nat) (h : AH) (P : PT) : Array Value → State → Outcome → State → Prop := fun _ U o t =>
  ∃ o' h', P o' h' ∧ o = oc o' ∧ sn_R dC dI dA b0 U h' t.heap ∧ (∀ q, q < b0 → t.heap[q]? = U.heap[q]?) ∧ U.WarmedH t.vm ∧ ∃ L k n, U.sameButNew ({ t with vm := U.vm } : State) L k n ∧ (∀ q ∈ L, b0 ≤ q.base) ∧ k + hC h' = hC h ∧ n + hS h' = hS h
def sn_P (dC : Nat → ClassId) (dI : Nat → Nat → Nat) (dA : Nat → ClassId) (b0 : Nat) (h : AH) (as : List AV) : Array Value → State → Prop := fun a U => a = (as.map av_V).toArray ∧ sn_W dC dI dA b0 U ∧ sn_R dC dI dA b0 U h U.heap
def sn_rm (d : Nat) (h : AH) : Room := { frames := d + 20, cells := hC h, slots := hS h, locals := 60 * d + 200 }
theorem sn_met {d M : Nat} {as : List AV} {h : AH} {P : PT} (hM : mOK M) (hu : ∀ v ∈ as, v ≠ vU) (hn : (lg_sl (as.map av_V)).length ≤ mL M) (hX : SX l dC dI dA b0 d M 0 (ent (mL M) as) [] h P) :
    MetFree l (mY M) (headSpec [mW M] (sn_rm d h)) (sn_P dC dI dA b0 h as) (fun _ _ _ _ _ => True) (sn_Q dC dI dA b0 h P) := by
  refine MetFree.of_bodyS (code := mB M) (maxLocals := mL M) (ret := mR M) hM.2.2.1 ?_ ?_
  · intro args s m hp hn
    obtain ⟨m', meth, c, h0, h1, h2, h3, h4, h5, h6, h7, -⟩ := Cond.codeWith_spec (atoms_spec (ws := [mW M]) hp _ List.mem_cons_self)
    cases hn.symm.trans h0
    exact ⟨meth, c, h1, h2, h3, h4, h6, h7⟩
  · intro p e s m args below meth c s₁ B hml hP _
    obtain ⟨rfl, hW, hRp⟩ := hP
    obtain ⟨m', meth', c', h0, h1, h2, h3, h4, h5, h6, h7, -⟩ := Cond.codeWith_spec (atoms_spec (ws := [mW M]) B.pre _ List.mem_cons_self)
    cases B.named.symm.trans h0
    cases B.method.symm.trans h1
    cases (Stand.of_body B).code.symm.trans h2
    have hF : sn_F p s m meth c M := ⟨B.exec, h3, h4, h6, h7, by rw [← hM.2.2.2.1]; exact findClass_of_methodNamed B.named, (name_of_methodNamed B.named B.method).1, h5⟩
    have hh0 : s₁.heap = s.heap := by rw [B.state]; rfl
    have hk := hX p e (sn_rm d h) s m (as.map av_V).toArray below meth c s.heap [] 0 0 _ (fun t => ∃ o, t.status = .running ∧ Ended t below o ∧ sn_Q dC dI dA b0 h P (as.map av_V).toArray s o t) hF hW ⟨Nat.le_refl _, Nat.le_refl _, by simp [sn_rm], by simp [sn_rm]⟩ hRp (fun _ _ => rfl) (fun q hq => by cases hq) (sn_L_ent hu hn) ?_
    · rw [show List.map av_V [] = [] from rfl, ← lg_entry_eq] at hk
      obtain ⟨t, a1, o, b1, b2, b3⟩ := hk s₁ hh0 (Stand.of_body B)
      exact ⟨t, o, a1, b1, b2, b3⟩
    · rintro o h' t hp ⟨e1, e2, e3, e4, e5, L, k, n, e6, e7, e8, e9⟩
      exact ⟨oc o, e1, e2, o, h', hp, rfl, e3, e4, e5, L, k, n, e6, e7, by omega, by omega⟩
/-- a call, from the invocation on -/
theorem sn_enter {d M : Nat} {as : List AV} {h : AH} {P : PT} (hM : mOK M) (hu : ∀ v ∈ as, v ≠ vU) (hn : (lg_sl (as.map av_V)).length ≤ mL M) (hm30 : mL M ≤ 30) (hX : SX l dC dI dA b0 d M 0 (ent (mL M) as) [] h P)
    {p : Program} {e : Env} {R : Room} {s : State} {m : MethodId} {args : Array Value} {below : List Frame} {meth : Method} {c : Code} {T : State} {locs : List Loc} {cells slots : Nat} (X : Stand p l e R s m args below meth c T locs cells slots) {g : JFrame} (hg : g.method = m) (hsize : g.locals.size = c.maxLocals) {ig : Instr} {len : Nat} (hdg : decode c.code g.pc = .ok (ig, len))
    (hstk : 2 * g.monitorRoom + (g.stack.map fun v => v.category).sum ≤ 8) {mk : MethodId} (hnm : s.methodNamed? (mY M) = some mk) (hW : sn_W dC dI dA b0 T) (hR : d + 1 + 20 ≤ R.frames ∧ 60 * (d + 1) + 200 ≤ R.locals ∧ cells + hC h ≤ R.cells ∧ slots + hS h ≤ R.slots) (hRp : sn_R dC dI dA b0 T h T.heap) :
    ∃ (o : Option AV ⊕ Nat) (h' : AH) (T' : State) (L : List Loc) (k n : Nat), P o h' ∧ sn_R dC dI dA b0 T h' T'.heap ∧ (∀ q, q < b0 → T'.heap[q]? = T.heap[q]?) ∧ (∀ q ∈ L, b0 ≤ q.base) ∧ k + hC h' = hC h ∧ n + hS h' = hS h ∧ Stand p l e R s m args below meth c T' (locs ++ L) (cells + k) (slots + n) ∧
      (match o with
        | .inl v => Steps p.tables e below (doInvoke e (T.setTop g) [] mk (as.map av_V).toArray).1 (T'.setTop { g with pc := g.pc + len, stack := (v.map av_V).toList ++ g.stack })
        | .inr a => Steps p.tables e below (doInvoke e (T.setTop g) [] mk (as.map av_V).toArray).1 ((T'.setTop g).pushFrame (.throwing a))) := by
  have hmet := sn_met hM hu hn hX
  have hn' : T.methodNamed? (mY M) = some mk := X.named hnm
  have h1 : (mW M).before (as.map av_V).toArray T = true := sn_code hW hM
  have h3 : (Cond.initialized (mY M).cls).before (as.map av_V).toArray T = true := hW.use hM.2.1 rfl
  obtain ⟨mk', methY, cY, h0, hmY, hcY, -, hlY, -, -, -, -⟩ := Cond.codeWith_spec h1
  cases hn'.symm.trans h0
  obtain ⟨kY, hkY, -⟩ := className_of_methodNamed hn'
  have hinitY : kY.init = .initialized := Cond.initialized_spec (findClass_of_methodNamed hn') hkY h3
  have hAt : At T g.method c below := by rw [hg]; exact X.here
  have happ : (headSpec [mW M] (sn_rm d h)).appliesLoose (mY M) e.platform (T.calling g mk (as.map av_V).toArray) = true :=
    Spec.appliesLoose_calling (g := g) hAt hdg hn' hkY hinitY
      (X.room_calling (g := g) (R' := sn_rm d h) hsize hmY hcY (by show d + 20 + 1 ≤ _; omega) (by rw [hlY]; show _ + (mL M + 11) + (60 * d + 200) ≤ _; omega) hR.2.2.1 hR.2.2.2) (atoms_intro (by intro w hw; rw [List.mem_singleton.mp hw]; exact h1))
  obtain ⟨mid, hmid⟩ := hAt.above
  have hfr : (T.setTop g).frames = (.java g :: mid) ++ below := by rw [State.frames_setTop' g hAt.top, hmid]; rfl
  have hcv : (T.calling g mk (as.map av_V).toArray).vm = T.vm := by simp [State.calling, State.pushFrame, State.setFrames, State.setTop, State.modifyTopJava]
  have hch : (T.calling g mk (as.map av_V).toArray).heap = T.heap := by simp [State.calling, State.pushFrame, State.setFrames, State.setTop, State.modifyTopJava]
  have hal : T.vm.Alike (T.calling g mk (as.map av_V).toArray).vm := by rw [hcv]; exact Vm.Alike.refl _
  have hWc : sn_W dC dI dA b0 (T.calling g mk (as.map av_V).toArray) := hW.moved (by rw [hcv]; exact State.WarmedH.refl T) (fun q _ => by rw [hch])
  have hRc : sn_R dC dI dA b0 (T.calling g mk (as.map av_V).toArray) h (T.calling g mk (as.map av_V).toArray).heap := by rw [hch]; exact hRp.moved hal
  obtain ⟨o, s₂, hsteps, -, hend, hq⟩ := Steps.callFree hmet p X.admits X.cas X.clock (acts := []) hfr happ ⟨rfl, hWc, hRc⟩ trivial
  rw [State.frames_setTop' g hAt.top] at hend
  obtain ⟨o', h', hp, rfl, r1, r2, r3, L, k, n, r4, r5, r6, r7⟩ := hq
  have r1 : sn_R dC dI dA b0 (T.calling g mk (as.map av_V).toArray) h' s₂.heap := r1
  have r2 : ∀ q, q < b0 → s₂.heap[q]? = (T.calling g mk (as.map av_V).toArray).heap[q]? := r2
  have hW' : T.WarmedH s₂.vm := r3
  obtain ⟨e2, q2, q3, q4, q5, q6⟩ := r4
  have e3 : s₂ = ({ (T.calling g mk (as.map av_V).toArray).setFrames s₂.frames with heap := s₂.heap, slotsUsed := s₂.slotsUsed } : State).setVm s₂.vm := by
    have : s₂ = ({ s₂ with vm := (T.calling g mk (as.map av_V).toArray).vm } : State).setVm s₂.vm := rfl
    have e2' : ({ s₂ with vm := (T.calling g mk (as.map av_V).toArray).vm } : State) = { (T.calling g mk (as.map av_V).toArray).setFrames s₂.frames with heap := s₂.heap, slotsUsed := s₂.slotsUsed } := e2
    rw [e2'] at this
    exact this
  obtain ⟨g₀, hg0⟩ := Option.isSome_iff_exists.mp hAt.top
  obtain ⟨r, hr⟩ := State.topJava?_eq_some.mp hg0
  have hr' : (({ T with heap := s₂.heap, slotsUsed := s₂.slotsUsed } : State).setVm s₂.vm).frames = .java g₀ :: r := hr
  have hsame : T.sameButNew ({ T with heap := s₂.heap, slotsUsed := s₂.slotsUsed } : State) L k n := by
    refine ⟨?_, q2, q3, q4, q5, q6⟩
    obtain ⟨t, ht, -⟩ := State.frames_cons hr
    show ({ T with heap := s₂.heap, slotsUsed := s₂.slotsUsed } : State) = { T.setFrames T.frames with heap := s₂.heap, slotsUsed := s₂.slotsUsed }
    rw [State.setFrames_self ht]
  have X' : Stand p l e R s m args below meth c (({ T with heap := s₂.heap, slotsUsed := s₂.slotsUsed } : State).setVm s₂.vm) (locs ++ L) (cells + k) (slots + n) :=
    ⟨X.admits, X.cas, X.clock, X.frames, X.room, X.hears, X.method, X.code, (X.here.setHeapUsed s₂.heap s₂.slotsUsed).setVm hW'.alike, X.tail, State.WarmedH.trans X.warmed hW', X.limits, X.bytes, X.same.trans (hsame.setVm s.vm)⟩
  refine ⟨o', h', (({ T with heap := s₂.heap, slotsUsed := s₂.slotsUsed } : State).setVm s₂.vm), L, k, n, hp, r1.moved (by rw [hcv]; exact Vm.Alike.refl _), fun q hq => by show s₂.heap[q]? = _; rw [r2 q hq, hch], r5, r6, r7, X', ?_⟩
  cases o' with
  | inl v =>
    obtain ⟨c₂, i₂, len₂, hc₂, hd₂, hf₂⟩ := hend
    have hcc : c₂ = c := by
      have h1 : s₂.code? g.method = T.code? g.method := by rw [State.code?_eq, State.code?_eq, hW'.alike.method?]
      exact Option.some.inj (hc₂.symm.trans (h1.trans hAt.code))
    subst hcc
    have hlen : len₂ = len := by rw [hdg] at hd₂; cases hd₂; rfl
    subst hlen
    have hs₂ : s₂ = (({ T with heap := s₂.heap, slotsUsed := s₂.slotsUsed } : State).setVm s₂.vm).setTop { g with pc := g.pc + len₂, stack := (v.map av_V).toList ++ g.stack } := by
      refine e3.trans ?_
      rw [hf₂, State.calling_eq hAt.top, State.setFrames_setFrames, State.setTop_of_frames _ hr', hr]
      rfl
    show Steps p.tables e below _ _
    rw [← hs₂]
    exact hsteps
  | inr a =>
    have hf₂ : s₂.frames = .throwing a :: .java g :: T.frames.tail := hend
    have hs₂ : s₂ = ((({ T with heap := s₂.heap, slotsUsed := s₂.slotsUsed } : State).setVm s₂.vm).setTop g).pushFrame (.throwing a) := by
      refine e3.trans ?_
      rw [hf₂, State.calling_eq hAt.top, State.setFrames_setFrames, State.pushFrame, State.setTop_of_frames _ hr', hr, State.setFrames_setFrames]
      rw [State.frames_setFrames _ (State.cur_lt_of_frames hr')]
      rfl
    show Steps p.tables e below _ _
    rw [← hs₂]
    exact hsteps
end CAL
end
section
/-! ===== the three invoking instructions ===== -/
section INV
variable {l : Launch} {dC : Nat → ClassId} {dI : Nat → Nat → Nat} {dA : Nat → ClassId} {b0 d M pc : Nat} {ls : List AV} {h : AH} {P : PT}
theorem aOK_of {M' : Nat} : ∀ {as : List AV} {n : Nat}, aokB as n = true → (∀ v ∈ as, v ≠ vU) ∧ (lg_sl (as.map av_V)).length ≤ n
  | [], n, _ => ⟨(fun v h => by cases h), by simp [lg_sl]⟩
  | .inl x :: r, 0, h => by cases h
  | .inl x :: r, n + 1, h => by
    obtain ⟨h1, h2⟩ := aOK_of (M' := M') (as := r) (n := n) h
    refine ⟨fun v hv => ?_, ?_⟩
    · rcases List.mem_cons.mp hv with rfl | hv
      · simp
      · exact h1 v hv
    · simp only [List.map_cons, lg_sl, List.flatMap_cons, List.length_append] at h2 ⊢
      have : (av_V (.inl x)).category = 1 := rfl
      rw [if_neg (by rw [this]; decide)]
      simp only [List.length_cons, List.length_nil]; omega
  | .inr (.inl x) :: r, 0, h => by cases h
  | .inr (.inl x) :: r, 1, h => by cases h
  | .inr (.inl x) :: r, n + 2, h => by
    obtain ⟨h1, h2⟩ := aOK_of (M' := M') (as := r) (n := n) h
    refine ⟨fun v hv => ?_, ?_⟩
    · rcases List.mem_cons.mp hv with rfl | hv
      · simp
      · exact h1 v hv
    · simp only [List.map_cons, lg_sl, List.flatMap_cons, List.length_append] at h2 ⊢
      have : (av_V (.inr (.inl x))).category = 2 := rfl
      rw [if_pos this]
      simp only [List.length_cons, List.length_nil]; omega
  | .inr (.inr (.inl x)) :: r, 0, h => by cases h
  | .inr (.inr (.inl x)) :: r, n + 1, h => by
    obtain ⟨h1, h2⟩ := aOK_of (M' := M') (as := r) (n := n) h
    refine ⟨fun v hv => ?_, ?_⟩
    · rcases List.mem_cons.mp hv with rfl | hv
      · simp
      · exact h1 v hv
    · simp only [List.map_cons, lg_sl, List.flatMap_cons, List.length_append] at h2 ⊢
      have : (av_V (.inr (.inr (.inl x)))).category = 1 := by cases x <;> rfl
      rw [if_neg (by rw [this]; decide)]
      simp only [List.length_cons, List.length_nil]; omega
  | .inr (.inr (.inr x)) :: r, n, h => by cases n <;> cases h
theorem sn_callW {M' : Nat} {as rest : List AV} {stk : List Value} {ig : Instr} (hM : mOK M') (hm30 : mL M' ≤ 30) (hs : hsOK (mO M) (mX M) (mH M)) (hd : decode (mB M) pc = .ok (ig, 3)) (hq : calQ (SX l dC dI dA b0) d M P pc ls rest M' as h)
    {p : Program} {e : Env} {R : Room} {s : State} {m : MethodId} {args : Array Value} {below : List Frame} {meth : Method} {c : Code} {H : Heap} {locs : List Loc} {cells slots : Nat} {LS : Array Slot} {Q : State → Prop}
    (hF : sn_F p s m meth c M) (hW : sn_W dC dI dA b0 s) (hRm : d + 20 ≤ R.frames ∧ 60 * d + 200 ≤ R.locals ∧ cells + hC h ≤ R.cells ∧ slots + hS h ≤ R.slots) (hRp : sn_R dC dI dA b0 s h H) (ho : ∀ q, q < b0 → H[q]? = s.heap[q]?) (hl : ∀ q ∈ locs, b0 ≤ q.base) (hLc : sn_L LS (mL M) ls)
    (hQ : ∀ o h' t, P o h' → sn_E dC dI dA b0 s below (cells + hC h) (slots + hS h) t o h' → Q t)
    (hstep : ∀ T : State, T.heap = H → Stand p l e R s m args below meth c T locs cells slots → ∃ (vm₁ : Vm) (mk : MethodId), Stand p l e R s m args below meth c (T.setVm vm₁) locs cells slots ∧ s.methodNamed? (mY M') = some mk ∧
      ∀ target, (∀ acts, Steps p.tables e below (doInvoke e ((T.setVm vm₁).setTop (F0 m pc LS (rest.map av_V))) acts mk (as.map av_V).toArray).1 target) → Steps p.tables e below (T.setTop (F0 m pc LS stk)) target) :
    W p l e R s m args below meth c H locs cells slots Q (F0 m pc LS stk) := by
  cases d with
  | zero => exact hq.elim
  | succ d' =>
    obtain ⟨hr4, hab, hX⟩ := hq
    have ha := aOK_of (M' := M') hab
    intro T hT9 X
    obtain ⟨vm₁, mk, X₁, hnm, hgo⟩ := hstep T hT9 X
    have hcat := cat_sum rest 4 hr4
    have hWT : sn_W dC dI dA b0 (T.setVm vm₁) := hW.moved X₁.warmed (fun q hq => by show T.heap[q]? = _; rw [hT9]; exact ho q hq)
    have hRT : sn_R dC dI dA b0 (T.setVm vm₁) h (T.setVm vm₁).heap := by
      show sn_R dC dI dA b0 (T.setVm vm₁) h T.heap
      rw [hT9]; exact hRp.moved X₁.warmed.alike
    obtain ⟨o, h', T', L, k, n, hp, r1, r2, r3, r4, r5, X', hst⟩ := sn_enter hM ha.1 ha.2 hm30 hX X₁ (g := F0 m pc LS (rest.map av_V)) rfl (by rw [hF.2.2.1]; exact hLc.1) (by rw [hF.2.1]; exact hd) (by show 2 * 0 + ((rest.map av_V).map fun v => v.category).sum ≤ 8; omega) hnm hWT hRm hRT
    have hR' : d' + 1 + 20 ≤ R.frames ∧ 60 * (d' + 1) + 200 ≤ R.locals ∧ cells + k + hC h' ≤ R.cells ∧ slots + n + hS h' ≤ R.slots := ⟨hRm.1, hRm.2.1, by omega, by omega⟩
    have hRp' : sn_R dC dI dA b0 s h' T'.heap := r1.moved X₁.warmed.alike.symm
    have ho' : ∀ q, q < b0 → T'.heap[q]? = s.heap[q]? := fun q hq => by
      rw [r2 q hq]; show T.heap[q]? = _; rw [hT9]; exact ho q hq
    have hl' : ∀ q ∈ locs ++ L, b0 ≤ q.base := fun q hq => by
      rcases List.mem_append.mp hq with z | z
      · exact hl q z
      · exact r3 q z
    have hQ' : ∀ o h2 t, P o h2 → sn_E dC dI dA b0 s below (cells + k + hC h') (slots + n + hS h') t o h2 → Q t := fun o h2 t hp he => hQ o h2 t hp (by
      rw [show cells + hC h = cells + k + hC h' by omega, show slots + hS h = slots + n + hS h' by omega]; exact he)
    cases o with
    | inl v =>
      have hp : SX l dC dI dA b0 (d' + 1) M (pc + 3) ls (v.toList ++ rest) h' P := hp
      obtain ⟨t, a1, b1⟩ := hp p e R s m args below meth c T'.heap (locs ++ L) (cells + k) (slots + n) LS Q hF hW hR' hRp' ho' hl' hLc hQ' T' rfl X'
      refine ⟨t, hgo t (fun acts => ?_), b1⟩
      rw [doInvoke_state]
      refine hst.trans ?_
      rw [show (v.map av_V).toList ++ (F0 m pc LS (rest.map av_V)).stack = (v.toList ++ rest).map av_V by cases v <;> rfl]
      exact a1
    | inr a =>
      have hp : thrQ (SX l dC dI dA b0) (d' + 1) M P pc ls a h' := hp
      obtain ⟨t, a1, b1⟩ := sn_thr (stk := rest.map av_V) hs hp hF hW hR' hRp' ho' hl' hLc hQ' rfl X'
      exact ⟨t, hgo t (fun acts => by rw [doInvoke_state]; exact hst.trans a1), b1⟩
/-- invokestatic -/
def sOK (o i M' n : Nat) : Prop := Jvm.Cond.methodLink (oN o) i (mY M') ∈ lw_tbl ∧ Jvm.Cond.static (mY M') ∈ lw_tbl ∧ (parseMethodDescriptor (mY M').desc).map (fun d => d.parameters.length) = some n
theorem len_of {x : MethodName} {n : Nat} (h : (parseMethodDescriptor x.desc).map (fun d => d.parameters.length) = some n) {sig : MethodDescriptor} (hs : parseMethodDescriptor x.desc = some sig) : n = sig.parameters.length := by
  rw [hs] at h
  exact (Option.some.inj h).symm
theorem sx_invS {i n M' : Nat} {st : List AV} (hM : mOK M') (hm30 : mL M' ≤ 30) (hs : hsOK (mO M) (mX M) (mH M)) (hk : sOK (mO M) i M' n) (hd : decode (mB M) pc = .ok (.invokestatic i, 3)) (hn : n ≤ st.length) (hq : calQ (SX l dC dI dA b0) d M P pc ls (st.drop n) M' (st.take n).reverse h) :
    SX l dC dI dA b0 d M pc ls st h P := by
  intro p e R s m args below meth c H locs cells slots LS Q hF hW hRm hRp ho hl hLc hQ
  refine sn_callW hM hm30 hs hd hq hF hW hRm hRp ho hl hLc hQ (fun T hT9 X => ?_)
  obtain ⟨mk, methM, cM, hnamed, hmethM, -, -, -, -, -, -, hsigM⟩ := Cond.codeWith_spec (sn_code hW hM (A := args))
  have hstatic : methM.isStatic = true := Cond.static_spec hnamed hmethM (hW.use (A := args) hk.2.1 rfl)
  obtain ⟨kP, hkP, -⟩ := className_of_methodNamed hnamed
  have hinitP : kP.init = .initialized := Cond.initialized_spec (findClass_of_methodNamed hnamed) hkP (hW.use (A := args) hM.2.1 rfl)
  obtain ⟨vm₁, X₁, hstep₁⟩ := X.invokestatic hF.1 hF.2.2.2.2.2.1 (hW.use hk.1 rfl) hnamed hmethM hstatic hkP hinitP hM.2.2.2.2 (g := F0 m pc LS (st.map av_V)) rfl (argsL := (st.take n).reverse.map av_V) (rest := (st.drop n).map av_V) (by
    simp only [List.length_map, List.length_reverse, List.length_take, Nat.min_eq_left hn]
    exact len_of hk.2.2 hsigM) (by
    show st.map av_V = _
    rw [← List.map_reverse, List.reverse_reverse, ← List.map_append, List.take_append_drop]) (by rw [hF.2.1]; exact hd)
  exact ⟨vm₁, mk, X₁, hnamed, hstep₁⟩
/-- invokespecial of a constructor: through a method of its own, or of a nest mate -/
def iOK (o i M' n : Nat) : Prop := (mY M').name = "<init>" ∧ mX M' = [] ∧ mR M' = none ∧ (Jvm.Cond.methodLink (oN o) i (mY M') ∈ lw_tbl ∨ ∃ host, Jvm.Cond.methodLinkNest (oN o) i (mY M') host ∈ lw_tbl) ∧ Jvm.Cond.instanceMethod (mY M') ∈ lw_tbl ∧ (parseMethodDescriptor (mY M').desc).map (fun d => d.parameters.length) = some n
theorem sx_invI {i n M' a : Nat} {as rest : List AV} (hM : mOK M') (hm30 : mL M' ≤ 30) (hs : hsOK (mO M) (mX M) (mH M)) (hk : iOK (mO M) i M' n) (hd : decode (mB M) pc = .ok (.invokespecial i, 3)) (hn : as.length = n) (hq : calQ (SX l dC dI dA b0) d M P pc ls rest M' (vR (some a) :: as) h) :
    SX l dC dI dA b0 d M pc ls (as.reverse ++ vR (some a) :: rest) h P := by
  intro p e R s m args below meth c H locs cells slots LS Q hF hW hRm hRp ho hl hLc hQ
  refine sn_callW hM hm30 hs hd hq hF hW hRm hRp ho hl hLc hQ (fun T hT9 X => ?_)
  have hpl : e.platform.magicAccessors = ({} : Platform).magicAccessors := by rw [X.admits.platform]
  have hcode : (Cond.code (mY M') (mB M') (mL M') none).before args s = true := by
    have h1 := sn_code hW hM (A := args)
    unfold mW at h1
    rw [hk.2.1, hk.2.2.1] at h1
    simp only [Cond.before, Cond.holds] at h1 ⊢
    rw [Cond.code_iff_codeWith_nil]
    exact h1
  have hlen : ∀ sig, parseMethodDescriptor (mY M').desc = some sig → (as.map av_V).length = sig.parameters.length := fun sig hsg => by
    rw [List.length_map, hn]; exact len_of hk.2.2.2.2.2 hsg
  have hstk : (F0 m pc LS ((as.reverse ++ vR (some a) :: rest).map av_V)).stack = (as.map av_V).reverse ++ .ref a :: rest.map av_V := by
    show (as.reverse ++ vR (some a) :: rest).map av_V = _
    rw [List.map_append, List.map_reverse]; rfl
  rcases hk.2.2.2.1 with hw | ⟨host, hw⟩
  · obtain ⟨mk, methM, cM, kP, vm₁, hnamed, hmethM, hcodeM, -, hlocalsM, -, hkP, -, hW₁, hstep₁⟩ := Steps.initColdArgs (e := e) X.here hF.1 X.warmed hpl hF.2.2.2.2.2.1 hk.1 hM.2.2.2.2 (hW.use hw rfl) (hW.use hk.2.2.2.2.1 rfl) hcode (f := F0 m pc LS ((as.reverse ++ vR (some a) :: rest).map av_V)) rfl hlen hstk (by rw [hF.2.1]; exact hd)
    exact ⟨vm₁, mk, X.noted hW₁, hnamed, hstep₁⟩
  · obtain ⟨mk, methM, cM, kP, vm₁, hnamed, hmethM, hcodeM, -, hlocalsM, -, hkP, -, hW₁, hstep₁⟩ := Steps.initColdArgsNest (e := e) X.here hF.1 X.warmed hpl hF.2.2.2.2.2.1 hk.1 hM.2.2.2.2 (hW.use hw rfl) (hW.use hk.2.2.2.2.1 rfl) hcode (f := F0 m pc LS ((as.reverse ++ vR (some a) :: rest).map av_V)) rfl hlen hstk (by rw [hF.2.1]; exact hd)
    exact ⟨vm₁, mk, X.noted hW₁, hnamed, hstep₁⟩
/-- invokevirtual: the reference names x; a receiver of the class c selects M' -/
def vOK (o i n c M' : Nat) : Prop := ∃ x : MethodName, Jvm.Cond.methodLink (oN o) i x ∈ lw_tbl ∧ Jvm.Cond.selects (oN c) x (mY M') ∈ lw_tbl ∧ c < 17 ∧ Jvm.Cond.instanceMethod (mY M') ∈ lw_tbl ∧ (parseMethodDescriptor x.desc).map (fun d => d.parameters.length) = some n ∧
  (x = mY M' ∨ ∃ owner, Jvm.Cond.sameMethod x.cls owner x.name x.desc ∈ lw_tbl ∧ Jvm.Cond.declares ⟨owner, x.name, x.desc⟩ ∈ lw_tbl ∧ owner ≠ "java/lang/invoke/MethodHandle" ∧ owner ≠ "java/lang/invoke/VarHandle")
theorem sx_invV {i n M' b cc nn : Nat} {as rest : List AV} (hM : mOK M') (hm30 : mL M' ≤ 30) (hs : hsOK (mO M) (mX M) (mH M)) (hk : vOK (mO M) i n cc M') (hd : decode (mB M) pc = .ok (.invokevirtual i, 3)) (hn : as.length = n) (ht : hT h b = some (cc, nn)) (hq : calQ (SX l dC dI dA b0) d M P pc ls rest M' (vR (some b) :: as) h) :
    SX l dC dI dA b0 d M pc ls (as.reverse ++ vR (some b) :: rest) h P := by
  intro p e R s m args below meth c H locs cells slots LS Q hF hW hRm hRp ho hl hLc hQ
  refine sn_callW hM hm30 hs hd hq hF hW hRm hRp ho hl hLc hQ (fun T hT9 X => ?_)
  obtain ⟨x, w1, w2, hc17, w3, w4, w5⟩ := hk
  obtain ⟨-, cellB, hcB, hclB, hvB, -⟩ := sn_obj hc17 hRp ht
  have hfc : s.vm.findClass (oN cc) = some cellB.cls := by rw [hclB]; exact (hW.2.1.1 cc hc17).2.1
  have hobj : ∀ z, cellB.vm ≠ .statics z := fun z q => by rw [hvB] at q; cases q
  have hstk : (F0 m pc LS ((as.reverse ++ vR (some b) :: rest).map av_V)).stack = (as.map av_V).reverse ++ .ref b :: rest.map av_V := by
    show (as.reverse ++ vR (some b) :: rest).map av_V = _
    rw [List.map_append, List.map_reverse]; rfl
  obtain ⟨mk, methM, hnamed, hmethM, hstM, habM⟩ := Cond.instanceMethod_spec (hW.use (A := args) w3 rfl)
  obtain ⟨c2, r2, m2, q1, q2, q3, q4, kP, hkP, hkPi⟩ := Cond.selects_spec (hW.use (A := args) w2 rfl)
  cases hfc.symm.trans q1
  cases hnamed.symm.trans q3
  rcases w5 with rfl | ⟨owner, w6, w7, w8⟩
  · obtain ⟨mk', methM', cM', h0, h1, -, -, -, -, -, -, hsigM⟩ := Cond.codeWith_spec (sn_code hW hM (A := args))
    cases hnamed.symm.trans h0
    cases hmethM.symm.trans h1
    cases (State.methodFound?_of_named hnamed hM.2.2.2.2).symm.trans q2
    have hselP : selectMethod e.platform s.vm cellB.cls mk = .method mk := by rw [Launch.admits_selectMethod X.admits]; exact q4
    obtain ⟨vm₁, X₁, hstep₁⟩ := X.invokevirtual hF.1 hF.2.2.2.2.2.1 (hW.use w1 rfl) hnamed hmethM hstM hkP hkPi hM.2.2.2.2 (a := b) (cell := cellB) (by rw [hT9]; exact hcB) hobj hselP hmethM habM hkP hkPi (g := F0 m pc LS ((as.reverse ++ vR (some b) :: rest).map av_V)) rfl (argsL := as.map av_V) (rest := rest.map av_V) (by rw [List.length_map, hn]; exact len_of w4 hsigM) hstk (by rw [hF.2.1]; exact hd)
    exact ⟨vm₁, mk, X₁, hnamed, hstep₁⟩
  · obtain ⟨r0, r, hn0, hrm, hstR, hsigR⟩ := va_Decl.abs (va_Nw.of rfl (hW.use (A := args) w7 rfl))
    obtain ⟨cn, ck, r1, hcn, hck, hni, hf, hn1⟩ := Cond.sameMethod_found (hW.use (A := args) w6 rfl)
    cases Option.some.inj (hn0.symm.trans hn1)
    have e9 : r2 = r0 := Option.some.inj (q2.symm.trans hf)
    subst e9
    have hselP : selectMethod e.platform s.vm cellB.cls r2 = .method mk := by rw [Launch.admits_selectMethod X.admits]; exact q4
    obtain ⟨vm₁, X₁, hstep₁⟩ := X.invokevirtualUp hF.1 hF.2.2.2.2.2.1 (hW.use w1 rfl) (hW.use (A := args) w6 rfl) w8 hn0 hrm hstR (a := b) (cell := cellB) (by rw [hT9]; exact hcB) hobj hselP hmethM habM hkP hkPi (g := F0 m pc LS ((as.reverse ++ vR (some b) :: rest).map av_V)) rfl (argsL := as.map av_V) (rest := rest.map av_V) (by rw [List.length_map, hn]; exact len_of w4 hsigR) hstk (by rw [hF.2.1]; exact hd)
    exact ⟨vm₁, mk, X₁, hnamed, hstep₁⟩
end INV
end
section
/-! ===== making and throwing an exception ===== -/
/-- the first link of an exception's constructors: pool index, bytes -/
def x_l1 (e : Nat) : Nat × ByteArray := if e = 4 then (13, prog_30_method_4_code) else (7, Bundle.six)
abbrev x_rte : String := "java/lang/RuntimeException"
/-- the words (all of the tables) that an exception asks -/
def x_atoms (e : Nat) : List Jvm.Cond :=
  Bundle.throwableAtoms ++ Bundle.throwableSAtoms ++ Bundle.passSAtoms (eN e) x_rte (x_l1 e).1 (x_l1 e).2 ++ Bundle.chainSAtoms x_rte ["java/lang/Exception"] ++
  [.instantiable (eN e) 6, .initialized (eN e), .selects (eN e) Bundle.tFill0 Bundle.tFill0, .selects (eN e) Bundle.tFill Bundle.tFill,
   .lays (eN e) Bundle.tN "cause" "Ljava/lang/Throwable;", .lays (eN e) Bundle.tN "stackTrace" Bundle.steD, .lays (eN e) Bundle.tN "suppressedExceptions" Bundle.listD, .lays (eN e) Bundle.tN "detailMessage" "Ljava/lang/String;",
   .fieldLink Bundle.tN 198 Bundle.tN "backtrace" "Ljava/lang/Object;", .lays Bundle.tN Bundle.tN "backtrace" "Ljava/lang/Object;", .lays (eN e) Bundle.tN "backtrace" "Ljava/lang/Object;"]
set_option maxRecDepth 100000 in
theorem st_x : ∀ e, e < 5 → ∀ w ∈ x_atoms e, w ∈ lw_tbl ∧ (wok w = true ∨ w = .laysStatic Bundle.tN "UNASSIGNED_STACK" Bundle.steD ∨ w = .laysStatic Bundle.tN "SUPPRESSED_SENTINEL" Bundle.listD) := by decide +kernel
theorem st_x2 : ∀ e, e < 5 → (Bundle.fit (eN e) = true ∧ plainName (eN e) = true ∧ decode (x_l1 e).2 0 = .ok (.aload_n 0, 1) ∧ decode (x_l1 e).2 1 = .ok (.aload_n 1, 1) ∧ decode (x_l1 e).2 2 = .ok (.invokespecial (x_l1 e).1, 3) ∧ decode (x_l1 e).2 5 = .ok (.return_, 1)) := by decide +kernel
section EXC
variable {l : Launch} {dC : Nat → ClassId} {dI : Nat → Nat → Nat} {dA : Nat → ClassId} {b0 : Nat}
theorem sn_x {U : State} (hW : sn_W dC dI dA b0 U) {ex : Nat} (hex : ex < 5) {A : Array Value} : ∀ w ∈ x_atoms ex, w.before A U = true := by
  intro w hw
  obtain ⟨h1, h2 | h2 | h2⟩ := st_x ex hex w hw
  · exact hW.use h1 h2
  · rw [h2]; exact hW.2.2.1.2
  · rw [h2]; exact hW.2.2.2.1.2
theorem sn_Zref {C n d : String} {U : State} (hZ : sn_Z C n d b0 U) {c i a : Nat} {k : Class} {f : Field} (hf : U.fieldFound? C n d = some (c, k, i, f)) (hsta : k.statics = some a) : a < b0 ∧ ∀ cell, U.heap[a]? = some cell → ∃ u : RefV, cell.slots[f.slot]? = some u.v := by
  have key : ∀ v, va_Z C n d v (fun q => b0 ≤ q) U U.heap → a < b0 ∧ ∀ cell, U.heap[a]? = some cell → cell.slots[f.slot]? = some v := by
    rintro v ⟨cf, kf, fi, fd, a', cell', g1, g2, g3, g4, g5, g6, g7, g8⟩
    cases Option.some.inj (hf.symm.trans g1)
    cases Option.some.inj (hsta.symm.trans g4)
    exact ⟨Nat.not_le.mp g8, fun cell hc => by cases Option.some.inj (g5.symm.trans hc); exact g7⟩
  rcases hZ.1 with z | ⟨t, z⟩
  · exact ⟨(key _ z).1, fun cell hc => ⟨⟨.null, rfl⟩, (key _ z).2 cell hc⟩⟩
  · exact ⟨(key _ z).1, fun cell hc => ⟨⟨.ref t, rfl⟩, (key _ z).2 cell hc⟩⟩
set_option maxHeartbeats 4000000 in
/-- the constructor of a new exception: its own cell alone changes -/
theorem sn_ctor {p : Program} {e : Env} {R : Room} {s : State} {m : MethodId} {args : Array Value} {below : List Frame} {meth : Method} {c : Code} {T : State} {locs : List Loc} {cells slots : Nat} (X : Stand p l e R s m args below meth c T locs cells slots) (hexec : p.tables.exec = Jvm.exec) (htr : e.platform.stackTraces = false)
    (hW : sn_W dC dI dA b0 s) (ho : ∀ q, q < b0 → T.heap[q]? = s.heap[q]?) {ex : Nat} (hex : ex < 5) {own : String} {ic : Nat} (hown : s.vm.findClass own = some m.cls) (hlk : (Cond.methodLink own ic (Bundle.initS (eN ex))).before args s = true)
    {a : Addr} {cX : ClassId} {kX : Class} (hfX : s.vm.findClass (eN ex) = some cX) (hkX : s.vm.classes[cX]? = some kX) (hcell : T.heap[a]? = some (freshCell cX kX)) (hnew : b0 ≤ a) {msg : Value} (hmsg : msg.isRef = true)
    {g : JFrame} (hg : g.method = m) (hsize : g.locals.size = c.maxLocals) {rest : List Value} (hstack : g.stack = msg :: .ref a :: rest) (hd6 : decode c.code g.pc = .ok (.invokespecial ic, 3))
    (hRf : 6 < R.frames) (hRl : 2 * g.monitorRoom + (rest.map fun v => v.category).sum + 100 ≤ R.locals) :
    ∃ (vm' : Vm) (cell' : Cell) (L : List Loc), (∀ q ∈ L, q.base = a) ∧ cell'.cls = cX ∧ cell'.vm = .none ∧ Stand p l e R s m args below meth c ((T.setVm vm').setCell a cell') (locs ++ L) cells slots ∧
      ∀ target, Steps p.tables e below (((T.setVm vm').setCell a cell').setTop { g with pc := g.pc + 3, stack := rest }) target → Steps p.tables e below (T.setTop g) target := by
  have howns : e.platform.frameOwnsMonitors = true := by rw [X.admits.platform]
  have hfin : e.platform.finalization = false := by rw [X.admits.platform]
  have hpl : e.platform.magicAccessors = ({} : Platform).magicAccessors := by rw [X.admits.platform]
  have ha : ∀ w ∈ x_atoms ex, w.before args s = true := sn_x hW hex
  have ha' : ∀ w, w ∈ x_atoms ex → w.holds args s none s [] = true := fun w hw => ha w hw
  obtain ⟨fitX, plX, d0, d1, d2, d5⟩ := st_x2 ex hex
  obtain ⟨Tc, Z0, L, -, Y⟩ := ThrowableC.of_atoms (args := args) howns hfin hpl (fun x hx => ha x (by simp [x_atoms, hx]))
  obtain ⟨Z, Mm, LZ, LM, hnZ⟩ := Init0T.ofS_atoms (args := args) hpl L Y (fun x hx => ha x (by simp [x_atoms, hx]))
  obtain ⟨P1, Ps, hlen, L1, hL, hP1m, hlink1, hlink⟩ := Bundle.chainS (args := args) hpl hnZ ["java/lang/Exception"] x_rte (by decide +kernel) (by decide +kernel) (fun x hx => ha x (by simp [x_atoms, hx]))
  obtain ⟨P0, L0, hP0m, hP0s⟩ := PassC.ofS_atoms (args := args) (X := eN ex) (Y := x_rte) (index := (x_l1 ex).1) (bytes := (x_l1 ex).2) hpl plX ⟨by decide, by decide⟩ d0 d1 d2 d5 (fun x hx => ha x (by simp [x_atoms, hx]))
  have hsup : P0.sup = P1.m := Option.some.inj (hP0s.symm.trans hP1m)
  have hfound : s.vm.findClass (eN ex) = some P0.m.cls := findClass_of_methodNamed hP0m
  cases Option.some.inj (hfX.symm.trans hfound)
  obtain ⟨c1, kX', hc1, hk, hord, -, -, hn6⟩ := Cond.instantiable_spec (ha' (.instantiable (eN ex) 6) (by simp [x_atoms]))
  cases Option.some.inj (hc1.symm.trans hfound)
  cases Option.some.inj (hkX.symm.trans hk)
  have hsel0 : selectMethod e.platform s.vm P0.m.cls Tc.fill0 = .method Tc.fill0 := by
    obtain ⟨c2, r2, m2, q1, q2, q3, q4, -⟩ := Cond.selects_spec (ha' (.selects (eN ex) Bundle.tFill0 Bundle.tFill0) (by simp [x_atoms]))
    cases Option.some.inj (q1.symm.trans hfound)
    cases Option.some.inj (q2.symm.trans (State.methodFound?_of_named Y.fill0 (by decide)))
    cases Option.some.inj (q3.symm.trans Y.fill0)
    rw [Launch.admits_selectMethod X.admits]; exact q4
  have hselF : selectMethod e.platform s.vm P0.m.cls Tc.fill = .method Tc.fill := by
    obtain ⟨c2, r2, m2, q1, q2, q3, q4, -⟩ := Cond.selects_spec (ha' (.selects (eN ex) Bundle.tFill Bundle.tFill) (by simp [x_atoms]))
    cases Option.some.inj (q1.symm.trans hfound)
    cases Option.some.inj (q2.symm.trans (State.methodFound?_of_named Y.fill (by decide)))
    cases Option.some.inj (q3.symm.trans Y.fill)
    rw [Launch.admits_selectMethod X.admits]; exact q4
  obtain ⟨cellS, hcS, hiss⟩ := Y.statics
  obtain ⟨haS, hu⟩ := sn_Zref hW.2.2.1 Y.unassigned L.statics
  obtain ⟨-, hse⟩ := sn_Zref hW.2.2.2.1 Y.sentinel L.statics
  obtain ⟨u0, hu0⟩ := hu cellS hcS
  obtain ⟨sen, hsen⟩ := hse cellS hcS
  have hcellS : T.heap[Tc.aS]? = some cellS := by rw [ho _ haS]; exact hcS
  have hknownS : cellS.vm ≠ .unknown := by
    intro hu
    rw [hu] at hiss
    cases hiss
  have hneS : Tc.aS ≠ a := Nat.ne_of_lt (Nat.lt_of_lt_of_le haS hnew)
  obtain ⟨ci198, i198, fB, hk198, hg198, ha198, hsB, -, hnB, htB, hffB⟩ := Cond.ownField (t := .object "java/lang/Object") Y.found L.cls (by decide +kernel) (ha' (.fieldLink Bundle.tN 198 Bundle.tN "backtrace" "Ljava/lang/Object;") (by simp [x_atoms])) (ha' (.lays Bundle.tN Bundle.tN "backtrace" "Ljava/lang/Object;") (by simp [x_atoms])) e.platform hpl
  obtain ⟨iM, hffM⟩ := Y.msg
  obtain ⟨tyC, dC9, hdC, hdnC⟩ := Cond.laysAt hfound hk Y.cause (ha' (.lays (eN ex) Bundle.tN "cause" "Ljava/lang/Throwable;") (by simp [x_atoms]))
  obtain ⟨tyS, dS, hdS, hdnS⟩ := Cond.laysAt hfound hk Y.stack (ha' (.lays (eN ex) Bundle.tN "stackTrace" Bundle.steD) (by simp [x_atoms]))
  obtain ⟨tyP, dP, hdP, hdnP⟩ := Cond.laysAt hfound hk Y.supp (ha' (.lays (eN ex) Bundle.tN "suppressedExceptions" Bundle.listD) (by simp [x_atoms]))
  obtain ⟨tyM, dM, hdM, hdnM⟩ := Cond.laysAt hfound hk hffM (ha' (.lays (eN ex) Bundle.tN "detailMessage" "Ljava/lang/String;") (by simp [x_atoms]))
  obtain ⟨tyB, dB, hdB, hdnB⟩ := Cond.laysAt hfound hk hffB (ha' (.lays (eN ex) Bundle.tN "backtrace" "Ljava/lang/Object;") (by simp [x_atoms]))
  have bC := Cond.laysApart hdB hdC hdnB hdnC (by rw [hnB, Y.causeName]; decide)
  have bS := Cond.laysApart hdB hdS hdnB hdnS (by rw [hnB, Y.stackName]; decide)
  have bP := Cond.laysApart hdB hdP hdnB hdnP (by rw [hnB, Y.suppName]; decide)
  have hskip : SkipFacts Tc e.platform s (fun u => u) u0 ((preparedCellV Tc.toThrowableT (freshCell P0.m.cls kX) a u0 sen).withEntry T.cur) :=
    ⟨{ ci198 := ci198, i198 := i198, fBack := fB }, ⟨hk198, hg198, ha198, hsB⟩, by
      have := fresh_default (c := P0.m.cls) tyB
      rw [htB] at this
      simpa [preparedCellV, Cell.setSlot, Cell.withEntry, Array.getElem?_setIfInBounds, bC, bS, bP, bC.symm, bS.symm, bP.symm, defaultValue] using this, fun _ _ => rfl⟩
  obtain ⟨tm, methC, cdC, kC, vm₁, hnC, -, -, -, -, -, -, -, hW₁, st1⟩ := Steps.initColdS (tb := p.tables) (e := e) (below := below) (s := s) (U := T) X.here hexec X.warmed hpl hown (t := Bundle.initS (eN ex)) rfl rfl (Bundle.fit_spec fitX).2
    hlk (ha (.instanceMethod (Bundle.initS (eN ex))) (by simp [x_atoms, Bundle.passSAtoms])) (bytes := (x_l1 ex).2) (maxL := 2) (ha (.code (Bundle.initS (eN ex)) (x_l1 ex).2 2 none) (by simp [x_atoms, Bundle.passSAtoms]))
    (f := g) hg (a := a) (msg := msg) (rest := rest) hstack hd6
  cases Option.some.inj (hnC.symm.trans hP0m)
  have X₁ := X.noted hW₁
  obtain ⟨vm₂, X₂, st2⟩ := X₁.ctorMessageOffV hexec (g := { g with stack := rest }) hg hsize Tc L Z LZ Mm LM (P0 :: P1 :: Ps)
    (fun P hP => by
      rcases List.mem_cons.mp hP with rfl | hP
      · exact L0
      · rcases List.mem_cons.mp hP with rfl | hP
        · exact L1
        · exact hL P hP) ⟨hsup, hlink1, hlink⟩ (u0 := u0) (sen := sen) (self := a) hmsg (cell := freshCell P0.m.cls kX) (cellS := cellS)
    hcell (fun _ => by simp) (by simp) rfl rfl hsel0 hselF hcellS hneS hknownS hu0 hsen
    (Takes.of_laid hk hord tyC (by rw [Y.causeType]; rfl)) (Takes.of_laid hk hord tyS (by rw [Y.stackType]; exact fits_refV_array _ u0)) (Takes.of_laid hk hord tyP (by rw [Y.suppType]; exact fits_refV_object _ sen))
    (Takes.of_laid hk hord tyM (by rw [Y.msgType]; exact fits_refV_object _ ⟨msg, hmsg⟩)) Y.objLocals hskip htr [] hd6
    (by simp only [List.length_cons, hlen, List.length_nil]; omega) (by simp only [List.length_cons, hlen, List.length_nil]; show 2 * g.monitorRoom + (rest.map fun v => v.category).sum + _ ≤ _; omega)
  refine ⟨vm₂, _, _, ?_, ?_, ?_, X₂, fun target ht => st1 _ (fun acts => ?_)⟩
  · intro q hq
    simp only [List.mem_cons, List.not_mem_nil, or_false] at hq
    rcases hq with rfl | rfl | rfl | rfl | rfl <;> rfl
  · simp [plainBareV, preparedCellV, Cell.setSlot]
  · simp [plainBareV, preparedCellV, Cell.setSlot]
  · rw [doInvoke_state]
    exact st2 _ ht
end EXC
end
section
/-! ===== new E; dup; ldc; invokespecial; athrow: one step ===== -/
section SX16
variable {l : Launch} {dC : Nat → ClassId} {dI : Nat → Nat → Nat} {dA : Nat → ClassId} {b0 d M pc : Nat} {ls st : List AV} {h : AH} {P : PT}
theorem sx_exc {i j ic ex : Nat} {tx : String} (hfl : l.stackTraces = false) (hd0 : decode (mB M) pc = .ok (.new i, 3)) (hd3 : decode (mB M) (pc + 3) = .ok (.dup, 1)) (hd4 : decode (mB M) (pc + 4) = .ok (.ldc j, 2)) (hd6 : decode (mB M) (pc + 6) = .ok (.invokespecial ic, 3)) (hd9 : decode (mB M) (pc + 9) = .ok (.athrow, 1)) (hex : ex < 5)
    (hw : Jvm.Cond.classLink (oN (mO M)) i (eN ex) ∈ lw_tbl) (hs : (mO M, j, tx) ∈ x_str) (hl9 : Jvm.Cond.methodLink (oN (mO M)) ic (Bundle.initS (eN ex)) ∈ lw_tbl) (hout : ∀ x ∈ mX M, ¬ (x.1 ≤ pc + 9 ∧ pc + 9 < x.2.1)) (h1 : 1 ≤ hC h) (h2 : 6 ≤ hS h) (hst : st.length ≤ 4)
    (k : P (.inr (hN h)) (al h (50 + ex, 0) 6)) : SX l dC dI dA b0 d M pc ls st h P := by
  intro p e R s m args below meth c H locs cells slots LS Q hF hW hRm hRp ho hl hLc hQ
  have hcat := cat_sum st 4 hst
  have hat : ∀ w ∈ x_atoms ex, w.before args s = true := sn_x hW hex
  obtain ⟨cX, kX, hfX, hkX, -⟩ := Cond.instantiable_spec (hat (.instantiable (eN ex) 6) (by simp [x_atoms]))
  have hbH : b0 ≤ hN h := by rw [← hRp.1]; exact hRp.2.1
  refine W.newcK hF.1 hF.2.1 hF.2.2.2.2.2.1 (hW.use hw rfl) (hat (.instantiable (eN ex) 6) (by simp [x_atoms])) (hat (.initialized (eN ex)) (by simp [x_atoms])) rfl hd0 (by omega) (by omega) hfX hRp.1 (fun H' kC hkC e1 z1 o1 => ?_)
  refine lv_dup (va := .ref (hN h)) hF.1 hF.2.1 hd3 rfl ?_
  obtain ⟨q, hq⟩ := hW.2.2.2.2.1 (mO M, j, tx) hs
  refine va_ldcS hF.1 hF.2.1 hF.2.2.2.2.2.1 hq hd4 ?_
  intro T hT9 X
  have htr : e.platform.stackTraces = false := by rw [X.admits.platform]; exact hfl
  have hoT : ∀ q, q < b0 → T.heap[q]? = s.heap[q]? := fun q hq => by rw [hT9, o1 q (by omega)]; exact ho q hq
  obtain ⟨vm', cell', L, hL9, hc1, hc2, X', hgo⟩ := sn_ctor X hF.1 htr hW hoT hex hF.2.2.2.2.2.1 (hW.use hl9 rfl) hfX hkC (a := hN h) (by rw [hT9]; exact e1) hbH (msg := .ref q) rfl (g := F0 m (pc + 3 + 1 + 2) LS (.ref q :: .ref (hN h) :: .ref (hN h) :: st.map av_V)) rfl (by rw [hF.2.2.1]; exact hLc.1) (rest := .ref (hN h) :: st.map av_V) rfl (by rw [hF.2.1]; exact hd6) (by omega) (by
    show 2 * 0 + ((Value.ref (hN h) :: st.map av_V).map fun v => v.category).sum + 100 ≤ _
    simp only [List.map_cons, List.sum_cons]
    have : (Value.ref (hN h)).category = 1 := rfl
    rw [this]
    have h9 : ((st.map av_V).map fun v => v.category).sum ≤ 8 := hcat
    omega)
  have hout' : ∀ x ∈ c.exceptionTable.toList, covers x (pc + 9) = false := by
    intro x hx
    have := hout _ (by rw [← hF.2.2.2.2.2.2.2]; exact List.mem_map.mpr ⟨x, hx, rfl⟩)
    simp only [covers]
    rw [Bool.and_eq_false_iff]
    by_cases h7 : x.startPc ≤ pc + 9
    · right
      exact decide_eq_false (fun z => this ⟨h7, z⟩)
    · left
      exact decide_eq_false h7
  obtain ⟨hwalk, hrun, hended, hWU, hsame⟩ := X'.athrowLeaves hF.1 (g := F0 m (pc + 9) LS (.ref (hN h) :: st.map av_V)) rfl rfl rfl hout' (a := hN h) (rest := st.map av_V) rfl (by rw [hF.2.1]; exact hd9) hF.2.2.2.2.1
  have hlt : hN h < H'.size := by omega
  have hheap : ((T.setVm vm').setCell (hN h) cell').heap = H'.setIfInBounds (hN h) cell' := by rw [← hT9]; rfl
  have hHs : ∀ q, q < hN h → (H'.setIfInBounds (hN h) cell')[q]? = H[q]? := fun q hq => by
    rw [Array.getElem?_setIfInBounds, if_neg (by omega), o1 q hq]
  refine ⟨_, hgo _ hwalk, hQ (.inr (hN h)) _ _ k ⟨hrun, hended, ?_, ?_, hWU, locs ++ L, cells + 1, slots + 6, hsame, ?_, ?_, ?_⟩⟩
  · show sn_R dC dI dA b0 s _ ((T.setVm vm').setCell (hN h) cell').heap
    rw [hheap]
    refine hRp.push (by simp [z1, hRp.1]) (fun q hq => hHs q (by rw [← hRp.1]; exact hq)) (Or.inr (Or.inr (Or.inr ⟨by show 50 ≤ 50 + ex; omega, by show 50 + ex < 55; omega, hbH, cell', ?_, by rw [hc2]; rfl, ?_⟩)))
    · rw [Array.getElem?_setIfInBounds]; simp [hlt]
    · show s.vm.findClass (eN (50 + ex - 50)) = _
      rw [show 50 + ex - 50 = ex by omega, hc1]
      exact hfX
  · intro q hq
    show ((T.setVm vm').setCell (hN h) cell').heap[q]? = _
    rw [hheap, hHs q (by omega)]
    exact ho q hq
  · intro q hq
    rcases List.mem_append.mp hq with z | z
    · exact hl q z
    · rw [hL9 q z]; exact hbH
  · rw [hC_al]; omega
  · rw [hS_al]; omega
end SX16
end
section
/-! ===== the links of the pools (printed by print_links.py) ===== -/
def lk_F : List (Nat × Nat × Nat × Nat × Nat) := [(0, 9, 38, 128, 0), (0, 15, 50, 131, 0), (0, 19, 54, 132, 0), (0, 27, 62, 134, 0), (0, 34, 66, 135, 0), (0, 38, 70, 136, 0), (0, 48, 40, 129, 0), (0, 89, 44, 130, 0), (0, 97, 134, 559, 0), (0, 100, 108, 418, 0), (0, 113, 112, 420, 0), (0, 144, 56, 133, 0), (0, 151, 24, 96, 0), (0, 157, 20, 94, 0), (0, 204, 72, 137, 0), (0, 207, 148, 705, 0), (0, 210, 146, 690, 0), (0, 213, 28, 120, 0), (0, 216, 32, 122, 0), (0, 231, 76, 138, 0), (1, 9, 2, 88, 0), (1, 15, 6, 89, 0), (1, 19, 24, 95, 0), (1, 30, 16, 92, 0), (1, 33, 8, 90, 0), (1, 44, 12, 91, 0), (1, 61, 108, 419, 0), (1, 64, 20, 93, 0), (2, 7, 152, 728, 0), (2, 13, 156, 729, 0), (2, 16, 160, 730, 0), (2, 19, 166, 744, 745), (2, 29, 146, 689, 0), (3, 7, 212, 849, 0), (3, 13, 148, 694, 695), (3, 16, 223, 851, 0), (3, 20, 219, 850, 0), (3, 23, 166, 738, 739), (3, 33, 146, 682, 683), (3, 37, 146, 685, 0), (4, 7, 200, 820, 0), (4, 13, 166, 734, 735), (5, 12, 174, 779, 0), (5, 18, 178, 780, 0), (5, 22, 182, 781, 0), (5, 26, 184, 782, 0), (5, 30, 188, 783, 0), (5, 33, 148, 702, 0), (5, 38, 108, 417, 0), (5, 43, 148, 703, 704), (5, 44, 195, 784, 0), (5, 52, 166, 742, 743), (5, 59, 146, 686, 0), (5, 75, 134, 557, 0), (6, 7, 32, 121, 0), (6, 13, 28, 119, 0), (7, 7, 86, 384, 0), (7, 15, 90, 387, 0), (7, 19, 94, 390, 0), (7, 23, 83, 382, 0), (7, 27, 96, 392, 0), (8, 7, 170, 764, 0), (8, 13, 148, 698, 699), (8, 23, 166, 732, 733), (8, 33, 146, 679, 680), (8, 36, 146, 681, 0), (9, 7, 134, 555, 0), (10, 7, 196, 807, 0), (10, 13, 166, 740, 741), (11, 10, 138, 675, 0), (11, 16, 142, 676, 0), (11, 20, 108, 416, 0), (11, 26, 148, 700, 701), (11, 42, 134, 556, 0), (12, 9, 118, 422, 0), (12, 15, 108, 415, 0), (12, 26, 134, 558, 0), (12, 48, 112, 421, 0), (13, 7, 204, 833, 0), (13, 13, 148, 692, 693), (13, 16, 211, 834, 0), (13, 20, 166, 736, 737), (13, 30, 146, 684, 0), (13, 34, 146, 687, 688), (14, 14, 106, 411, 0), (14, 20, 83, 383, 0), (14, 24, 94, 391, 0), (14, 39, 96, 394, 0), (14, 43, 86, 385, 0), (14, 47, 90, 388, 0), (14, 67, 102, 396, 0), (15, 7, 129, 473, 0), (15, 19, 122, 471, 0), (15, 29, 124, 472, 0), (15, 33, 96, 393, 0), (15, 36, 102, 395, 0), (15, 39, 86, 386, 0), (15, 43, 90, 389, 0), (16, 7, 234, 960, 0), (16, 13, 238, 961, 0), (16, 17, 242, 962, 0), (16, 20, 250, 964, 0), (16, 23, 254, 965, 0), (16, 26, 262, 967, 0), (16, 29, 274, 970, 0), (16, 32, 278, 971, 0), (16, 35, 282, 972, 0), (16, 38, 310, 979, 0), (16, 41, 314, 980, 0), (16, 44, 318, 981, 0), (16, 47, 322, 982, 0), (16, 50, 326, 983, 0), (16, 53, 350, 989, 0), (16, 56, 224, 958, 0), (16, 60, 228, 959, 0), (16, 71, 244, 963, 0), (16, 82, 256, 966, 0), (16, 85, 268, 969, 0), (16, 95, 284, 973, 0), (16, 107, 264, 968, 0), (16, 119, 292, 975, 0), (16, 122, 288, 974, 0), (16, 125, 299, 976, 0), (16, 129, 339, 986, 0), (16, 132, 328, 984, 0), (16, 135, 332, 985, 0), (16, 138, 304, 978, 0), (16, 159, 344, 988, 0), (16, 162, 303, 977, 0), (16, 204, 340, 987, 0), (17, 7, 146, 677, 0), (18, 7, 166, 731, 0), (18, 13, 148, 691, 0), (18, 17, 148, 696, 697), (18, 18, 146, 678, 0)]
def lk_V : List (Nat × Nat × Nat × Nat × Nat × Nat × Nat × Nat × Nat × Nat) := [(0, 65, 1, 0, 12, 438, 10, 440, 0, 0), (0, 69, 1, 12, 58, 458, 287, 286, 0, 0), (0, 75, 1, 12, 57, 460, 283, 282, 0, 0), (0, 78, 1, 12, 60, 461, 463, 462, 0, 0), (0, 81, 1, 12, 63, 537, 539, 538, 0, 0), (0, 109, 1, 12, 64, 566, 568, 567, 0, 0), (0, 125, 1, 12, 65, 597, 599, 598, 0, 0), (0, 134, 4, 12, 66, 642, 644, 643, 0, 0), (0, 138, 0, 15, 83, 648, 501, 500, 0, 0), (0, 147, 2, 1, 23, 183, 185, 184, 0, 0), (0, 154, 0, 0, 5, 306, 180, 179, 0, 0), (0, 166, 3, 0, 20, 715, 12, 717, 0, 0), (0, 199, 0, 2, 34, 866, 869, 870, 868, 867), (0, 199, 0, 3, 37, 866, 942, 873, 868, 867), (0, 199, 0, 4, 39, 866, 943, 876, 868, 867), (0, 199, 0, 5, 41, 866, 944, 879, 868, 867), (0, 199, 0, 8, 51, 866, 945, 883, 868, 867), (0, 199, 0, 10, 54, 866, 946, 886, 868, 867), (0, 199, 0, 11, 56, 866, 947, 889, 868, 867), (0, 199, 0, 13, 68, 866, 948, 906, 868, 867), (0, 219, 0, 0, 19, 658, 11, 660, 0, 0), (0, 223, 1, 0, 21, 862, 13, 864, 0, 0), (1, 36, 2, 1, 27, 199, 3, 201, 0, 0), (1, 40, 0, 1, 26, 195, 2, 197, 0, 0), (1, 47, 2, 1, 25, 191, 1, 193, 0, 0), (1, 51, 1, 12, 57, 281, 283, 282, 0, 0), (1, 57, 0, 1, 28, 273, 5, 275, 0, 0), (1, 67, 1, 1, 29, 277, 6, 279, 0, 0), (1, 71, 0, 1, 31, 293, 8, 295, 0, 0), (1, 74, 0, 1, 32, 297, 9, 299, 0, 0), (1, 80, 0, 1, 24, 187, 0, 189, 0, 0), (1, 83, 0, 1, 30, 289, 7, 291, 0, 0), (2, 23, 0, 2, 34, 872, 869, 870, 868, 867), (2, 23, 0, 3, 37, 872, 942, 873, 868, 867), (2, 23, 0, 4, 39, 872, 943, 876, 868, 867), (2, 23, 0, 5, 41, 872, 944, 879, 868, 867), (2, 23, 0, 8, 51, 872, 945, 883, 868, 867), (2, 23, 0, 10, 54, 872, 946, 886, 868, 867), (2, 23, 0, 11, 56, 872, 947, 889, 868, 867), (2, 23, 0, 13, 68, 872, 948, 906, 868, 867), (2, 33, 1, 2, 35, 935, 14, 937, 0, 0), (2, 37, 0, 2, 134, 939, 941, 913, 940, 911), (3, 27, 0, 2, 34, 875, 869, 870, 868, 867), (3, 27, 0, 3, 37, 875, 942, 873, 868, 867), (3, 27, 0, 4, 39, 875, 943, 876, 868, 867), (3, 27, 0, 5, 41, 875, 944, 879, 868, 867), (3, 27, 0, 8, 51, 875, 945, 883, 868, 867), (3, 27, 0, 10, 54, 875, 946, 886, 868, 867), (3, 27, 0, 11, 56, 875, 947, 889, 868, 867), (3, 27, 0, 13, 68, 875, 948, 906, 868, 867), (4, 17, 0, 2, 34, 878, 869, 870, 868, 867), (4, 17, 0, 3, 37, 878, 942, 873, 868, 867), (4, 17, 0, 4, 39, 878, 943, 876, 868, 867), (4, 17, 0, 5, 41, 878, 944, 879, 868, 867), (4, 17, 0, 8, 51, 878, 945, 883, 868, 867), (4, 17, 0, 10, 54, 878, 946, 886, 868, 867), (4, 17, 0, 11, 56, 878, 947, 889, 868, 867), (4, 17, 0, 13, 68, 878, 948, 906, 868, 867), (4, 23, 0, 4, 134, 932, 934, 913, 933, 911), (5, 48, 0, 15, 83, 881, 501, 500, 0, 0), (5, 56, 0, 2, 34, 882, 869, 870, 868, 867), (5, 56, 0, 3, 37, 882, 942, 873, 868, 867), (5, 56, 0, 4, 39, 882, 943, 876, 868, 867), (5, 56, 0, 5, 41, 882, 944, 879, 868, 867), (5, 56, 0, 8, 51, 882, 945, 883, 868, 867), (5, 56, 0, 10, 54, 882, 946, 886, 868, 867), (5, 56, 0, 11, 56, 882, 947, 889, 868, 867), (5, 56, 0, 13, 68, 882, 948, 906, 868, 867), (5, 63, 4, 12, 66, 924, 644, 643, 0, 0), (5, 67, 0, 6, 43, 925, 894, 893, 0, 0), (5, 72, 0, 5, 134, 926, 928, 913, 927, 911), (5, 78, 3, 5, 132, 929, 931, 903, 930, 901), (7, 31, 1, 7, 48, 621, 527, 526, 0, 0), (8, 27, 0, 2, 34, 885, 869, 870, 868, 867), (8, 27, 0, 3, 37, 885, 942, 873, 868, 867), (8, 27, 0, 4, 39, 885, 943, 876, 868, 867), (8, 27, 0, 5, 41, 885, 944, 879, 868, 867), (8, 27, 0, 8, 51, 885, 945, 883, 868, 867), (8, 27, 0, 10, 54, 885, 946, 886, 868, 867), (8, 27, 0, 11, 56, 885, 947, 889, 868, 867), (8, 27, 0, 13, 68, 885, 948, 906, 868, 867), (10, 17, 0, 2, 34, 888, 869, 870, 868, 867), (10, 17, 0, 3, 37, 888, 942, 873, 868, 867), (10, 17, 0, 4, 39, 888, 943, 876, 868, 867), (10, 17, 0, 5, 41, 888, 944, 879, 868, 867), (10, 17, 0, 8, 51, 888, 945, 883, 868, 867), (10, 17, 0, 10, 54, 888, 946, 886, 868, 867), (10, 17, 0, 11, 56, 888, 947, 889, 868, 867), (10, 17, 0, 13, 68, 888, 948, 906, 868, 867), (10, 23, 0, 10, 134, 909, 912, 913, 910, 911), (11, 29, 4, 12, 66, 674, 644, 643, 0, 0), (11, 33, 0, 15, 83, 891, 501, 500, 0, 0), (11, 37, 0, 6, 43, 892, 894, 893, 0, 0), (11, 48, 3, 11, 132, 899, 902, 903, 900, 901), (12, 20, 1, 12, 58, 285, 287, 286, 0, 0), (12, 36, 1, 14, 74, 541, 543, 542, 0, 0), (12, 44, 2, 14, 71, 510, 512, 511, 0, 0), (12, 51, 1, 14, 75, 601, 603, 602, 0, 0), (12, 64, 3, 15, 82, 483, 485, 484, 0, 0), (12, 68, 0, 15, 83, 499, 501, 500, 0, 0), (13, 24, 0, 2, 34, 908, 869, 870, 868, 867), (13, 24, 0, 3, 37, 908, 942, 873, 868, 867), (13, 24, 0, 4, 39, 908, 943, 876, 868, 867), (13, 24, 0, 5, 41, 908, 944, 879, 868, 867), (13, 24, 0, 8, 51, 908, 945, 883, 868, 867), (13, 24, 0, 10, 54, 908, 946, 886, 868, 867), (13, 24, 0, 11, 56, 908, 947, 889, 868, 867), (13, 24, 0, 13, 68, 908, 948, 906, 868, 867), (14, 28, 1, 7, 45, 491, 493, 492, 0, 0), (14, 32, 1, 14, 70, 545, 489, 488, 0, 0), (14, 36, 1, 7, 46, 517, 497, 496, 0, 0), (14, 59, 4, 7, 47, 518, 520, 519, 0, 0), (14, 63, 1, 7, 48, 525, 527, 526, 0, 0), (14, 86, 0, 7, 49, 617, 619, 618, 0, 0), (15, 13, 1, 14, 70, 487, 489, 488, 0, 0), (15, 23, 1, 7, 46, 495, 497, 496, 0, 0), (16, 63, 1, 16, 88, 1068, 15, 1070, 0, 0), (16, 67, 2, 16, 89, 1072, 16, 1074, 0, 0), (16, 74, 2, 16, 92, 1084, 17, 1086, 0, 0), (16, 78, 1, 16, 93, 1088, 18, 1090, 0, 0), (16, 88, 1, 16, 103, 1128, 21, 1130, 0, 0), (16, 91, 2, 16, 104, 1132, 22, 1134, 0, 0), (16, 98, 1, 16, 106, 1140, 24, 1142, 0, 0), (16, 101, 1, 16, 107, 1144, 25, 1146, 0, 0), (16, 104, 1, 16, 108, 1148, 26, 1150, 0, 0), (16, 110, 0, 16, 102, 1124, 20, 1126, 0, 0), (16, 113, 2, 16, 105, 1136, 23, 1138, 0, 0), (16, 116, 0, 16, 101, 1120, 19, 1122, 0, 0), (16, 145, 1, 16, 122, 1203, 37, 1205, 0, 0), (16, 149, 2, 16, 123, 1207, 38, 1209, 0, 0), (16, 153, 1, 16, 124, 1211, 39, 1213, 0, 0), (16, 156, 1, 16, 120, 1196, 36, 1198, 0, 0), (16, 165, 1, 16, 119, 1192, 35, 1194, 0, 0), (16, 168, 1, 16, 116, 1180, 32, 1182, 0, 0), (16, 171, 0, 16, 117, 1184, 33, 1186, 0, 0), (16, 175, 3, 16, 118, 1188, 34, 1190, 0, 0), (16, 179, 0, 16, 127, 1223, 42, 1225, 0, 0), (16, 183, 1, 16, 113, 1168, 29, 1170, 0, 0), (16, 186, 1, 16, 114, 1172, 30, 1174, 0, 0), (16, 189, 1, 16, 115, 1176, 31, 1178, 0, 0), (16, 192, 1, 16, 125, 1215, 40, 1217, 0, 0), (16, 195, 0, 16, 126, 1219, 41, 1221, 0, 0), (16, 198, 1, 16, 111, 1160, 27, 1162, 0, 0), (16, 201, 0, 16, 112, 1164, 28, 1166, 0, 0), (18, 22, 3, 2, 132, 915, 917, 903, 916, 901), (18, 22, 3, 3, 132, 915, 918, 903, 916, 901), (18, 22, 3, 4, 132, 915, 919, 903, 916, 901), (18, 22, 3, 5, 132, 915, 920, 903, 916, 901), (18, 22, 3, 8, 132, 915, 921, 903, 916, 901), (18, 22, 3, 10, 132, 915, 922, 903, 916, 901), (18, 22, 3, 13, 132, 915, 923, 903, 916, 901), (19, 7, 1, 0, 10, 324, 326, 325, 0, 0), (19, 17, 2, 0, 11, 434, 436, 435, 0, 0), (19, 23, 1, 0, 13, 533, 535, 534, 0, 0), (19, 28, 2, 0, 14, 574, 576, 575, 0, 0), (19, 34, 3, 0, 16, 628, 630, 629, 0, 0), (19, 38, 2, 0, 17, 635, 637, 636, 0, 0), (19, 41, 1, 0, 18, 653, 655, 654, 0, 0), (19, 53, 1, 16, 86, 1060, 1062, 1061, 0, 0), (19, 54, 0, 16, 85, 1056, 1058, 1057, 0, 0), (19, 61, 2, 16, 87, 1064, 1066, 1065, 0, 0), (19, 62, 2, 0, 1, 162, 164, 163, 0, 0), (19, 65, 2, 16, 90, 1076, 1078, 1077, 0, 0), (19, 68, 1, 16, 91, 1080, 1082, 1081, 0, 0), (19, 71, 2, 16, 94, 1092, 1094, 1093, 0, 0), (19, 75, 3, 16, 95, 1096, 1098, 1097, 0, 0), (19, 78, 2, 16, 96, 1100, 1102, 1101, 0, 0), (19, 79, 1, 0, 2, 166, 168, 167, 0, 0), (19, 82, 1, 16, 97, 1104, 1106, 1105, 0, 0), (19, 83, 1, 0, 3, 170, 172, 171, 0, 0), (19, 87, 1, 16, 98, 1108, 1110, 1109, 0, 0), (19, 88, 0, 0, 4, 174, 176, 175, 0, 0), (19, 91, 0, 16, 99, 1112, 1114, 1113, 0, 0), (19, 92, 0, 0, 5, 178, 180, 179, 0, 0), (19, 95, 0, 16, 100, 1116, 1118, 1117, 0, 0), (19, 98, 1, 16, 110, 1156, 1158, 1157, 0, 0), (19, 99, 0, 0, 7, 307, 309, 308, 0, 0), (19, 102, 0, 16, 128, 1227, 1229, 1228, 0, 0), (19, 103, 0, 0, 8, 311, 313, 312, 0, 0), (19, 106, 0, 16, 129, 1231, 1233, 1232, 0, 0), (19, 107, 1, 0, 9, 315, 317, 316, 0, 0), (19, 110, 1, 16, 130, 1235, 1237, 1236, 0, 0), (19, 111, 0, 0, 6, 302, 304, 303, 0, 0), (19, 114, 0, 16, 109, 1152, 1154, 1153, 0, 0)]
def lk_S : List (Nat × Nat × Nat × Nat × Nat × Nat) := [(0, 121, 15, 2, 578, 579), (12, 32, 62, 2, 506, 507), (12, 40, 61, 2, 503, 504), (14, 51, 72, 3, 514, 515), (14, 55, 73, 2, 522, 523), (14, 70, 76, 2, 605, 606), (14, 74, 77, 2, 608, 609), (14, 77, 78, 2, 611, 612), (14, 80, 79, 2, 614, 615), (14, 83, 80, 2, 622, 623), (16, 141, 121, 3, 1200, 1201), (19, 48, 135, 3, 319, 320), (19, 58, 136, 4, 430, 431), (19, 66, 137, 3, 529, 530), (19, 69, 138, 4, 570, 571), (19, 72, 139, 5, 625, 626), (19, 76, 140, 4, 632, 633), (19, 96, 141, 3, 650, 651)]
def lk_I : List (Nat × Nat × Nat × Nat × Nat × Nat) := [(0, 24, 22, 2, 84, 85), (0, 33, 42, 0, 115, 116), (0, 57, 59, 1, 361, 362), (0, 96, 52, 0, 551, 552), (0, 130, 81, 0, 640, 468), (0, 163, 55, 5, 665, 666), (0, 172, 33, 4, 721, 722), (0, 177, 50, 4, 759, 760), (0, 182, 40, 5, 773, 774), (0, 187, 53, 2, 803, 804), (0, 192, 38, 2, 816, 817), (0, 195, 67, 2, 829, 830), (0, 198, 36, 2, 845, 846), (2, 1, 133, 1, 724, 725), (3, 1, 133, 1, 848, 725), (4, 1, 133, 1, 819, 725), (5, 1, 133, 1, 776, 725), (5, 9, 81, 0, 778, 468), (8, 1, 133, 1, 762, 725), (10, 1, 133, 1, 806, 725), (11, 1, 131, 0, 668, 669), (11, 9, 81, 0, 673, 468), (12, 19, 69, 0, 368, 369), (12, 57, 81, 0, 467, 468), (13, 1, 133, 1, 832, 725), (14, 11, 44, 1, 374, 375), (18, 1, 131, 0, 727, 669), (19, 44, 0, 0, 74, 75), (19, 47, 84, 0, 954, 955)]
def lk_N : List (Nat × Nat × Nat × Nat) := [(0, 7, 12, 80), (0, 22, 1, 82), (0, 31, 6, 113), (0, 94, 9, 549), (0, 128, 15, 639), (0, 160, 11, 662), (0, 170, 2, 719), (0, 175, 8, 757), (0, 180, 5, 771), (0, 185, 10, 801), (0, 190, 4, 814), (0, 193, 13, 827), (0, 196, 3, 843), (5, 7, 15, 777), (11, 7, 15, 672), (12, 7, 14, 365), (12, 55, 15, 465), (14, 9, 7, 372), (19, 8, 0, 72), (19, 45, 16, 952)]
def lk_A : List (Nat × Nat × Nat × Nat × Nat) := [(0, 7, 6, 80, 81), (7, 8, 4, 380, 381), (7, 13, 3, 378, 379), (12, 7, 5, 365, 366)]
def lk_X : List (Nat × Nat × Nat × Nat × Nat × Nat × Nat) := [(0, 41, 0, 43, 45, 328, 338), (0, 41, 0, 211, 45, 328, 338), (0, 52, 3, 54, 56, 344, 354), (0, 52, 3, 92, 56, 344, 354), (0, 52, 3, 208, 56, 344, 354), (0, 52, 3, 227, 56, 344, 354), (0, 60, 2, 62, 64, 442, 452), (0, 60, 2, 73, 64, 442, 452), (0, 84, 1, 86, 88, 182, 547), (0, 84, 1, 229, 88, 182, 547), (0, 116, 4, 118, 120, 581, 591), (0, 116, 4, 142, 120, 581, 591), (1, 23, 1, 25, 27, 203, 247), (6, 16, 1, 18, 20, 896, 898)]
def lk_O : List (Nat × Nat × Nat) := [(0, 1, 77), (1, 3, 87), (6, 1, 118), (7, 1, 377), (9, 1, 554), (12, 1, 364), (14, 3, 371), (15, 1, 470), (16, 1, 957), (17, 1, 671)]
def lk_C : List (Nat × Nat × Nat) := [(0, 103, 563), (8, 17, 763), (17, 13, 905)]
def lk_Ki : List (Nat × Nat × Int32 × Nat) := [(0, 133, 2147483647, 641), (0, 162, (-2147483648), 664), (1, 79, 2147483647, 301), (12, 74, (-2147483648), 646), (12, 75, 2147483647, 647)]
def lk_Kl : List (Nat × Nat × Int64 × Nat) := [(12, 24, 2147483648, 509), (12, 60, (-9223372036854775808), 481), (12, 62, 9223372036854775807, 482)]
/-- places of a method's words -/
def x_mi : List (Nat × Nat) := [(76, 44), (165, 44), (169, 44), (173, 44), (177, 44), (181, 44), (305, 44), (310, 44), (314, 44), (318, 44), (327, 44), (437, 44), (441, 44), (536, 44), (577, 44), (580, 44), (631, 44), (638, 44), (656, 44), (661, 44), (718, 44), (865, 44), (86, 45), (186, 45), (190, 45), (194, 45), (198, 45), (202, 45), (276, 45), (280, 45), (292, 45), (296, 45), (300, 45), (723, 65), (871, 65), (938, 65), (847, 71), (874, 71), (818, 69), (877, 69), (775, 67), (880, 67), (117, 46), (895, 46), (376, 55), (494, 55), (498, 55), (521, 55), (528, 55), (620, 55), (761, 66), (884, 66), (553, 59), (805, 68), (887, 68), (667, 63), (890, 63), (284, 53), (288, 53), (363, 53), (464, 53), (505, 53), (508, 53), (540, 53), (569, 53), (600, 53), (645, 53), (831, 70), (907, 70), (370, 54), (490, 54), (513, 54), (516, 54), (524, 54), (544, 54), (604, 54), (607, 54), (610, 54), (613, 54), (616, 54), (624, 54), (469, 57), (486, 57), (502, 57), (956, 47), (1059, 47), (1063, 47), (1067, 47), (1071, 47), (1075, 47), (1079, 47), (1083, 47), (1087, 47), (1091, 47), (1095, 47), (1099, 47), (1103, 47), (1107, 47), (1111, 47), (1115, 47), (1119, 47), (1123, 47), (1127, 47), (1131, 47), (1135, 47), (1139, 47), (1143, 47), (1147, 47), (1151, 47), (1155, 47), (1159, 47), (1163, 47), (1167, 47), (1171, 47), (1175, 47), (1179, 47), (1183, 47), (1187, 47), (1191, 47), (1195, 47), (1199, 47), (1202, 47), (1206, 47), (1210, 47), (1214, 47), (1218, 47), (1222, 47), (1226, 47), (1230, 47), (1234, 47), (1238, 47), (670, 62), (904, 62), (726, 64), (914, 64), (321, 43), (432, 43), (531, 43), (572, 43), (627, 43), (634, 43), (652, 43)]
theorem tm {w : Jvm.Cond} {i : Nat} (h : lw_tbl[i]? = some w) : w ∈ lw_tbl := List.mem_of_getElem? h
def ckF (r : Nat × Nat × Nat × Nat × Nat) : Bool := match lw_tbl[r.2.2.2.1]? with
  | some (.fieldLink a b ref n d) => decide (a = oN r.1) && decide (b = r.2.1) && decide (n = (fD r.2.2.1).2.1) && decide (d = (fD r.2.2.1).2.2.1) && (decide (ref = (fD r.2.2.1).1) || decide (lw_tbl[r.2.2.2.2]? = some (.sameField ref (fD r.2.2.1).1 n d)))
  | _ => false
theorem ckF_ok {r : Nat × Nat × Nat × Nat × Nat} (h : ckF r = true) : fOK r.1 r.2.1 r.2.2.1 := by
  unfold ckF at h
  split at h
  · rename_i a b ref n d e
    simp only [Bool.and_eq_true, Bool.or_eq_true, decide_eq_true_eq] at h
    obtain ⟨⟨⟨⟨rfl, rfl⟩, rfl⟩, rfl⟩, h⟩ := h
    exact ⟨ref, tm e, h.imp id tm⟩
  · cases h
theorem lk_F_ck : lk_F.all ckF = true := by decide +kernel
theorem lk_F_ok {o i f : Nat} (h : lk_F.any (fun r => r.1 == o && r.2.1 == i && r.2.2.1 == f) = true) : fOK o i f := by
  obtain ⟨r, hr, h⟩ := List.any_eq_true.mp h
  simp only [Bool.and_eq_true, beq_iff_eq] at h
  obtain ⟨⟨rfl, rfl⟩, rfl⟩ := h
  exact ckF_ok (List.all_eq_true.mp lk_F_ck r hr)
def ckV (r : Nat × Nat × Nat × Nat × Nat × Nat × Nat × Nat × Nat × Nat) : Bool := match r with
  | (o, i, n, c, M', i1, i2, i3, i4, i5) => match lw_tbl[i1]? with
    | some (.methodLink a b x) => decide (a = oN o) && decide (b = i) && decide (lw_tbl[i2]? = some (.selects (oN c) x (mY M'))) && decide (c < 17) && decide (lw_tbl[i3]? = some (.instanceMethod (mY M'))) && decide ((parseMethodDescriptor x.desc).map (fun d => d.parameters.length) = some n) &&
        (decide (x = mY M') || (match lw_tbl[i4]? with
          | some (.sameMethod q w nm ds) => decide (q = x.cls) && decide (nm = x.name) && decide (ds = x.desc) && decide (lw_tbl[i5]? = some (.declares ⟨w, x.name, x.desc⟩)) && decide (w ≠ "java/lang/invoke/MethodHandle") && decide (w ≠ "java/lang/invoke/VarHandle")
          | _ => false))
    | _ => false
theorem ckV_ok {o i n c M' i1 i2 i3 i4 i5 : Nat} (h : ckV (o, i, n, c, M', i1, i2, i3, i4, i5) = true) : vOK o i n c M' := by
  unfold ckV at h
  dsimp only at h
  split at h
  · rename_i a b x e
    simp only [Bool.and_eq_true, Bool.or_eq_true, decide_eq_true_eq] at h
    obtain ⟨⟨⟨⟨⟨⟨rfl, rfl⟩, h2⟩, h3⟩, h4⟩, h5⟩, h6⟩ := h
    refine ⟨x, tm e, tm h2, h3, tm h4, h5, ?_⟩
    rcases h6 with h6 | h6
    · exact Or.inl h6
    · split at h6
      · rename_i q w nm ds e2
        simp only [Bool.and_eq_true, decide_eq_true_eq] at h6
        obtain ⟨⟨⟨⟨⟨rfl, rfl⟩, rfl⟩, h7⟩, h8⟩, h9⟩ := h6
        exact Or.inr ⟨w, tm e2, tm h7, h8, h9⟩
      · cases h6
  · cases h
theorem lk_V_ck : lk_V.all ckV = true := by decide +kernel
theorem lk_V_ok {o i n c M' : Nat} (h : lk_V.any (fun r => r.1 == o && r.2.1 == i && r.2.2.1 == n && r.2.2.2.1 == c && r.2.2.2.2.1 == M') = true) : vOK o i n c M' := by
  obtain ⟨⟨o', i', n', c', m', i1, i2, i3, i4, i5⟩, hr, h⟩ := List.any_eq_true.mp h
  simp only [Bool.and_eq_true, beq_iff_eq] at h
  obtain ⟨⟨⟨⟨rfl, rfl⟩, rfl⟩, rfl⟩, rfl⟩ := h
  exact ckV_ok (List.all_eq_true.mp lk_V_ck _ hr)
theorem lk_S_ck : ∀ r ∈ lk_S, (lw_tbl[r.2.2.2.2.1]? = some (.methodLink (oN r.1) r.2.1 (mY r.2.2.1)) ∧ lw_tbl[r.2.2.2.2.2]? = some (.static (mY r.2.2.1)) ∧ (parseMethodDescriptor (mY r.2.2.1).desc).map (fun d => d.parameters.length) = some r.2.2.2.1) := by decide +kernel
theorem lk_S_ok {o i M' n : Nat} (h : lk_S.any (fun r => r.1 == o && r.2.1 == i && r.2.2.1 == M' && r.2.2.2.1 == n) = true) : sOK o i M' n := by
  obtain ⟨r, hr, h⟩ := List.any_eq_true.mp h
  simp only [Bool.and_eq_true, beq_iff_eq] at h
  obtain ⟨⟨⟨rfl, rfl⟩, rfl⟩, rfl⟩ := h
  obtain ⟨h1, h2, h3⟩ := lk_S_ck r hr
  exact ⟨tm h1, tm h2, h3⟩
theorem lk_I_ck : ∀ r ∈ lk_I, ((mY r.2.2.1).name = "<init>" ∧ mX r.2.2.1 = [] ∧ mR r.2.2.1 = none ∧ (lw_tbl[r.2.2.2.2.1]? = some (.methodLink (oN r.1) r.2.1 (mY r.2.2.1)) ∨ lw_tbl[r.2.2.2.2.1]? = some (.methodLinkNest (oN r.1) r.2.1 (mY r.2.2.1) "PlannedTables")) ∧ lw_tbl[r.2.2.2.2.2]? = some (.instanceMethod (mY r.2.2.1)) ∧ (parseMethodDescriptor (mY r.2.2.1).desc).map (fun d => d.parameters.length) = some r.2.2.2.1) := by decide +kernel
theorem lk_I_ok {o i M' n : Nat} (h : lk_I.any (fun r => r.1 == o && r.2.1 == i && r.2.2.1 == M' && r.2.2.2.1 == n) = true) : iOK o i M' n := by
  obtain ⟨r, hr, h⟩ := List.any_eq_true.mp h
  simp only [Bool.and_eq_true, beq_iff_eq] at h
  obtain ⟨⟨⟨rfl, rfl⟩, rfl⟩, rfl⟩ := h
  obtain ⟨h1, h2, h3, h4, h5, h6⟩ := lk_I_ck r hr
  exact ⟨h1, h2, h3, h4.imp tm (fun z => ⟨_, tm z⟩), tm h5, h6⟩
theorem lk_N_ck : ∀ r ∈ lk_N, (r.2.2.1 < 17 ∧ lw_tbl[r.2.2.2]? = some (.classLink (oN r.1) r.2.1 (oN r.2.2.1))) := by decide +kernel
theorem lk_N_ok {o i c : Nat} (h : lk_N.any (fun r => r.1 == o && r.2.1 == i && r.2.2.1 == c) = true) : c < 17 ∧ Jvm.Cond.classLink (oN o) i (oN c) ∈ lw_tbl := by
  obtain ⟨r, hr, h⟩ := List.any_eq_true.mp h
  simp only [Bool.and_eq_true, beq_iff_eq] at h
  obtain ⟨⟨rfl, rfl⟩, rfl⟩ := h
  exact ⟨(lk_N_ck r hr).1, tm (lk_N_ck r hr).2⟩
theorem lk_A_ck : ∀ r ∈ lk_A, (3 ≤ r.2.2.1 ∧ r.2.2.1 ≤ 6 ∧ lw_tbl[r.2.2.2.1]? = some (.classLink (oN r.1) r.2.1 (oN (cmpC r.2.2.1))) ∧ lw_tbl[r.2.2.2.2]? = some (.arrayOver (.object (oN (cmpC r.2.2.1))))) := by decide +kernel
theorem lk_A_ok {o i t : Nat} (h : lk_A.any (fun r => r.1 == o && r.2.1 == i && r.2.2.1 == t) = true) : 3 ≤ t ∧ t ≤ 6 ∧ Jvm.Cond.classLink (oN o) i (oN (cmpC t)) ∈ lw_tbl ∧ Jvm.Cond.arrayOver (.object (oN (cmpC t))) ∈ lw_tbl := by
  obtain ⟨r, hr, h⟩ := List.any_eq_true.mp h
  simp only [Bool.and_eq_true, beq_iff_eq] at h
  obtain ⟨⟨rfl, rfl⟩, rfl⟩ := h
  obtain ⟨h1, h2, h3, h4⟩ := lk_A_ck r hr
  exact ⟨h1, h2, tm h3, tm h4⟩
theorem lk_X_ck : ∀ r ∈ lk_X, (r.2.2.1 < 5 ∧ (x_str.any (fun q => q.1 == r.1 && q.2.1 == r.2.2.2.1)) = true ∧ lw_tbl[r.2.2.2.2.2.1]? = some (.classLink (oN r.1) r.2.1 (eN r.2.2.1)) ∧ lw_tbl[r.2.2.2.2.2.2]? = some (.methodLink (oN r.1) r.2.2.2.2.1 (Bundle.initS (eN r.2.2.1)))) := by decide +kernel
theorem lk_X_ok {o i ex j ic : Nat} (h : lk_X.any (fun r => r.1 == o && r.2.1 == i && r.2.2.1 == ex && r.2.2.2.1 == j && r.2.2.2.2.1 == ic) = true) : ex < 5 ∧ (∃ tx, (o, j, tx) ∈ x_str) ∧ Jvm.Cond.classLink (oN o) i (eN ex) ∈ lw_tbl ∧ Jvm.Cond.methodLink (oN o) ic (Bundle.initS (eN ex)) ∈ lw_tbl := by
  obtain ⟨r, hr, h⟩ := List.any_eq_true.mp h
  simp only [Bool.and_eq_true, beq_iff_eq] at h
  obtain ⟨⟨⟨⟨rfl, rfl⟩, rfl⟩, rfl⟩, rfl⟩ := h
  obtain ⟨h1, h2, h3, h4⟩ := lk_X_ck r hr
  obtain ⟨q, hq, h5⟩ := List.any_eq_true.mp h2
  simp only [Bool.and_eq_true, beq_iff_eq] at h5
  obtain ⟨q1, q2, q3⟩ := q
  exact ⟨h1, ⟨q3, by rw [← h5.1, ← h5.2]; exact hq⟩, tm h3, tm h4⟩
theorem lk_O_ck : ∀ r ∈ lk_O, lw_tbl[r.2.2]? = some (.methodLink (oN r.1) r.2.1 objectInit) := by decide +kernel
theorem lk_O_ok {o i : Nat} (h : lk_O.any (fun r => r.1 == o && r.2.1 == i) = true) : Jvm.Cond.methodLink (oN o) i objectInit ∈ lw_tbl := by
  obtain ⟨r, hr, h⟩ := List.any_eq_true.mp h
  simp only [Bool.and_eq_true, beq_iff_eq] at h
  obtain ⟨rfl, rfl⟩ := h
  exact tm (lk_O_ck r hr)
theorem lk_C_ck : ∀ r ∈ lk_C, lw_tbl[r.2.2]? = some (.methodLink (oN r.1) r.2.1 arraycopyName) := by decide +kernel
theorem lk_C_ok {o i : Nat} (h : lk_C.any (fun r => r.1 == o && r.2.1 == i) = true) : Jvm.Cond.methodLink (oN o) i arraycopyName ∈ lw_tbl := by
  obtain ⟨r, hr, h⟩ := List.any_eq_true.mp h
  simp only [Bool.and_eq_true, beq_iff_eq] at h
  obtain ⟨rfl, rfl⟩ := h
  exact tm (lk_C_ck r hr)
theorem lk_Ki_ck : ∀ r ∈ lk_Ki, lw_tbl[r.2.2.2]? = some (.constant (oN r.1) r.2.1 r.2.2.1) := by decide +kernel
theorem lk_Ki_ok {o i : Nat} {v : Int32} (h : lk_Ki.any (fun r => r.1 == o && r.2.1 == i && decide (r.2.2.1 = v)) = true) : Jvm.Cond.constant (oN o) i v ∈ lw_tbl := by
  obtain ⟨r, hr, h⟩ := List.any_eq_true.mp h
  simp only [Bool.and_eq_true, beq_iff_eq, decide_eq_true_eq] at h
  obtain ⟨⟨rfl, rfl⟩, rfl⟩ := h
  exact tm (lk_Ki_ck r hr)
theorem lk_Kl_ck : ∀ r ∈ lk_Kl, lw_tbl[r.2.2.2]? = some (.constantLong (oN r.1) r.2.1 r.2.2.1) := by decide +kernel
theorem lk_Kl_ok {o i : Nat} {v : Int64} (h : lk_Kl.any (fun r => r.1 == o && r.2.1 == i && decide (r.2.2.1 = v)) = true) : Jvm.Cond.constantLong (oN o) i v ∈ lw_tbl := by
  obtain ⟨r, hr, h⟩ := List.any_eq_true.mp h
  simp only [Bool.and_eq_true, beq_iff_eq, decide_eq_true_eq] at h
  obtain ⟨⟨rfl, rfl⟩, rfl⟩ := h
  exact tm (lk_Kl_ck r hr)

set_option maxRecDepth 100000 in
theorem mw_0 : mOK 0 := ⟨Or.inl ⟨rfl, (tm (i := 76) (w := .code (mY 0) (mB 0) (mL 0) (mR 0)) rfl)⟩, tm (i := 44) (by decide +kernel), by decide +kernel, by decide +kernel, by decide +kernel, by decide +kernel⟩
set_option maxRecDepth 100000 in
theorem mw_1 : mOK 1 := ⟨Or.inl ⟨rfl, (tm (i := 165) (w := .code (mY 1) (mB 1) (mL 1) (mR 1)) rfl)⟩, tm (i := 44) (by decide +kernel), by decide +kernel, by decide +kernel, by decide +kernel, by decide +kernel⟩
set_option maxRecDepth 100000 in
theorem mw_2 : mOK 2 := ⟨Or.inl ⟨rfl, (tm (i := 169) (w := .code (mY 2) (mB 2) (mL 2) (mR 2)) rfl)⟩, tm (i := 44) (by decide +kernel), by decide +kernel, by decide +kernel, by decide +kernel, by decide +kernel⟩
set_option maxRecDepth 100000 in
theorem mw_3 : mOK 3 := ⟨Or.inl ⟨rfl, (tm (i := 173) (w := .code (mY 3) (mB 3) (mL 3) (mR 3)) rfl)⟩, tm (i := 44) (by decide +kernel), by decide +kernel, by decide +kernel, by decide +kernel, by decide +kernel⟩
set_option maxRecDepth 100000 in
theorem mw_4 : mOK 4 := ⟨Or.inl ⟨rfl, (tm (i := 177) (w := .code (mY 4) (mB 4) (mL 4) (mR 4)) rfl)⟩, tm (i := 44) (by decide +kernel), by decide +kernel, by decide +kernel, by decide +kernel, by decide +kernel⟩
set_option maxRecDepth 100000 in
theorem mw_5 : mOK 5 := ⟨Or.inr (tm (i := 181) (w := .codeWith (mY 5) (mB 5) (mL 5) (mR 5) (mX 5)) rfl), tm (i := 44) (by decide +kernel), by decide +kernel, by decide +kernel, by decide +kernel, by decide +kernel⟩
set_option maxRecDepth 100000 in
theorem mw_6 : mOK 6 := ⟨Or.inl ⟨rfl, (tm (i := 305) (w := .code (mY 6) (mB 6) (mL 6) (mR 6)) rfl)⟩, tm (i := 44) (by decide +kernel), by decide +kernel, by decide +kernel, by decide +kernel, by decide +kernel⟩
set_option maxRecDepth 100000 in
theorem mw_7 : mOK 7 := ⟨Or.inl ⟨rfl, (tm (i := 310) (w := .code (mY 7) (mB 7) (mL 7) (mR 7)) rfl)⟩, tm (i := 44) (by decide +kernel), by decide +kernel, by decide +kernel, by decide +kernel, by decide +kernel⟩
set_option maxRecDepth 100000 in
theorem mw_8 : mOK 8 := ⟨Or.inl ⟨rfl, (tm (i := 314) (w := .code (mY 8) (mB 8) (mL 8) (mR 8)) rfl)⟩, tm (i := 44) (by decide +kernel), by decide +kernel, by decide +kernel, by decide +kernel, by decide +kernel⟩
set_option maxRecDepth 100000 in
theorem mw_9 : mOK 9 := ⟨Or.inl ⟨rfl, (tm (i := 318) (w := .code (mY 9) (mB 9) (mL 9) (mR 9)) rfl)⟩, tm (i := 44) (by decide +kernel), by decide +kernel, by decide +kernel, by decide +kernel, by decide +kernel⟩
set_option maxRecDepth 100000 in
theorem mw_10 : mOK 10 := ⟨Or.inl ⟨rfl, (tm (i := 327) (w := .code (mY 10) (mB 10) (mL 10) (mR 10)) rfl)⟩, tm (i := 44) (by decide +kernel), by decide +kernel, by decide +kernel, by decide +kernel, by decide +kernel⟩
set_option maxRecDepth 100000 in
theorem mw_11 : mOK 11 := ⟨Or.inl ⟨rfl, (tm (i := 437) (w := .code (mY 11) (mB 11) (mL 11) (mR 11)) rfl)⟩, tm (i := 44) (by decide +kernel), by decide +kernel, by decide +kernel, by decide +kernel, by decide +kernel⟩
set_option maxRecDepth 100000 in
theorem mw_12 : mOK 12 := ⟨Or.inl ⟨rfl, (tm (i := 441) (w := .code (mY 12) (mB 12) (mL 12) (mR 12)) rfl)⟩, tm (i := 44) (by decide +kernel), by decide +kernel, by decide +kernel, by decide +kernel, by decide +kernel⟩
set_option maxRecDepth 100000 in
theorem mw_13 : mOK 13 := ⟨Or.inl ⟨rfl, (tm (i := 536) (w := .code (mY 13) (mB 13) (mL 13) (mR 13)) rfl)⟩, tm (i := 44) (by decide +kernel), by decide +kernel, by decide +kernel, by decide +kernel, by decide +kernel⟩
set_option maxRecDepth 100000 in
theorem mw_14 : mOK 14 := ⟨Or.inl ⟨rfl, (tm (i := 577) (w := .code (mY 14) (mB 14) (mL 14) (mR 14)) rfl)⟩, tm (i := 44) (by decide +kernel), by decide +kernel, by decide +kernel, by decide +kernel, by decide +kernel⟩
set_option maxRecDepth 100000 in
theorem mw_15 : mOK 15 := ⟨Or.inl ⟨rfl, (tm (i := 580) (w := .code (mY 15) (mB 15) (mL 15) (mR 15)) rfl)⟩, tm (i := 44) (by decide +kernel), by decide +kernel, by decide +kernel, by decide +kernel, by decide +kernel⟩
set_option maxRecDepth 100000 in
theorem mw_16 : mOK 16 := ⟨Or.inl ⟨rfl, (tm (i := 631) (w := .code (mY 16) (mB 16) (mL 16) (mR 16)) rfl)⟩, tm (i := 44) (by decide +kernel), by decide +kernel, by decide +kernel, by decide +kernel, by decide +kernel⟩
set_option maxRecDepth 100000 in
theorem mw_17 : mOK 17 := ⟨Or.inl ⟨rfl, (tm (i := 638) (w := .code (mY 17) (mB 17) (mL 17) (mR 17)) rfl)⟩, tm (i := 44) (by decide +kernel), by decide +kernel, by decide +kernel, by decide +kernel, by decide +kernel⟩
set_option maxRecDepth 100000 in
theorem mw_18 : mOK 18 := ⟨Or.inr (tm (i := 656) (w := .codeWith (mY 18) (mB 18) (mL 18) (mR 18) (mX 18)) rfl), tm (i := 44) (by decide +kernel), by decide +kernel, by decide +kernel, by decide +kernel, by decide +kernel⟩
set_option maxRecDepth 100000 in
theorem mw_19 : mOK 19 := ⟨Or.inl ⟨rfl, (tm (i := 661) (w := .code (mY 19) (mB 19) (mL 19) (mR 19)) rfl)⟩, tm (i := 44) (by decide +kernel), by decide +kernel, by decide +kernel, by decide +kernel, by decide +kernel⟩
set_option maxRecDepth 100000 in
theorem mw_20 : mOK 20 := ⟨Or.inl ⟨rfl, (tm (i := 718) (w := .code (mY 20) (mB 20) (mL 20) (mR 20)) rfl)⟩, tm (i := 44) (by decide +kernel), by decide +kernel, by decide +kernel, by decide +kernel, by decide +kernel⟩
set_option maxRecDepth 100000 in
theorem mw_21 : mOK 21 := ⟨Or.inl ⟨rfl, (tm (i := 865) (w := .code (mY 21) (mB 21) (mL 21) (mR 21)) rfl)⟩, tm (i := 44) (by decide +kernel), by decide +kernel, by decide +kernel, by decide +kernel, by decide +kernel⟩
set_option maxRecDepth 100000 in
theorem mw_22 : mOK 22 := ⟨Or.inl ⟨rfl, (tm (i := 86) (w := .code (mY 22) (mB 22) (mL 22) (mR 22)) rfl)⟩, tm (i := 45) (by decide +kernel), by decide +kernel, by decide +kernel, by decide +kernel, by decide +kernel⟩
set_option maxRecDepth 100000 in
theorem mw_23 : mOK 23 := ⟨Or.inl ⟨rfl, (tm (i := 186) (w := .code (mY 23) (mB 23) (mL 23) (mR 23)) rfl)⟩, tm (i := 45) (by decide +kernel), by decide +kernel, by decide +kernel, by decide +kernel, by decide +kernel⟩
set_option maxRecDepth 100000 in
theorem mw_24 : mOK 24 := ⟨Or.inl ⟨rfl, (tm (i := 190) (w := .code (mY 24) (mB 24) (mL 24) (mR 24)) rfl)⟩, tm (i := 45) (by decide +kernel), by decide +kernel, by decide +kernel, by decide +kernel, by decide +kernel⟩
set_option maxRecDepth 100000 in
theorem mw_25 : mOK 25 := ⟨Or.inl ⟨rfl, (tm (i := 194) (w := .code (mY 25) (mB 25) (mL 25) (mR 25)) rfl)⟩, tm (i := 45) (by decide +kernel), by decide +kernel, by decide +kernel, by decide +kernel, by decide +kernel⟩
set_option maxRecDepth 100000 in
theorem mw_26 : mOK 26 := ⟨Or.inl ⟨rfl, (tm (i := 198) (w := .code (mY 26) (mB 26) (mL 26) (mR 26)) rfl)⟩, tm (i := 45) (by decide +kernel), by decide +kernel, by decide +kernel, by decide +kernel, by decide +kernel⟩
set_option maxRecDepth 100000 in
theorem mw_27 : mOK 27 := ⟨Or.inl ⟨rfl, (tm (i := 202) (w := .code (mY 27) (mB 27) (mL 27) (mR 27)) rfl)⟩, tm (i := 45) (by decide +kernel), by decide +kernel, by decide +kernel, by decide +kernel, by decide +kernel⟩
set_option maxRecDepth 100000 in
theorem mw_28 : mOK 28 := ⟨Or.inl ⟨rfl, (tm (i := 276) (w := .code (mY 28) (mB 28) (mL 28) (mR 28)) rfl)⟩, tm (i := 45) (by decide +kernel), by decide +kernel, by decide +kernel, by decide +kernel, by decide +kernel⟩
set_option maxRecDepth 100000 in
theorem mw_29 : mOK 29 := ⟨Or.inl ⟨rfl, (tm (i := 280) (w := .code (mY 29) (mB 29) (mL 29) (mR 29)) rfl)⟩, tm (i := 45) (by decide +kernel), by decide +kernel, by decide +kernel, by decide +kernel, by decide +kernel⟩
set_option maxRecDepth 100000 in
theorem mw_30 : mOK 30 := ⟨Or.inl ⟨rfl, (tm (i := 292) (w := .code (mY 30) (mB 30) (mL 30) (mR 30)) rfl)⟩, tm (i := 45) (by decide +kernel), by decide +kernel, by decide +kernel, by decide +kernel, by decide +kernel⟩
set_option maxRecDepth 100000 in
theorem mw_31 : mOK 31 := ⟨Or.inl ⟨rfl, (tm (i := 296) (w := .code (mY 31) (mB 31) (mL 31) (mR 31)) rfl)⟩, tm (i := 45) (by decide +kernel), by decide +kernel, by decide +kernel, by decide +kernel, by decide +kernel⟩
set_option maxRecDepth 100000 in
theorem mw_32 : mOK 32 := ⟨Or.inl ⟨rfl, (tm (i := 300) (w := .code (mY 32) (mB 32) (mL 32) (mR 32)) rfl)⟩, tm (i := 45) (by decide +kernel), by decide +kernel, by decide +kernel, by decide +kernel, by decide +kernel⟩
set_option maxRecDepth 100000 in
theorem mw_33 : mOK 33 := ⟨Or.inl ⟨rfl, (tm (i := 723) (w := .code (mY 33) (mB 33) (mL 33) (mR 33)) rfl)⟩, tm (i := 65) (by decide +kernel), by decide +kernel, by decide +kernel, by decide +kernel, by decide +kernel⟩
set_option maxRecDepth 100000 in
theorem mw_34 : mOK 34 := ⟨Or.inl ⟨rfl, (tm (i := 871) (w := .code (mY 34) (mB 34) (mL 34) (mR 34)) rfl)⟩, tm (i := 65) (by decide +kernel), by decide +kernel, by decide +kernel, by decide +kernel, by decide +kernel⟩
set_option maxRecDepth 100000 in
theorem mw_35 : mOK 35 := ⟨Or.inl ⟨rfl, (tm (i := 938) (w := .code (mY 35) (mB 35) (mL 35) (mR 35)) rfl)⟩, tm (i := 65) (by decide +kernel), by decide +kernel, by decide +kernel, by decide +kernel, by decide +kernel⟩
set_option maxRecDepth 100000 in
theorem mw_36 : mOK 36 := ⟨Or.inl ⟨rfl, (tm (i := 847) (w := .code (mY 36) (mB 36) (mL 36) (mR 36)) rfl)⟩, tm (i := 71) (by decide +kernel), by decide +kernel, by decide +kernel, by decide +kernel, by decide +kernel⟩
set_option maxRecDepth 100000 in
theorem mw_37 : mOK 37 := ⟨Or.inl ⟨rfl, (tm (i := 874) (w := .code (mY 37) (mB 37) (mL 37) (mR 37)) rfl)⟩, tm (i := 71) (by decide +kernel), by decide +kernel, by decide +kernel, by decide +kernel, by decide +kernel⟩
set_option maxRecDepth 100000 in
theorem mw_38 : mOK 38 := ⟨Or.inl ⟨rfl, (tm (i := 818) (w := .code (mY 38) (mB 38) (mL 38) (mR 38)) rfl)⟩, tm (i := 69) (by decide +kernel), by decide +kernel, by decide +kernel, by decide +kernel, by decide +kernel⟩
set_option maxRecDepth 100000 in
theorem mw_39 : mOK 39 := ⟨Or.inl ⟨rfl, (tm (i := 877) (w := .code (mY 39) (mB 39) (mL 39) (mR 39)) rfl)⟩, tm (i := 69) (by decide +kernel), by decide +kernel, by decide +kernel, by decide +kernel, by decide +kernel⟩
set_option maxRecDepth 100000 in
theorem mw_40 : mOK 40 := ⟨Or.inl ⟨rfl, (tm (i := 775) (w := .code (mY 40) (mB 40) (mL 40) (mR 40)) rfl)⟩, tm (i := 67) (by decide +kernel), by decide +kernel, by decide +kernel, by decide +kernel, by decide +kernel⟩
set_option maxRecDepth 100000 in
theorem mw_41 : mOK 41 := ⟨Or.inl ⟨rfl, (tm (i := 880) (w := .code (mY 41) (mB 41) (mL 41) (mR 41)) rfl)⟩, tm (i := 67) (by decide +kernel), by decide +kernel, by decide +kernel, by decide +kernel, by decide +kernel⟩
set_option maxRecDepth 100000 in
theorem mw_42 : mOK 42 := ⟨Or.inl ⟨rfl, (tm (i := 117) (w := .code (mY 42) (mB 42) (mL 42) (mR 42)) rfl)⟩, tm (i := 46) (by decide +kernel), by decide +kernel, by decide +kernel, by decide +kernel, by decide +kernel⟩
set_option maxRecDepth 100000 in
theorem mw_43 : mOK 43 := ⟨Or.inl ⟨rfl, (tm (i := 895) (w := .code (mY 43) (mB 43) (mL 43) (mR 43)) rfl)⟩, tm (i := 46) (by decide +kernel), by decide +kernel, by decide +kernel, by decide +kernel, by decide +kernel⟩
set_option maxRecDepth 100000 in
theorem mw_44 : mOK 44 := ⟨Or.inl ⟨rfl, (tm (i := 376) (w := .code (mY 44) (mB 44) (mL 44) (mR 44)) rfl)⟩, tm (i := 55) (by decide +kernel), by decide +kernel, by decide +kernel, by decide +kernel, by decide +kernel⟩
set_option maxRecDepth 100000 in
theorem mw_45 : mOK 45 := ⟨Or.inl ⟨rfl, (tm (i := 494) (w := .code (mY 45) (mB 45) (mL 45) (mR 45)) rfl)⟩, tm (i := 55) (by decide +kernel), by decide +kernel, by decide +kernel, by decide +kernel, by decide +kernel⟩
set_option maxRecDepth 100000 in
theorem mw_46 : mOK 46 := ⟨Or.inl ⟨rfl, (tm (i := 498) (w := .code (mY 46) (mB 46) (mL 46) (mR 46)) rfl)⟩, tm (i := 55) (by decide +kernel), by decide +kernel, by decide +kernel, by decide +kernel, by decide +kernel⟩
set_option maxRecDepth 100000 in
theorem mw_47 : mOK 47 := ⟨Or.inl ⟨rfl, (tm (i := 521) (w := .code (mY 47) (mB 47) (mL 47) (mR 47)) rfl)⟩, tm (i := 55) (by decide +kernel), by decide +kernel, by decide +kernel, by decide +kernel, by decide +kernel⟩
set_option maxRecDepth 100000 in
theorem mw_48 : mOK 48 := ⟨Or.inl ⟨rfl, (tm (i := 528) (w := .code (mY 48) (mB 48) (mL 48) (mR 48)) rfl)⟩, tm (i := 55) (by decide +kernel), by decide +kernel, by decide +kernel, by decide +kernel, by decide +kernel⟩
set_option maxRecDepth 100000 in
theorem mw_49 : mOK 49 := ⟨Or.inl ⟨rfl, (tm (i := 620) (w := .code (mY 49) (mB 49) (mL 49) (mR 49)) rfl)⟩, tm (i := 55) (by decide +kernel), by decide +kernel, by decide +kernel, by decide +kernel, by decide +kernel⟩
set_option maxRecDepth 100000 in
theorem mw_50 : mOK 50 := ⟨Or.inl ⟨rfl, (tm (i := 761) (w := .code (mY 50) (mB 50) (mL 50) (mR 50)) rfl)⟩, tm (i := 66) (by decide +kernel), by decide +kernel, by decide +kernel, by decide +kernel, by decide +kernel⟩
set_option maxRecDepth 100000 in
theorem mw_51 : mOK 51 := ⟨Or.inl ⟨rfl, (tm (i := 884) (w := .code (mY 51) (mB 51) (mL 51) (mR 51)) rfl)⟩, tm (i := 66) (by decide +kernel), by decide +kernel, by decide +kernel, by decide +kernel, by decide +kernel⟩
set_option maxRecDepth 100000 in
theorem mw_52 : mOK 52 := ⟨Or.inl ⟨rfl, (tm (i := 553) (w := .code (mY 52) (mB 52) (mL 52) (mR 52)) rfl)⟩, tm (i := 59) (by decide +kernel), by decide +kernel, by decide +kernel, by decide +kernel, by decide +kernel⟩
set_option maxRecDepth 100000 in
theorem mw_53 : mOK 53 := ⟨Or.inl ⟨rfl, (tm (i := 805) (w := .code (mY 53) (mB 53) (mL 53) (mR 53)) rfl)⟩, tm (i := 68) (by decide +kernel), by decide +kernel, by decide +kernel, by decide +kernel, by decide +kernel⟩
set_option maxRecDepth 100000 in
theorem mw_54 : mOK 54 := ⟨Or.inl ⟨rfl, (tm (i := 887) (w := .code (mY 54) (mB 54) (mL 54) (mR 54)) rfl)⟩, tm (i := 68) (by decide +kernel), by decide +kernel, by decide +kernel, by decide +kernel, by decide +kernel⟩
set_option maxRecDepth 100000 in
theorem mw_55 : mOK 55 := ⟨Or.inl ⟨rfl, (tm (i := 667) (w := .code (mY 55) (mB 55) (mL 55) (mR 55)) rfl)⟩, tm (i := 63) (by decide +kernel), by decide +kernel, by decide +kernel, by decide +kernel, by decide +kernel⟩
set_option maxRecDepth 100000 in
theorem mw_56 : mOK 56 := ⟨Or.inl ⟨rfl, (tm (i := 890) (w := .code (mY 56) (mB 56) (mL 56) (mR 56)) rfl)⟩, tm (i := 63) (by decide +kernel), by decide +kernel, by decide +kernel, by decide +kernel, by decide +kernel⟩
set_option maxRecDepth 100000 in
theorem mw_57 : mOK 57 := ⟨Or.inl ⟨rfl, (tm (i := 284) (w := .code (mY 57) (mB 57) (mL 57) (mR 57)) rfl)⟩, tm (i := 53) (by decide +kernel), by decide +kernel, by decide +kernel, by decide +kernel, by decide +kernel⟩
set_option maxRecDepth 100000 in
theorem mw_58 : mOK 58 := ⟨Or.inl ⟨rfl, (tm (i := 288) (w := .code (mY 58) (mB 58) (mL 58) (mR 58)) rfl)⟩, tm (i := 53) (by decide +kernel), by decide +kernel, by decide +kernel, by decide +kernel, by decide +kernel⟩
set_option maxRecDepth 100000 in
theorem mw_59 : mOK 59 := ⟨Or.inl ⟨rfl, (tm (i := 363) (w := .code (mY 59) (mB 59) (mL 59) (mR 59)) rfl)⟩, tm (i := 53) (by decide +kernel), by decide +kernel, by decide +kernel, by decide +kernel, by decide +kernel⟩
set_option maxRecDepth 100000 in
theorem mw_60 : mOK 60 := ⟨Or.inl ⟨rfl, (tm (i := 464) (w := .code (mY 60) (mB 60) (mL 60) (mR 60)) rfl)⟩, tm (i := 53) (by decide +kernel), by decide +kernel, by decide +kernel, by decide +kernel, by decide +kernel⟩
set_option maxRecDepth 100000 in
theorem mw_61 : mOK 61 := ⟨Or.inl ⟨rfl, (tm (i := 505) (w := .code (mY 61) (mB 61) (mL 61) (mR 61)) rfl)⟩, tm (i := 53) (by decide +kernel), by decide +kernel, by decide +kernel, by decide +kernel, by decide +kernel⟩
set_option maxRecDepth 100000 in
theorem mw_62 : mOK 62 := ⟨Or.inl ⟨rfl, (tm (i := 508) (w := .code (mY 62) (mB 62) (mL 62) (mR 62)) rfl)⟩, tm (i := 53) (by decide +kernel), by decide +kernel, by decide +kernel, by decide +kernel, by decide +kernel⟩
set_option maxRecDepth 100000 in
theorem mw_63 : mOK 63 := ⟨Or.inl ⟨rfl, (tm (i := 540) (w := .code (mY 63) (mB 63) (mL 63) (mR 63)) rfl)⟩, tm (i := 53) (by decide +kernel), by decide +kernel, by decide +kernel, by decide +kernel, by decide +kernel⟩
set_option maxRecDepth 100000 in
theorem mw_64 : mOK 64 := ⟨Or.inl ⟨rfl, (tm (i := 569) (w := .code (mY 64) (mB 64) (mL 64) (mR 64)) rfl)⟩, tm (i := 53) (by decide +kernel), by decide +kernel, by decide +kernel, by decide +kernel, by decide +kernel⟩
set_option maxRecDepth 100000 in
theorem mw_65 : mOK 65 := ⟨Or.inl ⟨rfl, (tm (i := 600) (w := .code (mY 65) (mB 65) (mL 65) (mR 65)) rfl)⟩, tm (i := 53) (by decide +kernel), by decide +kernel, by decide +kernel, by decide +kernel, by decide +kernel⟩
set_option maxRecDepth 100000 in
theorem mw_66 : mOK 66 := ⟨Or.inl ⟨rfl, (tm (i := 645) (w := .code (mY 66) (mB 66) (mL 66) (mR 66)) rfl)⟩, tm (i := 53) (by decide +kernel), by decide +kernel, by decide +kernel, by decide +kernel, by decide +kernel⟩
set_option maxRecDepth 100000 in
theorem mw_67 : mOK 67 := ⟨Or.inl ⟨rfl, (tm (i := 831) (w := .code (mY 67) (mB 67) (mL 67) (mR 67)) rfl)⟩, tm (i := 70) (by decide +kernel), by decide +kernel, by decide +kernel, by decide +kernel, by decide +kernel⟩
set_option maxRecDepth 100000 in
theorem mw_68 : mOK 68 := ⟨Or.inl ⟨rfl, (tm (i := 907) (w := .code (mY 68) (mB 68) (mL 68) (mR 68)) rfl)⟩, tm (i := 70) (by decide +kernel), by decide +kernel, by decide +kernel, by decide +kernel, by decide +kernel⟩
set_option maxRecDepth 100000 in
theorem mw_69 : mOK 69 := ⟨Or.inl ⟨rfl, (tm (i := 370) (w := .code (mY 69) (mB 69) (mL 69) (mR 69)) rfl)⟩, tm (i := 54) (by decide +kernel), by decide +kernel, by decide +kernel, by decide +kernel, by decide +kernel⟩
set_option maxRecDepth 100000 in
theorem mw_70 : mOK 70 := ⟨Or.inl ⟨rfl, (tm (i := 490) (w := .code (mY 70) (mB 70) (mL 70) (mR 70)) rfl)⟩, tm (i := 54) (by decide +kernel), by decide +kernel, by decide +kernel, by decide +kernel, by decide +kernel⟩
set_option maxRecDepth 100000 in
theorem mw_71 : mOK 71 := ⟨Or.inl ⟨rfl, (tm (i := 513) (w := .code (mY 71) (mB 71) (mL 71) (mR 71)) rfl)⟩, tm (i := 54) (by decide +kernel), by decide +kernel, by decide +kernel, by decide +kernel, by decide +kernel⟩
set_option maxRecDepth 100000 in
theorem mw_72 : mOK 72 := ⟨Or.inl ⟨rfl, (tm (i := 516) (w := .code (mY 72) (mB 72) (mL 72) (mR 72)) rfl)⟩, tm (i := 54) (by decide +kernel), by decide +kernel, by decide +kernel, by decide +kernel, by decide +kernel⟩
set_option maxRecDepth 100000 in
theorem mw_73 : mOK 73 := ⟨Or.inl ⟨rfl, (tm (i := 524) (w := .code (mY 73) (mB 73) (mL 73) (mR 73)) rfl)⟩, tm (i := 54) (by decide +kernel), by decide +kernel, by decide +kernel, by decide +kernel, by decide +kernel⟩
set_option maxRecDepth 100000 in
theorem mw_74 : mOK 74 := ⟨Or.inl ⟨rfl, (tm (i := 544) (w := .code (mY 74) (mB 74) (mL 74) (mR 74)) rfl)⟩, tm (i := 54) (by decide +kernel), by decide +kernel, by decide +kernel, by decide +kernel, by decide +kernel⟩
set_option maxRecDepth 100000 in
theorem mw_75 : mOK 75 := ⟨Or.inl ⟨rfl, (tm (i := 604) (w := .code (mY 75) (mB 75) (mL 75) (mR 75)) rfl)⟩, tm (i := 54) (by decide +kernel), by decide +kernel, by decide +kernel, by decide +kernel, by decide +kernel⟩
set_option maxRecDepth 100000 in
theorem mw_76 : mOK 76 := ⟨Or.inl ⟨rfl, (tm (i := 607) (w := .code (mY 76) (mB 76) (mL 76) (mR 76)) rfl)⟩, tm (i := 54) (by decide +kernel), by decide +kernel, by decide +kernel, by decide +kernel, by decide +kernel⟩
set_option maxRecDepth 100000 in
theorem mw_77 : mOK 77 := ⟨Or.inl ⟨rfl, (tm (i := 610) (w := .code (mY 77) (mB 77) (mL 77) (mR 77)) rfl)⟩, tm (i := 54) (by decide +kernel), by decide +kernel, by decide +kernel, by decide +kernel, by decide +kernel⟩
set_option maxRecDepth 100000 in
theorem mw_78 : mOK 78 := ⟨Or.inl ⟨rfl, (tm (i := 613) (w := .code (mY 78) (mB 78) (mL 78) (mR 78)) rfl)⟩, tm (i := 54) (by decide +kernel), by decide +kernel, by decide +kernel, by decide +kernel, by decide +kernel⟩
set_option maxRecDepth 100000 in
theorem mw_79 : mOK 79 := ⟨Or.inl ⟨rfl, (tm (i := 616) (w := .code (mY 79) (mB 79) (mL 79) (mR 79)) rfl)⟩, tm (i := 54) (by decide +kernel), by decide +kernel, by decide +kernel, by decide +kernel, by decide +kernel⟩
set_option maxRecDepth 100000 in
theorem mw_80 : mOK 80 := ⟨Or.inl ⟨rfl, (tm (i := 624) (w := .code (mY 80) (mB 80) (mL 80) (mR 80)) rfl)⟩, tm (i := 54) (by decide +kernel), by decide +kernel, by decide +kernel, by decide +kernel, by decide +kernel⟩
set_option maxRecDepth 100000 in
theorem mw_81 : mOK 81 := ⟨Or.inl ⟨rfl, (tm (i := 469) (w := .code (mY 81) (mB 81) (mL 81) (mR 81)) rfl)⟩, tm (i := 57) (by decide +kernel), by decide +kernel, by decide +kernel, by decide +kernel, by decide +kernel⟩
set_option maxRecDepth 100000 in
theorem mw_82 : mOK 82 := ⟨Or.inl ⟨rfl, (tm (i := 486) (w := .code (mY 82) (mB 82) (mL 82) (mR 82)) rfl)⟩, tm (i := 57) (by decide +kernel), by decide +kernel, by decide +kernel, by decide +kernel, by decide +kernel⟩
set_option maxRecDepth 100000 in
theorem mw_83 : mOK 83 := ⟨Or.inl ⟨rfl, (tm (i := 502) (w := .code (mY 83) (mB 83) (mL 83) (mR 83)) rfl)⟩, tm (i := 57) (by decide +kernel), by decide +kernel, by decide +kernel, by decide +kernel, by decide +kernel⟩
set_option maxRecDepth 100000 in
theorem mw_84 : mOK 84 := ⟨Or.inl ⟨rfl, (tm (i := 956) (w := .code (mY 84) (mB 84) (mL 84) (mR 84)) rfl)⟩, tm (i := 47) (by decide +kernel), by decide +kernel, by decide +kernel, by decide +kernel, by decide +kernel⟩
set_option maxRecDepth 100000 in
theorem mw_85 : mOK 85 := ⟨Or.inl ⟨rfl, (tm (i := 1059) (w := .code (mY 85) (mB 85) (mL 85) (mR 85)) rfl)⟩, tm (i := 47) (by decide +kernel), by decide +kernel, by decide +kernel, by decide +kernel, by decide +kernel⟩
set_option maxRecDepth 100000 in
theorem mw_86 : mOK 86 := ⟨Or.inl ⟨rfl, (tm (i := 1063) (w := .code (mY 86) (mB 86) (mL 86) (mR 86)) rfl)⟩, tm (i := 47) (by decide +kernel), by decide +kernel, by decide +kernel, by decide +kernel, by decide +kernel⟩
set_option maxRecDepth 100000 in
theorem mw_87 : mOK 87 := ⟨Or.inl ⟨rfl, (tm (i := 1067) (w := .code (mY 87) (mB 87) (mL 87) (mR 87)) rfl)⟩, tm (i := 47) (by decide +kernel), by decide +kernel, by decide +kernel, by decide +kernel, by decide +kernel⟩
set_option maxRecDepth 100000 in
theorem mw_88 : mOK 88 := ⟨Or.inl ⟨rfl, (tm (i := 1071) (w := .code (mY 88) (mB 88) (mL 88) (mR 88)) rfl)⟩, tm (i := 47) (by decide +kernel), by decide +kernel, by decide +kernel, by decide +kernel, by decide +kernel⟩
set_option maxRecDepth 100000 in
theorem mw_89 : mOK 89 := ⟨Or.inl ⟨rfl, (tm (i := 1075) (w := .code (mY 89) (mB 89) (mL 89) (mR 89)) rfl)⟩, tm (i := 47) (by decide +kernel), by decide +kernel, by decide +kernel, by decide +kernel, by decide +kernel⟩
set_option maxRecDepth 100000 in
theorem mw_90 : mOK 90 := ⟨Or.inl ⟨rfl, (tm (i := 1079) (w := .code (mY 90) (mB 90) (mL 90) (mR 90)) rfl)⟩, tm (i := 47) (by decide +kernel), by decide +kernel, by decide +kernel, by decide +kernel, by decide +kernel⟩
set_option maxRecDepth 100000 in
theorem mw_91 : mOK 91 := ⟨Or.inl ⟨rfl, (tm (i := 1083) (w := .code (mY 91) (mB 91) (mL 91) (mR 91)) rfl)⟩, tm (i := 47) (by decide +kernel), by decide +kernel, by decide +kernel, by decide +kernel, by decide +kernel⟩
set_option maxRecDepth 100000 in
theorem mw_92 : mOK 92 := ⟨Or.inl ⟨rfl, (tm (i := 1087) (w := .code (mY 92) (mB 92) (mL 92) (mR 92)) rfl)⟩, tm (i := 47) (by decide +kernel), by decide +kernel, by decide +kernel, by decide +kernel, by decide +kernel⟩
set_option maxRecDepth 100000 in
theorem mw_93 : mOK 93 := ⟨Or.inl ⟨rfl, (tm (i := 1091) (w := .code (mY 93) (mB 93) (mL 93) (mR 93)) rfl)⟩, tm (i := 47) (by decide +kernel), by decide +kernel, by decide +kernel, by decide +kernel, by decide +kernel⟩
set_option maxRecDepth 100000 in
theorem mw_94 : mOK 94 := ⟨Or.inl ⟨rfl, (tm (i := 1095) (w := .code (mY 94) (mB 94) (mL 94) (mR 94)) rfl)⟩, tm (i := 47) (by decide +kernel), by decide +kernel, by decide +kernel, by decide +kernel, by decide +kernel⟩
set_option maxRecDepth 100000 in
theorem mw_95 : mOK 95 := ⟨Or.inl ⟨rfl, (tm (i := 1099) (w := .code (mY 95) (mB 95) (mL 95) (mR 95)) rfl)⟩, tm (i := 47) (by decide +kernel), by decide +kernel, by decide +kernel, by decide +kernel, by decide +kernel⟩
set_option maxRecDepth 100000 in
theorem mw_96 : mOK 96 := ⟨Or.inl ⟨rfl, (tm (i := 1103) (w := .code (mY 96) (mB 96) (mL 96) (mR 96)) rfl)⟩, tm (i := 47) (by decide +kernel), by decide +kernel, by decide +kernel, by decide +kernel, by decide +kernel⟩
set_option maxRecDepth 100000 in
theorem mw_97 : mOK 97 := ⟨Or.inl ⟨rfl, (tm (i := 1107) (w := .code (mY 97) (mB 97) (mL 97) (mR 97)) rfl)⟩, tm (i := 47) (by decide +kernel), by decide +kernel, by decide +kernel, by decide +kernel, by decide +kernel⟩
set_option maxRecDepth 100000 in
theorem mw_98 : mOK 98 := ⟨Or.inl ⟨rfl, (tm (i := 1111) (w := .code (mY 98) (mB 98) (mL 98) (mR 98)) rfl)⟩, tm (i := 47) (by decide +kernel), by decide +kernel, by decide +kernel, by decide +kernel, by decide +kernel⟩
set_option maxRecDepth 100000 in
theorem mw_99 : mOK 99 := ⟨Or.inl ⟨rfl, (tm (i := 1115) (w := .code (mY 99) (mB 99) (mL 99) (mR 99)) rfl)⟩, tm (i := 47) (by decide +kernel), by decide +kernel, by decide +kernel, by decide +kernel, by decide +kernel⟩
set_option maxRecDepth 100000 in
theorem mw_100 : mOK 100 := ⟨Or.inl ⟨rfl, (tm (i := 1119) (w := .code (mY 100) (mB 100) (mL 100) (mR 100)) rfl)⟩, tm (i := 47) (by decide +kernel), by decide +kernel, by decide +kernel, by decide +kernel, by decide +kernel⟩
set_option maxRecDepth 100000 in
theorem mw_101 : mOK 101 := ⟨Or.inl ⟨rfl, (tm (i := 1123) (w := .code (mY 101) (mB 101) (mL 101) (mR 101)) rfl)⟩, tm (i := 47) (by decide +kernel), by decide +kernel, by decide +kernel, by decide +kernel, by decide +kernel⟩
set_option maxRecDepth 100000 in
theorem mw_102 : mOK 102 := ⟨Or.inl ⟨rfl, (tm (i := 1127) (w := .code (mY 102) (mB 102) (mL 102) (mR 102)) rfl)⟩, tm (i := 47) (by decide +kernel), by decide +kernel, by decide +kernel, by decide +kernel, by decide +kernel⟩
set_option maxRecDepth 100000 in
theorem mw_103 : mOK 103 := ⟨Or.inl ⟨rfl, (tm (i := 1131) (w := .code (mY 103) (mB 103) (mL 103) (mR 103)) rfl)⟩, tm (i := 47) (by decide +kernel), by decide +kernel, by decide +kernel, by decide +kernel, by decide +kernel⟩
set_option maxRecDepth 100000 in
theorem mw_104 : mOK 104 := ⟨Or.inl ⟨rfl, (tm (i := 1135) (w := .code (mY 104) (mB 104) (mL 104) (mR 104)) rfl)⟩, tm (i := 47) (by decide +kernel), by decide +kernel, by decide +kernel, by decide +kernel, by decide +kernel⟩
set_option maxRecDepth 100000 in
theorem mw_105 : mOK 105 := ⟨Or.inl ⟨rfl, (tm (i := 1139) (w := .code (mY 105) (mB 105) (mL 105) (mR 105)) rfl)⟩, tm (i := 47) (by decide +kernel), by decide +kernel, by decide +kernel, by decide +kernel, by decide +kernel⟩
set_option maxRecDepth 100000 in
theorem mw_106 : mOK 106 := ⟨Or.inl ⟨rfl, (tm (i := 1143) (w := .code (mY 106) (mB 106) (mL 106) (mR 106)) rfl)⟩, tm (i := 47) (by decide +kernel), by decide +kernel, by decide +kernel, by decide +kernel, by decide +kernel⟩
set_option maxRecDepth 100000 in
theorem mw_107 : mOK 107 := ⟨Or.inl ⟨rfl, (tm (i := 1147) (w := .code (mY 107) (mB 107) (mL 107) (mR 107)) rfl)⟩, tm (i := 47) (by decide +kernel), by decide +kernel, by decide +kernel, by decide +kernel, by decide +kernel⟩
set_option maxRecDepth 100000 in
theorem mw_108 : mOK 108 := ⟨Or.inl ⟨rfl, (tm (i := 1151) (w := .code (mY 108) (mB 108) (mL 108) (mR 108)) rfl)⟩, tm (i := 47) (by decide +kernel), by decide +kernel, by decide +kernel, by decide +kernel, by decide +kernel⟩
set_option maxRecDepth 100000 in
theorem mw_109 : mOK 109 := ⟨Or.inl ⟨rfl, (tm (i := 1155) (w := .code (mY 109) (mB 109) (mL 109) (mR 109)) rfl)⟩, tm (i := 47) (by decide +kernel), by decide +kernel, by decide +kernel, by decide +kernel, by decide +kernel⟩
set_option maxRecDepth 100000 in
theorem mw_110 : mOK 110 := ⟨Or.inl ⟨rfl, (tm (i := 1159) (w := .code (mY 110) (mB 110) (mL 110) (mR 110)) rfl)⟩, tm (i := 47) (by decide +kernel), by decide +kernel, by decide +kernel, by decide +kernel, by decide +kernel⟩
set_option maxRecDepth 100000 in
theorem mw_111 : mOK 111 := ⟨Or.inl ⟨rfl, (tm (i := 1163) (w := .code (mY 111) (mB 111) (mL 111) (mR 111)) rfl)⟩, tm (i := 47) (by decide +kernel), by decide +kernel, by decide +kernel, by decide +kernel, by decide +kernel⟩
set_option maxRecDepth 100000 in
theorem mw_112 : mOK 112 := ⟨Or.inl ⟨rfl, (tm (i := 1167) (w := .code (mY 112) (mB 112) (mL 112) (mR 112)) rfl)⟩, tm (i := 47) (by decide +kernel), by decide +kernel, by decide +kernel, by decide +kernel, by decide +kernel⟩
set_option maxRecDepth 100000 in
theorem mw_113 : mOK 113 := ⟨Or.inl ⟨rfl, (tm (i := 1171) (w := .code (mY 113) (mB 113) (mL 113) (mR 113)) rfl)⟩, tm (i := 47) (by decide +kernel), by decide +kernel, by decide +kernel, by decide +kernel, by decide +kernel⟩
set_option maxRecDepth 100000 in
theorem mw_114 : mOK 114 := ⟨Or.inl ⟨rfl, (tm (i := 1175) (w := .code (mY 114) (mB 114) (mL 114) (mR 114)) rfl)⟩, tm (i := 47) (by decide +kernel), by decide +kernel, by decide +kernel, by decide +kernel, by decide +kernel⟩
set_option maxRecDepth 100000 in
theorem mw_115 : mOK 115 := ⟨Or.inl ⟨rfl, (tm (i := 1179) (w := .code (mY 115) (mB 115) (mL 115) (mR 115)) rfl)⟩, tm (i := 47) (by decide +kernel), by decide +kernel, by decide +kernel, by decide +kernel, by decide +kernel⟩
set_option maxRecDepth 100000 in
theorem mw_116 : mOK 116 := ⟨Or.inl ⟨rfl, (tm (i := 1183) (w := .code (mY 116) (mB 116) (mL 116) (mR 116)) rfl)⟩, tm (i := 47) (by decide +kernel), by decide +kernel, by decide +kernel, by decide +kernel, by decide +kernel⟩
set_option maxRecDepth 100000 in
theorem mw_117 : mOK 117 := ⟨Or.inl ⟨rfl, (tm (i := 1187) (w := .code (mY 117) (mB 117) (mL 117) (mR 117)) rfl)⟩, tm (i := 47) (by decide +kernel), by decide +kernel, by decide +kernel, by decide +kernel, by decide +kernel⟩
set_option maxRecDepth 100000 in
theorem mw_118 : mOK 118 := ⟨Or.inl ⟨rfl, (tm (i := 1191) (w := .code (mY 118) (mB 118) (mL 118) (mR 118)) rfl)⟩, tm (i := 47) (by decide +kernel), by decide +kernel, by decide +kernel, by decide +kernel, by decide +kernel⟩
set_option maxRecDepth 100000 in
theorem mw_119 : mOK 119 := ⟨Or.inl ⟨rfl, (tm (i := 1195) (w := .code (mY 119) (mB 119) (mL 119) (mR 119)) rfl)⟩, tm (i := 47) (by decide +kernel), by decide +kernel, by decide +kernel, by decide +kernel, by decide +kernel⟩
set_option maxRecDepth 100000 in
theorem mw_120 : mOK 120 := ⟨Or.inl ⟨rfl, (tm (i := 1199) (w := .code (mY 120) (mB 120) (mL 120) (mR 120)) rfl)⟩, tm (i := 47) (by decide +kernel), by decide +kernel, by decide +kernel, by decide +kernel, by decide +kernel⟩
set_option maxRecDepth 100000 in
theorem mw_121 : mOK 121 := ⟨Or.inl ⟨rfl, (tm (i := 1202) (w := .code (mY 121) (mB 121) (mL 121) (mR 121)) rfl)⟩, tm (i := 47) (by decide +kernel), by decide +kernel, by decide +kernel, by decide +kernel, by decide +kernel⟩
set_option maxRecDepth 100000 in
theorem mw_122 : mOK 122 := ⟨Or.inl ⟨rfl, (tm (i := 1206) (w := .code (mY 122) (mB 122) (mL 122) (mR 122)) rfl)⟩, tm (i := 47) (by decide +kernel), by decide +kernel, by decide +kernel, by decide +kernel, by decide +kernel⟩
set_option maxRecDepth 100000 in
theorem mw_123 : mOK 123 := ⟨Or.inl ⟨rfl, (tm (i := 1210) (w := .code (mY 123) (mB 123) (mL 123) (mR 123)) rfl)⟩, tm (i := 47) (by decide +kernel), by decide +kernel, by decide +kernel, by decide +kernel, by decide +kernel⟩
set_option maxRecDepth 100000 in
theorem mw_124 : mOK 124 := ⟨Or.inl ⟨rfl, (tm (i := 1214) (w := .code (mY 124) (mB 124) (mL 124) (mR 124)) rfl)⟩, tm (i := 47) (by decide +kernel), by decide +kernel, by decide +kernel, by decide +kernel, by decide +kernel⟩
set_option maxRecDepth 100000 in
theorem mw_125 : mOK 125 := ⟨Or.inl ⟨rfl, (tm (i := 1218) (w := .code (mY 125) (mB 125) (mL 125) (mR 125)) rfl)⟩, tm (i := 47) (by decide +kernel), by decide +kernel, by decide +kernel, by decide +kernel, by decide +kernel⟩
set_option maxRecDepth 100000 in
theorem mw_126 : mOK 126 := ⟨Or.inl ⟨rfl, (tm (i := 1222) (w := .code (mY 126) (mB 126) (mL 126) (mR 126)) rfl)⟩, tm (i := 47) (by decide +kernel), by decide +kernel, by decide +kernel, by decide +kernel, by decide +kernel⟩
set_option maxRecDepth 100000 in
theorem mw_127 : mOK 127 := ⟨Or.inl ⟨rfl, (tm (i := 1226) (w := .code (mY 127) (mB 127) (mL 127) (mR 127)) rfl)⟩, tm (i := 47) (by decide +kernel), by decide +kernel, by decide +kernel, by decide +kernel, by decide +kernel⟩
set_option maxRecDepth 100000 in
theorem mw_128 : mOK 128 := ⟨Or.inl ⟨rfl, (tm (i := 1230) (w := .code (mY 128) (mB 128) (mL 128) (mR 128)) rfl)⟩, tm (i := 47) (by decide +kernel), by decide +kernel, by decide +kernel, by decide +kernel, by decide +kernel⟩
set_option maxRecDepth 100000 in
theorem mw_129 : mOK 129 := ⟨Or.inl ⟨rfl, (tm (i := 1234) (w := .code (mY 129) (mB 129) (mL 129) (mR 129)) rfl)⟩, tm (i := 47) (by decide +kernel), by decide +kernel, by decide +kernel, by decide +kernel, by decide +kernel⟩
set_option maxRecDepth 100000 in
theorem mw_130 : mOK 130 := ⟨Or.inl ⟨rfl, (tm (i := 1238) (w := .code (mY 130) (mB 130) (mL 130) (mR 130)) rfl)⟩, tm (i := 47) (by decide +kernel), by decide +kernel, by decide +kernel, by decide +kernel, by decide +kernel⟩
set_option maxRecDepth 100000 in
theorem mw_131 : mOK 131 := ⟨Or.inl ⟨rfl, (tm (i := 670) (w := .code (mY 131) (mB 131) (mL 131) (mR 131)) rfl)⟩, tm (i := 62) (by decide +kernel), by decide +kernel, by decide +kernel, by decide +kernel, by decide +kernel⟩
set_option maxRecDepth 100000 in
theorem mw_132 : mOK 132 := ⟨Or.inl ⟨rfl, (tm (i := 904) (w := .code (mY 132) (mB 132) (mL 132) (mR 132)) rfl)⟩, tm (i := 62) (by decide +kernel), by decide +kernel, by decide +kernel, by decide +kernel, by decide +kernel⟩
set_option maxRecDepth 100000 in
theorem mw_133 : mOK 133 := ⟨Or.inl ⟨rfl, (tm (i := 726) (w := .code (mY 133) (mB 133) (mL 133) (mR 133)) rfl)⟩, tm (i := 64) (by decide +kernel), by decide +kernel, by decide +kernel, by decide +kernel, by decide +kernel⟩
set_option maxRecDepth 100000 in
theorem mw_134 : mOK 134 := ⟨Or.inl ⟨rfl, (tm (i := 914) (w := .code (mY 134) (mB 134) (mL 134) (mR 134)) rfl)⟩, tm (i := 64) (by decide +kernel), by decide +kernel, by decide +kernel, by decide +kernel, by decide +kernel⟩
set_option maxRecDepth 100000 in
theorem mw_135 : mOK 135 := ⟨Or.inr (tm (i := 321) (w := .codeWith (mY 135) (mB 135) (mL 135) (mR 135) (mX 135)) rfl), tm (i := 43) (by decide +kernel), by decide +kernel, by decide +kernel, by decide +kernel, by decide +kernel⟩
set_option maxRecDepth 100000 in
theorem mw_136 : mOK 136 := ⟨Or.inr (tm (i := 432) (w := .codeWith (mY 136) (mB 136) (mL 136) (mR 136) (mX 136)) rfl), tm (i := 43) (by decide +kernel), by decide +kernel, by decide +kernel, by decide +kernel, by decide +kernel⟩
set_option maxRecDepth 100000 in
theorem mw_137 : mOK 137 := ⟨Or.inr (tm (i := 531) (w := .codeWith (mY 137) (mB 137) (mL 137) (mR 137) (mX 137)) rfl), tm (i := 43) (by decide +kernel), by decide +kernel, by decide +kernel, by decide +kernel, by decide +kernel⟩
set_option maxRecDepth 100000 in
theorem mw_138 : mOK 138 := ⟨Or.inr (tm (i := 572) (w := .codeWith (mY 138) (mB 138) (mL 138) (mR 138) (mX 138)) rfl), tm (i := 43) (by decide +kernel), by decide +kernel, by decide +kernel, by decide +kernel, by decide +kernel⟩
set_option maxRecDepth 100000 in
theorem mw_139 : mOK 139 := ⟨Or.inr (tm (i := 627) (w := .codeWith (mY 139) (mB 139) (mL 139) (mR 139) (mX 139)) rfl), tm (i := 43) (by decide +kernel), by decide +kernel, by decide +kernel, by decide +kernel, by decide +kernel⟩
set_option maxRecDepth 100000 in
theorem mw_140 : mOK 140 := ⟨Or.inr (tm (i := 634) (w := .codeWith (mY 140) (mB 140) (mL 140) (mR 140) (mX 140)) rfl), tm (i := 43) (by decide +kernel), by decide +kernel, by decide +kernel, by decide +kernel, by decide +kernel⟩
set_option maxRecDepth 100000 in
theorem mw_141 : mOK 141 := ⟨Or.inr (tm (i := 652) (w := .codeWith (mY 141) (mB 141) (mL 141) (mR 141) (mX 141)) rfl), tm (i := 43) (by decide +kernel), by decide +kernel, by decide +kernel, by decide +kernel, by decide +kernel⟩
theorem st_m (M : Nat) (h : M < 142) : mOK M := by
  match M, h with
  | 0, _ => exact mw_0
  | 1, _ => exact mw_1
  | 2, _ => exact mw_2
  | 3, _ => exact mw_3
  | 4, _ => exact mw_4
  | 5, _ => exact mw_5
  | 6, _ => exact mw_6
  | 7, _ => exact mw_7
  | 8, _ => exact mw_8
  | 9, _ => exact mw_9
  | 10, _ => exact mw_10
  | 11, _ => exact mw_11
  | 12, _ => exact mw_12
  | 13, _ => exact mw_13
  | 14, _ => exact mw_14
  | 15, _ => exact mw_15
  | 16, _ => exact mw_16
  | 17, _ => exact mw_17
  | 18, _ => exact mw_18
  | 19, _ => exact mw_19
  | 20, _ => exact mw_20
  | 21, _ => exact mw_21
  | 22, _ => exact mw_22
  | 23, _ => exact mw_23
  | 24, _ => exact mw_24
  | 25, _ => exact mw_25
  | 26, _ => exact mw_26
  | 27, _ => exact mw_27
  | 28, _ => exact mw_28
  | 29, _ => exact mw_29
  | 30, _ => exact mw_30
  | 31, _ => exact mw_31
  | 32, _ => exact mw_32
  | 33, _ => exact mw_33
  | 34, _ => exact mw_34
  | 35, _ => exact mw_35
  | 36, _ => exact mw_36
  | 37, _ => exact mw_37
  | 38, _ => exact mw_38
  | 39, _ => exact mw_39
  | 40, _ => exact mw_40
  | 41, _ => exact mw_41
  | 42, _ => exact mw_42
  | 43, _ => exact mw_43
  | 44, _ => exact mw_44
  | 45, _ => exact mw_45
  | 46, _ => exact mw_46
  | 47, _ => exact mw_47
  | 48, _ => exact mw_48
  | 49, _ => exact mw_49
  | 50, _ => exact mw_50
  | 51, _ => exact mw_51
  | 52, _ => exact mw_52
  | 53, _ => exact mw_53
  | 54, _ => exact mw_54
  | 55, _ => exact mw_55
  | 56, _ => exact mw_56
  | 57, _ => exact mw_57
  | 58, _ => exact mw_58
  | 59, _ => exact mw_59
  | 60, _ => exact mw_60
  | 61, _ => exact mw_61
  | 62, _ => exact mw_62
  | 63, _ => exact mw_63
  | 64, _ => exact mw_64
  | 65, _ => exact mw_65
  | 66, _ => exact mw_66
  | 67, _ => exact mw_67
  | 68, _ => exact mw_68
  | 69, _ => exact mw_69
  | 70, _ => exact mw_70
  | 71, _ => exact mw_71
  | 72, _ => exact mw_72
  | 73, _ => exact mw_73
  | 74, _ => exact mw_74
  | 75, _ => exact mw_75
  | 76, _ => exact mw_76
  | 77, _ => exact mw_77
  | 78, _ => exact mw_78
  | 79, _ => exact mw_79
  | 80, _ => exact mw_80
  | 81, _ => exact mw_81
  | 82, _ => exact mw_82
  | 83, _ => exact mw_83
  | 84, _ => exact mw_84
  | 85, _ => exact mw_85
  | 86, _ => exact mw_86
  | 87, _ => exact mw_87
  | 88, _ => exact mw_88
  | 89, _ => exact mw_89
  | 90, _ => exact mw_90
  | 91, _ => exact mw_91
  | 92, _ => exact mw_92
  | 93, _ => exact mw_93
  | 94, _ => exact mw_94
  | 95, _ => exact mw_95
  | 96, _ => exact mw_96
  | 97, _ => exact mw_97
  | 98, _ => exact mw_98
  | 99, _ => exact mw_99
  | 100, _ => exact mw_100
  | 101, _ => exact mw_101
  | 102, _ => exact mw_102
  | 103, _ => exact mw_103
  | 104, _ => exact mw_104
  | 105, _ => exact mw_105
  | 106, _ => exact mw_106
  | 107, _ => exact mw_107
  | 108, _ => exact mw_108
  | 109, _ => exact mw_109
  | 110, _ => exact mw_110
  | 111, _ => exact mw_111
  | 112, _ => exact mw_112
  | 113, _ => exact mw_113
  | 114, _ => exact mw_114
  | 115, _ => exact mw_115
  | 116, _ => exact mw_116
  | 117, _ => exact mw_117
  | 118, _ => exact mw_118
  | 119, _ => exact mw_119
  | 120, _ => exact mw_120
  | 121, _ => exact mw_121
  | 122, _ => exact mw_122
  | 123, _ => exact mw_123
  | 124, _ => exact mw_124
  | 125, _ => exact mw_125
  | 126, _ => exact mw_126
  | 127, _ => exact mw_127
  | 128, _ => exact mw_128
  | 129, _ => exact mw_129
  | 130, _ => exact mw_130
  | 131, _ => exact mw_131
  | 132, _ => exact mw_132
  | 133, _ => exact mw_133
  | 134, _ => exact mw_134
  | 135, _ => exact mw_135
  | 136, _ => exact mw_136
  | 137, _ => exact mw_137
  | 138, _ => exact mw_138
  | 139, _ => exact mw_139
  | 140, _ => exact mw_140
  | 141, _ => exact mw_141
  | n + 142, h => exact absurd h (by omega)
theorem st_30 : ∀ M, mL M ≤ 30 := by
  intro M
  rcases Nat.lt_or_ge M 143 with q | q
  · have : ∀ M, M < 143 → mL M ≤ 30 := by decide +kernel
    exact this M q
  · unfold mL
    rw [List.getD_eq_getElem?_getD, List.getElem?_eq_none (by simpa [x_meth] using q)]
    decide
end
section
/-! ===== every instruction of the tables is the machine's: decided ===== -/
def prB (f : Nat → Nat → Bool) : List Nat → Bool
  | c :: m :: r => f c m && prB f r
  | [] => true
  | [_] => false
theorem prB_at {f : Nat → Nat → Bool} : ∀ {L : List Nat} {c M' : Nat}, prB f L = true → dsp L c = some M' → f c M' = true
  | [], _, _, _, h => by cases h
  | [_], _, _, h, _ => by cases h
  | a :: m :: r, c, M', h, hd => by
    simp only [prB, Bool.and_eq_true] at h
    unfold dsp at hd
    split at hd
    · rename_i e; cases hd; rw [e]; exact h.1
    · exact prB_at h.2 hd
def isO (t : Option FieldType) : Bool := match t with
  | some (.object _) => true
  | _ => false
def isI (v : AV) (p : Int32 → Bool) : Bool := match v with
  | .inl x => p x
  | _ => false
def isL (v : AV) (p : Int64 → Bool) : Bool := match v with
  | .inr (.inl x) => p x
  | _ => false
def ckN (M pc i aux : Nat) : Bool := match fetch M (pc + 4), fetch M (pc + 6) with
  | some (.ldc j, _), some (.invokespecial ic, _) => decide (60 ≤ aux) && decide (decode (mB M) (pc + 3) = .ok (.dup, 1)) && decide (decode (mB M) (pc + 4) = .ok (.ldc j, 2)) && decide (decode (mB M) (pc + 6) = .ok (.invokespecial ic, 3)) && decide (decode (mB M) (pc + 9) = .ok (.athrow, 1)) &&
      lk_X.any (fun r => r.1 == mO M && r.2.1 == i && r.2.2.1 == aux - 60 && r.2.2.2.1 == j && r.2.2.2.2.1 == ic) && (mX M).all (fun x => !(Nat.ble x.1 (pc + 9) && Nat.blt (pc + 9) x.2.1))
  | _, _ => false
def ckI (M pc : Nat) (e : EI) : Bool := match e.1 with
  | .aconst_null | .iadd | .isub | .imul | .iand | .idiv | .ladd | .lor | .lshl | .lcmp | .i2l | .pop | .dup | .dup_x1 | .dup2 | .iaload | .baload | .laload | .aaload | .iastore | .bastore | .lastore | .aastore | .arraylength => e.2.1 == 1
  | .iconst n => e.2.1 == 1 && decide (e.2.2.2.1 = vI (Int32.ofInt n))
  | .bipush n => e.2.1 == 2 && decide (e.2.2.2.1 = vI (Int8.ofInt n).toInt32)
  | .sipush n => e.2.1 == 3 && decide (e.2.2.2.1 = vI (Int16.ofInt n).toInt32)
  | .lconst n => e.2.1 == 1 && decide (e.2.2.2.1 = vL (Int64.ofNat (n : Nat)))
  | .ldc i => e.2.1 == 2 && (e.2.2.1 == 1 || isI e.2.2.2.1 (fun v => lk_Ki.any (fun r => r.1 == mO M && r.2.1 == i && decide (r.2.2.1 = v))))
  | .ldc2_w i => e.2.1 == 3 && isL e.2.2.2.1 (fun v => lk_Kl.any (fun r => r.1 == mO M && r.2.1 == i && decide (r.2.2.1 = v)))
  | .iload i | .lload i | .aload i => e.2.1 == 2 && e.2.2.1 == i
  | .iload_n n | .lload_n n | .aload_n n => e.2.1 == 1 && e.2.2.1 == (n : Nat)
  | .istore i | .astore i => e.2.1 == 2 && e.2.2.1 == i && decide (i < mL M)
  | .istore_n n | .astore_n n => e.2.1 == 1 && e.2.2.1 == (n : Nat) && decide ((n : Nat) < mL M)
  | .lstore i => e.2.1 == 2 && e.2.2.1 == i && decide (i + 1 < mL M)
  | .lstore_n n => e.2.1 == 1 && e.2.2.1 == (n : Nat) && decide ((n : Nat) + 1 < mL M)
  | .iinc i n => e.2.1 == 3 && e.2.2.1 == i && decide (i < mL M) && decide (e.2.2.2.1 = vI (Int32.ofInt n))
  | .ifCond _ off | .if_icmp _ off | .ifnull off | .ifnonnull off | .goto off => e.2.1 == 3 && decide ((pc : Int) + off = (e.2.2.1 : Int))
  | .tableswitch df lo hi offs => decide ((pc : Int) + df = (e.2.2.1 : Int)) && isI e.2.2.2.1 (fun v => decide (v.toInt = lo)) && decide (hi = lo + e.2.2.2.2.length - 1) && decide (offs.toList.map (fun o => (pc : Int) + o) = e.2.2.2.2.map (fun t : Nat => (t : Int))) && decide (lo + e.2.2.2.2.length < 2 ^ 31) && decide (e.2.2.2.2.length < 2 ^ 31)
  | .getfield i => e.2.1 == 3 && lk_F.any (fun r => r.1 == mO M && r.2.1 == i && r.2.2.1 == e.2.2.1)
  | .putfield i => e.2.1 == 3 && lk_F.any (fun r => r.1 == mO M && r.2.1 == i && r.2.2.1 == e.2.2.1) && (decide ((fD e.2.2.1).2.2.2 = false) || (decide ((mY M).name = "<init>") && decide ((fD e.2.2.1).1 = oN (mO M)))) && kOK e.2.2.1
  | .newarray a => e.2.1 == 2 && decide (e.2.2.1 < 3) && decide (newarray.typeOf a = aty e.2.2.1)
  | .anewarray i => e.2.1 == 3 && lk_A.any (fun r => r.1 == mO M && r.2.1 == i && r.2.2.1 == e.2.2.1)
  | .new i => e.2.1 == 3 && (match decide (e.2.2.1 < 50) with
    | true => lk_N.any (fun r => r.1 == mO M && r.2.1 == i && r.2.2.1 == e.2.2.1)
    | false => ckN M pc i e.2.2.1)
  | .invokevirtual i => e.2.1 == 3 && prB (fun c m => decide (m < 142) && lk_V.any (fun r => r.1 == mO M && r.2.1 == i && r.2.2.1 == e.2.2.1 && r.2.2.2.1 == c && r.2.2.2.2.1 == m)) e.2.2.2.2
  | .invokestatic i => e.2.1 == 3 && (match e.2.2.2.2 with
    | [m] => (match decide (m = 9998) with
      | true => lk_C.any (fun r => r.1 == mO M && r.2.1 == i)
      | false => decide (m < 142) && lk_S.any (fun r => r.1 == mO M && r.2.1 == i && r.2.2.1 == m && r.2.2.2.1 == e.2.2.1))
    | _ => true)
  | .invokespecial i => e.2.1 == 3 && (match e.2.2.2.2 with
    | [m] => (match decide (m = 9999) with
      | true => lk_O.any (fun r => r.1 == mO M && r.2.1 == i)
      | false => decide (m < 142) && decide (1 ≤ e.2.2.1) && lk_I.any (fun r => r.1 == mO M && r.2.1 == i && r.2.2.1 == m && r.2.2.2.1 == e.2.2.1 - 1))
    | _ => true)
  | .ireturn => e.2.1 == 1 && (decide (mR M = some .int) || (decide (mR M = some .boolean) && mZ M))
  | .lreturn => e.2.1 == 1 && decide (mR M = some .long)
  | .areturn => e.2.1 == 1 && isO (mR M)
  | .return_ => e.2.1 == 1 && decide (mR M = none)
  | .athrow => true
  | _ => false
def ckB (M : Nat) (q : Nat × EI) : Bool := decide (decode (mB M) q.1 = .ok (q.2.1, q.2.2.1)) && ckI M q.1 q.2
end
section
set_option maxRecDepth 100000 in
theorem kb_0 : (c_0).all (ckB 0) = true := by decide +kernel
set_option maxRecDepth 100000 in
theorem kb_1 : (c_1).all (ckB 1) = true := by decide +kernel
set_option maxRecDepth 100000 in
theorem kb_2 : (c_2).all (ckB 2) = true := by decide +kernel
set_option maxRecDepth 100000 in
theorem kb_3 : (c_3).all (ckB 3) = true := by decide +kernel
set_option maxRecDepth 100000 in
theorem kb_4 : (c_4).all (ckB 4) = true := by decide +kernel
set_option maxRecDepth 100000 in
theorem kb_5 : (c_5).all (ckB 5) = true := by decide +kernel
set_option maxRecDepth 100000 in
theorem kb_6 : (c_6).all (ckB 6) = true := by decide +kernel
set_option maxRecDepth 100000 in
theorem kb_7 : (c_7).all (ckB 7) = true := by decide +kernel
set_option maxRecDepth 100000 in
theorem kb_8 : (c_8).all (ckB 8) = true := by decide +kernel
set_option maxRecDepth 100000 in
theorem kb_9 : (c_9).all (ckB 9) = true := by decide +kernel
set_option maxRecDepth 100000 in
theorem kb_10 : (c_10).all (ckB 10) = true := by decide +kernel
set_option maxRecDepth 100000 in
theorem kb_11 : (c_11).all (ckB 11) = true := by decide +kernel
set_option maxRecDepth 100000 in
theorem kb_12 : (c_12).all (ckB 12) = true := by decide +kernel
set_option maxRecDepth 100000 in
theorem kb_13 : (c_13).all (ckB 13) = true := by decide +kernel
set_option maxRecDepth 100000 in
theorem kb_14 : (c_14).all (ckB 14) = true := by decide +kernel
set_option maxRecDepth 100000 in
theorem kb_15 : (c_15).all (ckB 15) = true := by decide +kernel
set_option maxRecDepth 100000 in
theorem kb_16 : (c_16).all (ckB 16) = true := by decide +kernel
set_option maxRecDepth 100000 in
theorem kb_17 : (c_17).all (ckB 17) = true := by decide +kernel
set_option maxRecDepth 100000 in
theorem kb_18 : (c_18).all (ckB 18) = true := by decide +kernel
set_option maxRecDepth 100000 in
theorem kb_19 : (c_19).all (ckB 19) = true := by decide +kernel
set_option maxRecDepth 100000 in
theorem kb_20 : (c_20).all (ckB 20) = true := by decide +kernel
set_option maxRecDepth 100000 in
theorem kb_21 : (c_21).all (ckB 21) = true := by decide +kernel
set_option maxRecDepth 100000 in
theorem kb_22 : (c_22).all (ckB 22) = true := by decide +kernel
set_option maxRecDepth 100000 in
theorem kb_23 : (c_23).all (ckB 23) = true := by decide +kernel
set_option maxRecDepth 100000 in
theorem kb_24 : (c_24).all (ckB 24) = true := by decide +kernel
set_option maxRecDepth 100000 in
theorem kb_25 : (c_25).all (ckB 25) = true := by decide +kernel
set_option maxRecDepth 100000 in
theorem kb_26 : (c_26).all (ckB 26) = true := by decide +kernel
set_option maxRecDepth 100000 in
theorem kb_27 : (c_27).all (ckB 27) = true := by decide +kernel
set_option maxRecDepth 100000 in
theorem kb_28 : (c_28).all (ckB 28) = true := by decide +kernel
set_option maxRecDepth 100000 in
theorem kb_29 : (c_29).all (ckB 29) = true := by decide +kernel
set_option maxRecDepth 100000 in
theorem kb_30 : (c_30).all (ckB 30) = true := by decide +kernel
set_option maxRecDepth 100000 in
theorem kb_31 : (c_31).all (ckB 31) = true := by decide +kernel
set_option maxRecDepth 100000 in
theorem kb_32 : (c_32).all (ckB 32) = true := by decide +kernel
set_option maxRecDepth 100000 in
theorem kb_33 : (c_33).all (ckB 33) = true := by decide +kernel
set_option maxRecDepth 100000 in
theorem kb_34 : (c_34).all (ckB 34) = true := by decide +kernel
set_option maxRecDepth 100000 in
theorem kb_35 : (c_35).all (ckB 35) = true := by decide +kernel
set_option maxRecDepth 100000 in
theorem kb_36 : (c_36).all (ckB 36) = true := by decide +kernel
set_option maxRecDepth 100000 in
theorem kb_37 : (c_37).all (ckB 37) = true := by decide +kernel
set_option maxRecDepth 100000 in
theorem kb_38 : (c_38).all (ckB 38) = true := by decide +kernel
set_option maxRecDepth 100000 in
theorem kb_39 : (c_39).all (ckB 39) = true := by decide +kernel
set_option maxRecDepth 100000 in
theorem kb_40 : (c_40).all (ckB 40) = true := by decide +kernel
set_option maxRecDepth 100000 in
theorem kb_41 : (c_41).all (ckB 41) = true := by decide +kernel
set_option maxRecDepth 100000 in
theorem kb_42 : (c_42).all (ckB 42) = true := by decide +kernel
set_option maxRecDepth 100000 in
theorem kb_43 : (c_43).all (ckB 43) = true := by decide +kernel
set_option maxRecDepth 100000 in
theorem kb_44 : (c_44).all (ckB 44) = true := by decide +kernel
set_option maxRecDepth 100000 in
theorem kb_45 : (c_45).all (ckB 45) = true := by decide +kernel
set_option maxRecDepth 100000 in
theorem kb_46 : (c_46).all (ckB 46) = true := by decide +kernel
set_option maxRecDepth 100000 in
theorem kb_47 : (c_47).all (ckB 47) = true := by decide +kernel
set_option maxRecDepth 100000 in
theorem kb_48 : (c_48).all (ckB 48) = true := by decide +kernel
set_option maxRecDepth 100000 in
theorem kb_49 : (c_49).all (ckB 49) = true := by decide +kernel
set_option maxRecDepth 100000 in
theorem kb_50 : (c_50).all (ckB 50) = true := by decide +kernel
set_option maxRecDepth 100000 in
theorem kb_51 : (c_51).all (ckB 51) = true := by decide +kernel
set_option maxRecDepth 100000 in
theorem kb_52 : (c_52).all (ckB 52) = true := by decide +kernel
set_option maxRecDepth 100000 in
theorem kb_53 : (c_53).all (ckB 53) = true := by decide +kernel
set_option maxRecDepth 100000 in
theorem kb_54 : (c_54).all (ckB 54) = true := by decide +kernel
set_option maxRecDepth 100000 in
theorem kb_55 : (c_55).all (ckB 55) = true := by decide +kernel
set_option maxRecDepth 100000 in
theorem kb_56 : (c_56).all (ckB 56) = true := by decide +kernel
set_option maxRecDepth 100000 in
theorem kb_57 : (c_57).all (ckB 57) = true := by decide +kernel
set_option maxRecDepth 100000 in
theorem kb_58 : (c_58).all (ckB 58) = true := by decide +kernel
set_option maxRecDepth 100000 in
theorem kb_59 : (c_59).all (ckB 59) = true := by decide +kernel
end
section
set_option maxRecDepth 100000 in
theorem kb_60 : (c_60).all (ckB 60) = true := by decide +kernel
set_option maxRecDepth 100000 in
theorem kb_61 : (c_61).all (ckB 61) = true := by decide +kernel
set_option maxRecDepth 100000 in
theorem kb_62 : (c_62).all (ckB 62) = true := by decide +kernel
set_option maxRecDepth 100000 in
theorem kb_63 : (c_63).all (ckB 63) = true := by decide +kernel
set_option maxRecDepth 100000 in
theorem kb_64 : (c_64).all (ckB 64) = true := by decide +kernel
set_option maxRecDepth 100000 in
theorem kb_65 : (c_65).all (ckB 65) = true := by decide +kernel
set_option maxRecDepth 100000 in
theorem kb_66 : (c_66).all (ckB 66) = true := by decide +kernel
set_option maxRecDepth 100000 in
theorem kb_67 : (c_67).all (ckB 67) = true := by decide +kernel
set_option maxRecDepth 100000 in
theorem kb_68 : (c_68).all (ckB 68) = true := by decide +kernel
set_option maxRecDepth 100000 in
theorem kb_69 : (c_69).all (ckB 69) = true := by decide +kernel
set_option maxRecDepth 100000 in
theorem kb_70 : (c_70).all (ckB 70) = true := by decide +kernel
set_option maxRecDepth 100000 in
theorem kb_71 : (c_71).all (ckB 71) = true := by decide +kernel
set_option maxRecDepth 100000 in
theorem kb_72 : (c_72).all (ckB 72) = true := by decide +kernel
set_option maxRecDepth 100000 in
theorem kb_73 : (c_73).all (ckB 73) = true := by decide +kernel
set_option maxRecDepth 100000 in
theorem kb_74 : (c_74).all (ckB 74) = true := by decide +kernel
set_option maxRecDepth 100000 in
theorem kb_75 : (c_75).all (ckB 75) = true := by decide +kernel
set_option maxRecDepth 100000 in
theorem kb_76 : (c_76).all (ckB 76) = true := by decide +kernel
set_option maxRecDepth 100000 in
theorem kb_77 : (c_77).all (ckB 77) = true := by decide +kernel
set_option maxRecDepth 100000 in
theorem kb_78 : (c_78).all (ckB 78) = true := by decide +kernel
set_option maxRecDepth 100000 in
theorem kb_79 : (c_79).all (ckB 79) = true := by decide +kernel
set_option maxRecDepth 100000 in
theorem kb_80 : (c_80).all (ckB 80) = true := by decide +kernel
set_option maxRecDepth 100000 in
theorem kb_81 : (c_81).all (ckB 81) = true := by decide +kernel
set_option maxRecDepth 100000 in
theorem kb_82 : (c_82).all (ckB 82) = true := by decide +kernel
set_option maxRecDepth 100000 in
theorem kb_83 : (c_83).all (ckB 83) = true := by decide +kernel
set_option maxRecDepth 100000 in
theorem kb_84 : (c_84).all (ckB 84) = true := by decide +kernel
set_option maxRecDepth 100000 in
theorem kb_85 : (c_85).all (ckB 85) = true := by decide +kernel
set_option maxRecDepth 100000 in
theorem kb_86 : (c_86).all (ckB 86) = true := by decide +kernel
set_option maxRecDepth 100000 in
theorem kb_87 : (c_87).all (ckB 87) = true := by decide +kernel
set_option maxRecDepth 100000 in
theorem kb_88 : (c_88).all (ckB 88) = true := by decide +kernel
set_option maxRecDepth 100000 in
theorem kb_89 : (c_89).all (ckB 89) = true := by decide +kernel
set_option maxRecDepth 100000 in
theorem kb_90 : (c_90).all (ckB 90) = true := by decide +kernel
set_option maxRecDepth 100000 in
theorem kb_91 : (c_91).all (ckB 91) = true := by decide +kernel
set_option maxRecDepth 100000 in
theorem kb_92 : (c_92).all (ckB 92) = true := by decide +kernel
set_option maxRecDepth 100000 in
theorem kb_93 : (c_93).all (ckB 93) = true := by decide +kernel
set_option maxRecDepth 100000 in
theorem kb_94 : (c_94).all (ckB 94) = true := by decide +kernel
set_option maxRecDepth 100000 in
theorem kb_95 : (c_95).all (ckB 95) = true := by decide +kernel
set_option maxRecDepth 100000 in
theorem kb_96 : (c_96).all (ckB 96) = true := by decide +kernel
set_option maxRecDepth 100000 in
theorem kb_97 : (c_97).all (ckB 97) = true := by decide +kernel
set_option maxRecDepth 100000 in
theorem kb_98 : (c_98).all (ckB 98) = true := by decide +kernel
set_option maxRecDepth 100000 in
theorem kb_99 : (c_99).all (ckB 99) = true := by decide +kernel
set_option maxRecDepth 100000 in
theorem kb_100 : (c_100).all (ckB 100) = true := by decide +kernel
set_option maxRecDepth 100000 in
theorem kb_101 : (c_101).all (ckB 101) = true := by decide +kernel
set_option maxRecDepth 100000 in
theorem kb_102 : (c_102).all (ckB 102) = true := by decide +kernel
set_option maxRecDepth 100000 in
theorem kb_103 : (c_103).all (ckB 103) = true := by decide +kernel
set_option maxRecDepth 100000 in
theorem kb_104 : (c_104).all (ckB 104) = true := by decide +kernel
end
section
set_option maxRecDepth 100000 in
theorem kb_105 : (c_105).all (ckB 105) = true := by decide +kernel
set_option maxRecDepth 100000 in
theorem kb_106 : (c_106).all (ckB 106) = true := by decide +kernel
set_option maxRecDepth 100000 in
theorem kb_107 : (c_107).all (ckB 107) = true := by decide +kernel
set_option maxRecDepth 100000 in
theorem kb_108 : (c_108).all (ckB 108) = true := by decide +kernel
set_option maxRecDepth 100000 in
theorem kb_109 : (c_109).all (ckB 109) = true := by decide +kernel
set_option maxRecDepth 100000 in
theorem kb_110 : (c_110).all (ckB 110) = true := by decide +kernel
set_option maxRecDepth 100000 in
theorem kb_111 : (c_111).all (ckB 111) = true := by decide +kernel
set_option maxRecDepth 100000 in
theorem kb_112 : (c_112).all (ckB 112) = true := by decide +kernel
set_option maxRecDepth 100000 in
theorem kb_113 : (c_113).all (ckB 113) = true := by decide +kernel
set_option maxRecDepth 100000 in
theorem kb_114 : (c_114).all (ckB 114) = true := by decide +kernel
set_option maxRecDepth 100000 in
theorem kb_115 : (c_115).all (ckB 115) = true := by decide +kernel
set_option maxRecDepth 100000 in
theorem kb_116 : (c_116).all (ckB 116) = true := by decide +kernel
set_option maxRecDepth 100000 in
theorem kb_117 : (c_117).all (ckB 117) = true := by decide +kernel
set_option maxRecDepth 100000 in
theorem kb_118 : (c_118).all (ckB 118) = true := by decide +kernel
set_option maxRecDepth 100000 in
theorem kb_119 : (c_119).all (ckB 119) = true := by decide +kernel
set_option maxRecDepth 100000 in
theorem kb_120 : (c_120).all (ckB 120) = true := by decide +kernel
set_option maxRecDepth 100000 in
theorem kb_121 : (c_121).all (ckB 121) = true := by decide +kernel
set_option maxRecDepth 100000 in
theorem kb_122 : (c_122).all (ckB 122) = true := by decide +kernel
set_option maxRecDepth 100000 in
theorem kb_123 : (c_123).all (ckB 123) = true := by decide +kernel
set_option maxRecDepth 100000 in
theorem kb_124 : (c_124).all (ckB 124) = true := by decide +kernel
set_option maxRecDepth 100000 in
theorem kb_125 : (c_125).all (ckB 125) = true := by decide +kernel
set_option maxRecDepth 100000 in
theorem kb_126 : (c_126).all (ckB 126) = true := by decide +kernel
set_option maxRecDepth 100000 in
theorem kb_127 : (c_127).all (ckB 127) = true := by decide +kernel
set_option maxRecDepth 100000 in
theorem kb_128 : (c_128).all (ckB 128) = true := by decide +kernel
set_option maxRecDepth 100000 in
theorem kb_129 : (c_129).all (ckB 129) = true := by decide +kernel
set_option maxRecDepth 100000 in
theorem kb_130 : (c_130).all (ckB 130) = true := by decide +kernel
set_option maxRecDepth 100000 in
theorem kb_131 : (c_131).all (ckB 131) = true := by decide +kernel
set_option maxRecDepth 100000 in
theorem kb_132 : (c_132).all (ckB 132) = true := by decide +kernel
set_option maxRecDepth 100000 in
theorem kb_133 : (c_133).all (ckB 133) = true := by decide +kernel
set_option maxRecDepth 100000 in
theorem kb_134 : (c_134).all (ckB 134) = true := by decide +kernel
set_option maxRecDepth 100000 in
theorem kb_135 : (c_135).all (ckB 135) = true := by decide +kernel
set_option maxRecDepth 100000 in
theorem kb_136 : (c_136).all (ckB 136) = true := by decide +kernel
set_option maxRecDepth 100000 in
theorem kb_137 : (c_137).all (ckB 137) = true := by decide +kernel
set_option maxRecDepth 100000 in
theorem kb_138 : (c_138).all (ckB 138) = true := by decide +kernel
set_option maxRecDepth 100000 in
theorem kb_139 : (c_139).all (ckB 139) = true := by decide +kernel
set_option maxRecDepth 100000 in
theorem kb_140 : (c_140).all (ckB 140) = true := by decide +kernel
set_option maxRecDepth 100000 in
theorem kb_141 : (c_141).all (ckB 141) = true := by decide +kernel
end
section
set_option maxRecDepth 100000 in
theorem kb_142 : (c_142).all (ckB 142) = true := by decide +kernel
theorem kb_all (M : Nat) (h : M < 143) : (x_code.getD M []).all (ckB M) = true := by
  match M, h with
  | 0, _ => exact kb_0
  | 1, _ => exact kb_1
  | 2, _ => exact kb_2
  | 3, _ => exact kb_3
  | 4, _ => exact kb_4
  | 5, _ => exact kb_5
  | 6, _ => exact kb_6
  | 7, _ => exact kb_7
  | 8, _ => exact kb_8
  | 9, _ => exact kb_9
  | 10, _ => exact kb_10
  | 11, _ => exact kb_11
  | 12, _ => exact kb_12
  | 13, _ => exact kb_13
  | 14, _ => exact kb_14
  | 15, _ => exact kb_15
  | 16, _ => exact kb_16
  | 17, _ => exact kb_17
  | 18, _ => exact kb_18
  | 19, _ => exact kb_19
  | 20, _ => exact kb_20
  | 21, _ => exact kb_21
  | 22, _ => exact kb_22
  | 23, _ => exact kb_23
  | 24, _ => exact kb_24
  | 25, _ => exact kb_25
  | 26, _ => exact kb_26
  | 27, _ => exact kb_27
  | 28, _ => exact kb_28
  | 29, _ => exact kb_29
  | 30, _ => exact kb_30
  | 31, _ => exact kb_31
  | 32, _ => exact kb_32
  | 33, _ => exact kb_33
  | 34, _ => exact kb_34
  | 35, _ => exact kb_35
  | 36, _ => exact kb_36
  | 37, _ => exact kb_37
  | 38, _ => exact kb_38
  | 39, _ => exact kb_39
  | 40, _ => exact kb_40
  | 41, _ => exact kb_41
  | 42, _ => exact kb_42
  | 43, _ => exact kb_43
  | 44, _ => exact kb_44
  | 45, _ => exact kb_45
  | 46, _ => exact kb_46
  | 47, _ => exact kb_47
  | 48, _ => exact kb_48
  | 49, _ => exact kb_49
  | 50, _ => exact kb_50
  | 51, _ => exact kb_51
  | 52, _ => exact kb_52
  | 53, _ => exact kb_53
  | 54, _ => exact kb_54
  | 55, _ => exact kb_55
  | 56, _ => exact kb_56
  | 57, _ => exact kb_57
  | 58, _ => exact kb_58
  | 59, _ => exact kb_59
  | 60, _ => exact kb_60
  | 61, _ => exact kb_61
  | 62, _ => exact kb_62
  | 63, _ => exact kb_63
  | 64, _ => exact kb_64
  | 65, _ => exact kb_65
  | 66, _ => exact kb_66
  | 67, _ => exact kb_67
  | 68, _ => exact kb_68
  | 69, _ => exact kb_69
  | 70, _ => exact kb_70
  | 71, _ => exact kb_71
  | 72, _ => exact kb_72
  | 73, _ => exact kb_73
  | 74, _ => exact kb_74
  | 75, _ => exact kb_75
  | 76, _ => exact kb_76
  | 77, _ => exact kb_77
  | 78, _ => exact kb_78
  | 79, _ => exact kb_79
  | 80, _ => exact kb_80
  | 81, _ => exact kb_81
  | 82, _ => exact kb_82
  | 83, _ => exact kb_83
  | 84, _ => exact kb_84
  | 85, _ => exact kb_85
  | 86, _ => exact kb_86
  | 87, _ => exact kb_87
  | 88, _ => exact kb_88
  | 89, _ => exact kb_89
  | 90, _ => exact kb_90
  | 91, _ => exact kb_91
  | 92, _ => exact kb_92
  | 93, _ => exact kb_93
  | 94, _ => exact kb_94
  | 95, _ => exact kb_95
  | 96, _ => exact kb_96
  | 97, _ => exact kb_97
  | 98, _ => exact kb_98
  | 99, _ => exact kb_99
  | 100, _ => exact kb_100
  | 101, _ => exact kb_101
  | 102, _ => exact kb_102
  | 103, _ => exact kb_103
  | 104, _ => exact kb_104
  | 105, _ => exact kb_105
  | 106, _ => exact kb_106
  | 107, _ => exact kb_107
  | 108, _ => exact kb_108
  | 109, _ => exact kb_109
  | 110, _ => exact kb_110
  | 111, _ => exact kb_111
  | 112, _ => exact kb_112
  | 113, _ => exact kb_113
  | 114, _ => exact kb_114
  | 115, _ => exact kb_115
  | 116, _ => exact kb_116
  | 117, _ => exact kb_117
  | 118, _ => exact kb_118
  | 119, _ => exact kb_119
  | 120, _ => exact kb_120
  | 121, _ => exact kb_121
  | 122, _ => exact kb_122
  | 123, _ => exact kb_123
  | 124, _ => exact kb_124
  | 125, _ => exact kb_125
  | 126, _ => exact kb_126
  | 127, _ => exact kb_127
  | 128, _ => exact kb_128
  | 129, _ => exact kb_129
  | 130, _ => exact kb_130
  | 131, _ => exact kb_131
  | 132, _ => exact kb_132
  | 133, _ => exact kb_133
  | 134, _ => exact kb_134
  | 135, _ => exact kb_135
  | 136, _ => exact kb_136
  | 137, _ => exact kb_137
  | 138, _ => exact kb_138
  | 139, _ => exact kb_139
  | 140, _ => exact kb_140
  | 141, _ => exact kb_141
  | 142, _ => exact kb_142
  | n + 143, h => exact absurd h (by omega)
theorem mem_of_lookup {α : Type} {k : Nat} {v : α} : ∀ {l : List (Nat × α)}, l.lookup k = some v → (k, v) ∈ l
  | [], h => by cases h
  | (a, b) :: l, h => by
    rw [List.lookup_cons] at h
    split at h
    · rename_i e
      have e : k = a := by simpa using e
      cases h
      rw [e]
      exact List.mem_cons_self
    · exact List.mem_cons_of_mem _ (mem_of_lookup h)
theorem fetch_ok {M pc : Nat} {e : EI} (h : fetch M pc = some e) : M < 143 ∧ decode (mB M) pc = .ok (e.1, e.2.1) ∧ ckI M pc e = true := by
  unfold fetch at h
  have hM : M < 143 := by
    rcases Nat.lt_or_ge M 143 with q | q
    · exact q
    · rw [List.getD_eq_getElem?_getD, List.getElem?_eq_none (by simpa [x_code] using q)] at h
      cases h
  have h2 := List.all_eq_true.mp (kb_all M hM) _ (mem_of_lookup h)
  unfold ckB at h2
  simp only [Bool.and_eq_true, decide_eq_true_eq] at h2
  exact ⟨hM, h2.1, h2.2⟩
theorem st_hs : ∀ M, M < 143 → hsOK (mO M) (mX M) (mH M) := by
  have h0 : ∀ M, M < 143 → (mX M = [] ∧ mH M = []) ∨ M ∈ [5, 18, 135, 136, 137, 138, 139, 140, 141] := by decide +kernel
  intro M hM
  rcases h0 M hM with ⟨h1, h2⟩ | h
  · rw [h1, h2]; trivial
  · simp only [List.mem_cons, List.not_mem_nil, or_false] at h
    rcases h with rfl | rfl | rfl | rfl | rfl | rfl | rfl | rfl | rfl
    · exact ⟨⟨rfl, rfl, rfl, by decide, by decide, by decide +kernel⟩, trivial⟩
    · exact ⟨⟨rfl, rfl, rfl, by decide, by decide, by decide +kernel⟩, ⟨⟨rfl, rfl, rfl, by decide, by decide, by decide +kernel⟩, trivial⟩⟩
    · exact ⟨⟨rfl, rfl, rfl, by decide, by decide, by decide +kernel⟩, ⟨⟨rfl, rfl, rfl, by decide, by decide, by decide +kernel⟩, trivial⟩⟩
    · exact ⟨⟨rfl, rfl, rfl, by decide, by decide, by decide +kernel⟩, trivial⟩
    · exact ⟨⟨rfl, rfl, rfl, by decide, by decide, by decide +kernel⟩, ⟨⟨rfl, rfl, rfl, by decide, by decide, by decide +kernel⟩, ⟨⟨rfl, rfl, rfl, by decide, by decide, by decide +kernel⟩, trivial⟩⟩⟩
    · exact ⟨⟨rfl, rfl, rfl, by decide, by decide, by decide +kernel⟩, ⟨⟨rfl, rfl, rfl, by decide, by decide, by decide +kernel⟩, trivial⟩⟩
    · exact ⟨⟨rfl, rfl, rfl, by decide, by decide, by decide +kernel⟩, ⟨⟨rfl, rfl, rfl, by decide, by decide, by decide +kernel⟩, trivial⟩⟩
    · exact ⟨⟨rfl, rfl, rfl, by decide, by decide, by decide +kernel⟩, ⟨⟨rfl, rfl, rfl, by decide, by decide, by decide +kernel⟩, trivial⟩⟩
    · exact ⟨⟨rfl, rfl, rfl, by decide, by decide, by decide +kernel⟩, ⟨⟨rfl, rfl, rfl, by decide, by decide, by decide +kernel⟩, ⟨⟨rfl, rfl, rfl, by decide, by decide, by decide +kernel⟩, trivial⟩⟩⟩
end
section
/-! ===== SOUNDNESS: what Ev says holds of the machine ===== -/
section SND
variable {l : Launch} {dC : Nat → ClassId} {dI : Nat → Nat → Nat} {dA : Nat → ClassId} {b0 : Nat}
theorem fgt_I {h : AH} {a f : Nat} (hf : f % 4 = 0 ∨ f % 4 = 3) : fgt h a f = vI (hI h a f) := by
  rcases hf with e | e <;> simp only [fgt, e]
theorem fgt_L {h : AH} {a f : Nat} (hf : f % 4 = 1) : fgt h a f = vL (hL h a f) := by simp only [fgt, hf]
theorem fgt_R {h : AH} {a f : Nat} (hf : f % 4 = 2) : fgt h a f = vR (hR h a f) := by simp only [fgt, hf]
theorem fgt_oI {h : AH} {a f g : Nat} {x : Int32} (hg : g ≠ f) : fgt (wI h a f x) a g = fgt h a g := by
  unfold fgt; rw [hL_wI, hR_wI, hI_wI, if_neg (fun z => hg z.2)]
theorem fgt_oL {h : AH} {a f g : Nat} {x : Int64} (hg : g ≠ f) : fgt (wL h a f x) a g = fgt h a g := by
  unfold fgt; rw [hI_wL, hR_wL, hL_wL, if_neg (fun z => hg z.2)]
theorem fgt_oR {h : AH} {a f g : Nat} {x : Option Nat} (hg : g ≠ f) : fgt (wR h a f x) a g = fgt h a g := by
  unfold fgt; rw [hI_wR, hL_wR, hR_wR, if_neg (fun z => hg z.2)]
theorem rv_drop {st : List AV} {n : Nat} {b : AV} {rest : List AV} (hn : n ≤ st.length) (hd : st.drop n = b :: rest) : (st.take n).reverse.reverse ++ b :: rest = st := by
  rw [List.reverse_reverse, ← hd, List.take_append_drop]
set_option maxHeartbeats 4000000 in
theorem snd_closed (hfl : l.stackTraces = false) : ∀ d M pc ls st h P, stpQ (SX l dC dI dA b0) d M pc ls st h P → SX l dC dI dA b0 d M pc ls st h P := by
  intro d M pc ls st h P k
  unfold stpQ at k
  cases hf : fetch M pc with
  | none => rw [hf] at k; exact k.elim
  | some e =>
    rw [hf] at k
    obtain ⟨hM, hd, hc⟩ := fetch_ok hf
    have hs := st_hs M hM
    obtain ⟨i, ln, aux, cv, L⟩ := e
    dsimp only at hd k
    cases i with
    | aconst_null => cases (beq_iff_eq.mp hc : ln = 1); exact sx_null hd k
    | iconst n =>
      simp only [ckI, Bool.and_eq_true, beq_iff_eq, decide_eq_true_eq] at hc
      obtain ⟨rfl, rfl⟩ := hc
      exact sx_iconst hd rfl k
    | bipush n =>
      simp only [ckI, Bool.and_eq_true, beq_iff_eq, decide_eq_true_eq] at hc
      obtain ⟨rfl, rfl⟩ := hc
      exact sx_bipush hd rfl k
    | sipush n =>
      simp only [ckI, Bool.and_eq_true, beq_iff_eq, decide_eq_true_eq] at hc
      obtain ⟨rfl, rfl⟩ := hc
      exact sx_sipush hd rfl k
    | lconst n =>
      simp only [ckI, Bool.and_eq_true, beq_iff_eq, decide_eq_true_eq] at hc
      obtain ⟨rfl, rfl⟩ := hc
      exact sx_lconst hd rfl k
    | ldc i =>
      simp only [ckI, Bool.and_eq_true, beq_iff_eq, Bool.or_eq_true] at hc
      obtain ⟨rfl, hc⟩ := hc
      obtain ⟨hz, k⟩ := k
      have hz : aux = 0 := hz
      have hc := hc.resolve_left (by omega)
      rcases cv with v | v | v | v
      · exact sx_ldc hd (lk_Ki_ok hc) k
      · cases hc
      · cases hc
      · cases hc
    | ldc2_w i =>
      simp only [ckI, Bool.and_eq_true, beq_iff_eq] at hc
      obtain ⟨rfl, hc⟩ := hc
      rcases cv with v | v | v | v
      · cases hc
      · exact sx_ldc2 hd (lk_Kl_ok hc) k
      · cases hc
      · cases hc
    | iload i =>
      simp only [ckI, Bool.and_eq_true, beq_iff_eq] at hc
      obtain ⟨rfl, rfl⟩ := hc
      obtain ⟨x, r, hx, k⟩ := pI_inv k
      exact sx_iload hd (List.cons.inj hx).1 k
    | iload_n n =>
      simp only [ckI, Bool.and_eq_true, beq_iff_eq] at hc
      obtain ⟨rfl, rfl⟩ := hc
      obtain ⟨x, r, hx, k⟩ := pI_inv k
      exact sx_iload_n hd (List.cons.inj hx).1 k
    | lload i =>
      simp only [ckI, Bool.and_eq_true, beq_iff_eq] at hc
      obtain ⟨rfl, rfl⟩ := hc
      obtain ⟨x, r, hx, k⟩ := pL_inv k
      exact sx_lload hd (List.cons.inj hx).1 k
    | lload_n n =>
      simp only [ckI, Bool.and_eq_true, beq_iff_eq] at hc
      obtain ⟨rfl, rfl⟩ := hc
      obtain ⟨x, r, hx, k⟩ := pL_inv k
      exact sx_lload_n hd (List.cons.inj hx).1 k
    | aload i =>
      simp only [ckI, Bool.and_eq_true, beq_iff_eq] at hc
      obtain ⟨rfl, rfl⟩ := hc
      obtain ⟨x, r, hx, k⟩ := pR_inv k
      exact sx_aload hd (List.cons.inj hx).1 k
    | aload_n n =>
      simp only [ckI, Bool.and_eq_true, beq_iff_eq] at hc
      obtain ⟨rfl, rfl⟩ := hc
      obtain ⟨x, r, hx, k⟩ := pR_inv k
      exact sx_aload_n hd (List.cons.inj hx).1 k
    | istore i =>
      simp only [ckI, Bool.and_eq_true, beq_iff_eq, decide_eq_true_eq] at hc
      obtain ⟨⟨rfl, rfl⟩, h3⟩ := hc
      obtain ⟨x, r, rfl, k⟩ := pI_inv k
      exact sx_istore hd h3 k
    | istore_n n =>
      simp only [ckI, Bool.and_eq_true, beq_iff_eq, decide_eq_true_eq] at hc
      obtain ⟨⟨rfl, rfl⟩, h3⟩ := hc
      obtain ⟨x, r, rfl, k⟩ := pI_inv k
      exact sx_istore_n hd h3 k
    | lstore i =>
      simp only [ckI, Bool.and_eq_true, beq_iff_eq, decide_eq_true_eq] at hc
      obtain ⟨⟨rfl, rfl⟩, h3⟩ := hc
      obtain ⟨x, r, rfl, k⟩ := pL_inv k
      exact sx_lstore hd h3 k
    | lstore_n n =>
      simp only [ckI, Bool.and_eq_true, beq_iff_eq, decide_eq_true_eq] at hc
      obtain ⟨⟨rfl, rfl⟩, h3⟩ := hc
      obtain ⟨x, r, rfl, k⟩ := pL_inv k
      exact sx_lstore_n hd h3 k
    | astore i =>
      simp only [ckI, Bool.and_eq_true, beq_iff_eq, decide_eq_true_eq] at hc
      obtain ⟨⟨rfl, rfl⟩, h3⟩ := hc
      obtain ⟨x, r, rfl, k⟩ := pR_inv k
      exact sx_astore hd h3 k
    | astore_n n =>
      simp only [ckI, Bool.and_eq_true, beq_iff_eq, decide_eq_true_eq] at hc
      obtain ⟨⟨rfl, rfl⟩, h3⟩ := hc
      obtain ⟨x, r, rfl, k⟩ := pR_inv k
      exact sx_astore_n hd h3 k
    | iinc i n =>
      simp only [ckI, Bool.and_eq_true, beq_iff_eq, decide_eq_true_eq] at hc
      obtain ⟨⟨⟨rfl, rfl⟩, h3⟩, rfl⟩ := hc
      obtain ⟨x, r, hx, k⟩ := pI_inv k
      exact sx_iinc hd h3 (List.cons.inj hx).1 rfl k
    | iadd => cases (beq_iff_eq.mp hc : ln = 1); obtain ⟨y, r, rfl, k⟩ := pI_inv k; obtain ⟨x, r, rfl, k⟩ := pI_inv k; exact sx_iadd hd k
    | isub => cases (beq_iff_eq.mp hc : ln = 1); obtain ⟨y, r, rfl, k⟩ := pI_inv k; obtain ⟨x, r, rfl, k⟩ := pI_inv k; exact sx_isub hd k
    | imul => cases (beq_iff_eq.mp hc : ln = 1); obtain ⟨y, r, rfl, k⟩ := pI_inv k; obtain ⟨x, r, rfl, k⟩ := pI_inv k; exact sx_imul hd k
    | iand => cases (beq_iff_eq.mp hc : ln = 1); obtain ⟨y, r, rfl, k⟩ := pI_inv k; obtain ⟨x, r, rfl, k⟩ := pI_inv k; exact sx_iand hd k
    | idiv => cases (beq_iff_eq.mp hc : ln = 1); obtain ⟨y, r, rfl, k⟩ := pI_inv k; obtain ⟨x, r, rfl, k⟩ := pI_inv k; exact sx_idiv hd k.1 k.2
    | ladd => cases (beq_iff_eq.mp hc : ln = 1); obtain ⟨y, r, rfl, k⟩ := pL_inv k; obtain ⟨x, r, rfl, k⟩ := pL_inv k; exact sx_ladd hd k
    | lor => cases (beq_iff_eq.mp hc : ln = 1); obtain ⟨y, r, rfl, k⟩ := pL_inv k; obtain ⟨x, r, rfl, k⟩ := pL_inv k; exact sx_lor hd k
    | lshl => cases (beq_iff_eq.mp hc : ln = 1); obtain ⟨y, r, rfl, k⟩ := pI_inv k; obtain ⟨x, r, rfl, k⟩ := pL_inv k; exact sx_lshl hd k
    | lcmp => cases (beq_iff_eq.mp hc : ln = 1); obtain ⟨y, r, rfl, k⟩ := pL_inv k; obtain ⟨x, r, rfl, k⟩ := pL_inv k; exact sx_lcmp hd k
    | i2l => cases (beq_iff_eq.mp hc : ln = 1); obtain ⟨y, r, rfl, k⟩ := pI_inv k; exact sx_i2l hd k
    | pop =>
      cases (beq_iff_eq.mp hc : ln = 1)
      rcases k with k | k
      · obtain ⟨y, r, rfl, k⟩ := pI_inv k; exact sx_popvI hd k
      · obtain ⟨y, r, rfl, k⟩ := pR_inv k; exact sx_popvR hd k
    | dup =>
      cases (beq_iff_eq.mp hc : ln = 1)
      rcases k with k | k
      · obtain ⟨y, r, rfl, k⟩ := pI_inv k; exact sx_dupvI hd k
      · obtain ⟨y, r, rfl, k⟩ := pR_inv k; exact sx_dupvR hd k
    | dup_x1 => cases (beq_iff_eq.mp hc : ln = 1); obtain ⟨y, r, rfl, k⟩ := pI_inv k; obtain ⟨x, r, rfl, k⟩ := pR_inv k; exact sx_dup_x1 hd k
    | dup2 => cases (beq_iff_eq.mp hc : ln = 1); obtain ⟨y, r, rfl, k⟩ := pI_inv k; obtain ⟨x, r, rfl, k⟩ := pR_inv k; exact sx_dup2 hd k
    | ifCond co off =>
      simp only [ckI, Bool.and_eq_true, beq_iff_eq, decide_eq_true_eq] at hc
      obtain ⟨rfl, h2⟩ := hc
      obtain ⟨x, r, rfl, k⟩ := pI_inv k
      exact sx_if hd h2 k.1 k.2
    | if_icmp co off =>
      simp only [ckI, Bool.and_eq_true, beq_iff_eq, decide_eq_true_eq] at hc
      obtain ⟨rfl, h2⟩ := hc
      obtain ⟨y, r, rfl, k⟩ := pI_inv k
      obtain ⟨x, r, rfl, k⟩ := pI_inv k
      exact sx_icmp hd h2 k.1 k.2
    | ifnull off =>
      simp only [ckI, Bool.and_eq_true, beq_iff_eq, decide_eq_true_eq] at hc
      obtain ⟨rfl, h2⟩ := hc
      obtain ⟨y, r, rfl, k⟩ := pR_inv k
      exact sx_ifnull hd h2 k.1 k.2
    | ifnonnull off =>
      simp only [ckI, Bool.and_eq_true, beq_iff_eq, decide_eq_true_eq] at hc
      obtain ⟨rfl, h2⟩ := hc
      obtain ⟨y, r, rfl, k⟩ := pR_inv k
      exact sx_ifnonnull hd h2 k.1 k.2
    | goto off =>
      simp only [ckI, Bool.and_eq_true, beq_iff_eq, decide_eq_true_eq] at hc
      obtain ⟨rfl, h2⟩ := hc
      exact sx_goto hd h2 k
    | tableswitch df lo hi offs =>
      simp only [ckI, Bool.and_eq_true, beq_iff_eq, decide_eq_true_eq] at hc
      obtain ⟨⟨⟨⟨⟨h1, h2⟩, h3⟩, h4⟩, h5⟩, h6⟩ := hc
      obtain ⟨x, r, rfl, k⟩ := pI_inv k
      obtain ⟨lo', r', hlo, k⟩ := pI_inv k
      have hlo : cv = vI lo' := (List.cons.inj hlo).1
      subst hlo
      exact sx_switch hd (of_decide_eq_true h2) h3 h4 h1 h5 h6 k.1 k.2
    | getfield i =>
      simp only [ckI, Bool.and_eq_true, beq_iff_eq] at hc
      obtain ⟨rfl, h2⟩ := hc
      obtain ⟨a, r, rfl, k⟩ := pA_inv k
      exact sx_getf hd (lk_F_ok h2) k.1 k.2
    | putfield i =>
      simp only [ckI, Bool.and_eq_true, Bool.or_eq_true, beq_iff_eq, decide_eq_true_eq] at hc
      obtain ⟨⟨⟨rfl, h2⟩, h3⟩, h4⟩ := hc
      have k : (match aux % 4 with
        | 0 => pI st fun x st => pA st fun a st => fok h a aux ∧ SX l dC dI dA b0 d M (pc + 3) ls st (wI h a aux x) P
        | 1 => pL st fun x st => pA st fun a st => fok h a aux ∧ SX l dC dI dA b0 d M (pc + 3) ls st (wL h a aux x) P
        | 2 => pR st fun x st => pA st fun a st => fok h a aux ∧ SX l dC dI dA b0 d M (pc + 3) ls st (wR h a aux x) P
        | _ => pI st fun x st => pA st fun a st => isB x ∧ fok h a aux ∧ SX l dC dI dA b0 d M (pc + 3) ls st (wI h a aux x) P) := k
      unfold kOK at h4
      split at k
      · rename_i e
        rw [e] at h4
        obtain ⟨x, r, rfl, k⟩ := pI_inv k
        obtain ⟨a, r, rfl, k⟩ := pA_inv k
        have ht : fty aux = .int := of_decide_eq_true h4
        exact sx_putf (v := vI x) (h' := wI h a aux x) hd (lk_F_ok h2) h3 k.1 (by rw [ht]; rfl) (by rw [ht]; rfl) rfl rfl rfl rfl wI_ne (fun _ _ => rfl) (fun _ _ => rfl) (by rw [fgt_I (Or.inl e), hI_wI, if_pos ⟨rfl, rfl⟩]) (fun g hg => fgt_oI hg) k.2
      · rename_i e
        rw [e] at h4
        obtain ⟨x, r, rfl, k⟩ := pL_inv k
        obtain ⟨a, r, rfl, k⟩ := pA_inv k
        have ht : fty aux = .long := of_decide_eq_true h4
        exact sx_putf (v := vL x) (h' := wL h a aux x) hd (lk_F_ok h2) h3 k.1 (by rw [ht]; rfl) (by rw [ht]; rfl) rfl rfl rfl rfl (fun _ _ => rfl) wL_ne (fun _ _ => rfl) (by rw [fgt_L e, hL_wL, if_pos ⟨rfl, rfl⟩]) (fun g hg => fgt_oL hg) k.2
      · rename_i e
        rw [e] at h4
        obtain ⟨x, r, rfl, k⟩ := pR_inv k
        obtain ⟨a, r, rfl, k⟩ := pA_inv k
        have hn : narrow (fty aux) (va_rf x) = va_rf x ∧ fits (fty aux) (va_rf x) = true := by
          have h4 : isRefTy (fty aux) = true := h4
          cases hft : fty aux <;> rw [hft] at h4 <;> first | (cases h4; done) | (cases x <;> exact ⟨rfl, rfl⟩)
        exact sx_putf (v := vR x) (h' := wR h a aux x) hd (lk_F_ok h2) h3 k.1 hn.1 hn.2 rfl rfl rfl rfl (fun _ _ => rfl) (fun _ _ => rfl) wR_ne (by rw [fgt_R e, hR_wR, if_pos ⟨rfl, rfl⟩]) (fun g hg => fgt_oR hg) k.2
      · rename_i e0 e1 e2
        have e3 : aux % 4 = 3 := by
          have := Nat.mod_lt aux (show 0 < 4 by decide)
          have q0 : aux % 4 ≠ 0 := fun z => e0 z
          have q1 : aux % 4 ≠ 1 := fun z => e1 z
          have q2 : aux % 4 ≠ 2 := fun z => e2 z
          omega
        rw [e3] at h4
        obtain ⟨x, r, rfl, k⟩ := pI_inv k
        obtain ⟨a, r, rfl, k⟩ := pA_inv k
        have ht : fty aux = .boolean := of_decide_eq_true h4
        have hfi : fits .boolean (.int x) = true := by rcases k.1 with rfl | rfl <;> decide +kernel
        exact sx_putf (v := vI x) (h' := wI h a aux x) hd (lk_F_ok h2) h3 k.2.1 (by rw [ht]; exact nar_B k.1) (by rw [ht]; exact hfi) rfl rfl rfl rfl wI_ne (fun _ _ => rfl) (fun _ _ => rfl) (by rw [fgt_I (Or.inr e3), hI_wI, if_pos ⟨rfl, rfl⟩]) (fun g hg => fgt_oI hg) k.2.2
    | iaload => cases (beq_iff_eq.mp hc : ln = 1); obtain ⟨i, r, rfl, k⟩ := pI_inv k; obtain ⟨a, r, rfl, k⟩ := pA_inv k; exact sx_iald hd k.1 k.2
    | baload => cases (beq_iff_eq.mp hc : ln = 1); obtain ⟨i, r, rfl, k⟩ := pI_inv k; obtain ⟨a, r, rfl, k⟩ := pA_inv k; exact sx_bald hd k.1 k.2
    | laload => cases (beq_iff_eq.mp hc : ln = 1); obtain ⟨i, r, rfl, k⟩ := pI_inv k; obtain ⟨a, r, rfl, k⟩ := pA_inv k; exact sx_lald hd k.1 k.2
    | aaload => cases (beq_iff_eq.mp hc : ln = 1); obtain ⟨i, r, rfl, k⟩ := pI_inv k; obtain ⟨a, r, rfl, k⟩ := pA_inv k; exact sx_aald hd k.1 k.2
    | iastore => cases (beq_iff_eq.mp hc : ln = 1); obtain ⟨x, r, rfl, k⟩ := pI_inv k; obtain ⟨i, r, rfl, k⟩ := pI_inv k; obtain ⟨a, r, rfl, k⟩ := pA_inv k; exact sx_iast hd k.1 k.2
    | bastore => cases (beq_iff_eq.mp hc : ln = 1); obtain ⟨x, r, rfl, k⟩ := pI_inv k; obtain ⟨i, r, rfl, k⟩ := pI_inv k; obtain ⟨a, r, rfl, k⟩ := pA_inv k; exact sx_bast hd k.1 k.2.1 k.2.2
    | lastore => cases (beq_iff_eq.mp hc : ln = 1); obtain ⟨x, r, rfl, k⟩ := pL_inv k; obtain ⟨i, r, rfl, k⟩ := pI_inv k; obtain ⟨a, r, rfl, k⟩ := pA_inv k; exact sx_last hd k.1 k.2
    | aastore => cases (beq_iff_eq.mp hc : ln = 1); obtain ⟨x, r, rfl, k⟩ := pR_inv k; obtain ⟨i, r, rfl, k⟩ := pI_inv k; obtain ⟨a, r, rfl, k⟩ := pA_inv k; exact sx_aast hd k.1 k.2
    | arraylength => cases (beq_iff_eq.mp hc : ln = 1); obtain ⟨a, r, rfl, ty, n, k1, k2, k3⟩ := pA_inv k; exact sx_alen hd k1 k2 k3
    | newarray at_ =>
      simp only [ckI, Bool.and_eq_true, beq_iff_eq, decide_eq_true_eq] at hc
      obtain ⟨⟨rfl, h2⟩, h3⟩ := hc
      obtain ⟨n, r, rfl, k⟩ := pI_inv k
      have hw : Jvm.Cond.arrayClass (aty aux) ∈ lw_tbl := by
        rcases (show aux = 0 ∨ aux = 1 ∨ aux = 2 by omega) with rfl | rfl | rfl <;> decide +kernel
      exact sx_newa hd h2 h3 hw k.1 k.2.1 k.2.2.1 k.2.2.2.1 k.2.2.2.2
    | anewarray i =>
      simp only [ckI, Bool.and_eq_true, beq_iff_eq] at hc
      obtain ⟨rfl, h2⟩ := hc
      obtain ⟨n, r, rfl, k⟩ := pI_inv k
      obtain ⟨g1, g2, g3, g4⟩ := lk_A_ok h2
      exact sx_anew hd g1 g2 g3 g4 k.1 k.2.1 k.2.2.1 k.2.2.2.1 k.2.2.2.2
    | new i =>
      simp only [ckI, Bool.and_eq_true, beq_iff_eq] at hc
      obtain ⟨rfl, h2⟩ := hc
      have k : (match decide (aux < 50) with
        | true => 1 ≤ hC h ∧ nSlots aux ≤ hS h ∧ SX l dC dI dA b0 d M (pc + 3) ls (vR (some (hN h)) :: st) (al h (aux, 0) (nSlots aux)) P
        | false => 1 ≤ hC h ∧ 6 ≤ hS h ∧ st.length ≤ 4 ∧ P (.inr (hN h)) (al h (aux - 10, 0) 6)) := k
      cases hlt : decide (aux < 50) with
      | true =>
        rw [hlt] at k h2
        obtain ⟨g1, g2⟩ := lk_N_ok h2
        exact sx_new hd g1 g2 k.1 k.2.1 k.2.2
      | false =>
        rw [hlt] at k h2
        have h2 : ckN M pc i aux = true := h2
        unfold ckN at h2
        split at h2
        · rename_i j _ ic _ e1 e2
          simp only [Bool.and_eq_true, decide_eq_true_eq] at h2
          obtain ⟨⟨⟨⟨⟨⟨h0, h3⟩, h4⟩, h5⟩, h6⟩, h7⟩, h8⟩ := h2
          obtain ⟨g1, ⟨tx, g2⟩, g3, g4⟩ := lk_X_ok h7
          have hout : ∀ x ∈ mX M, ¬ (x.1 ≤ pc + 9 ∧ pc + 9 < x.2.1) := by
            intro x hx hh
            have := List.all_eq_true.mp h8 x hx
            rw [Nat.ble_eq_true_of_le hh.1] at this
            have h9 : Nat.blt (pc + 9) x.2.1 = true := by rw [Nat.blt_eq]; exact hh.2
            rw [h9] at this
            cases this
          have e9 : aux - 10 = 50 + (aux - 60) := by omega
          have k4 : P (.inr (hN h)) (al h (50 + (aux - 60), 0) 6) := by rw [← e9]; exact k.2.2.2
          exact sx_exc hfl hd h3 h4 h5 h6 g1 g3 g2 g4 hout k.1 k.2.1 k.2.2.1 k4
        · cases h2
    | invokevirtual i =>
      simp only [ckI, Bool.and_eq_true, beq_iff_eq] at hc
      obtain ⟨rfl, h2⟩ := hc
      obtain ⟨k1, k⟩ := k
      obtain ⟨b, r, hb, c, n, M', k2, k3, k4⟩ := pA_inv k
      have h9 := prB_at h2 k3
      simp only [Bool.and_eq_true, decide_eq_true_eq] at h9
      have := sx_invV (as := (st.take aux).reverse) (rest := r) (st_m M' h9.1) (st_30 M') hs (lk_V_ok h9.2) hd (by rw [List.length_reverse, List.length_take, Nat.min_eq_left k1]) k2 k4
      rw [rv_drop k1 hb] at this
      exact this
    | invokestatic i =>
      simp only [ckI, Bool.and_eq_true, beq_iff_eq] at hc
      obtain ⟨rfl, h2⟩ := hc
      rcases L with _ | ⟨M', _ | ⟨_, _⟩⟩
      · exact k.elim
      · have k : (match decide (M' = 9998) with
          | true => pI st fun n st => pI st fun dp st => pA st fun b st => pI st fun sp st => pA st fun a st => st.length ≤ 4 ∧ ¬ a = b ∧ ¬ sp < 0 ∧ ¬ dp < 0 ∧ ¬ n < 0 ∧ (∃ na nb, hT h a = some (100, na) ∧ hT h b = some (100, nb) ∧ sp.toNatClampNeg + n.toNatClampNeg ≤ na ∧ dp.toNatClampNeg + n.toNatClampNeg ≤ nb) ∧
              SX l dC dI dA b0 d M (pc + 3) ls st (cpI h a sp.toNatClampNeg b dp.toNatClampNeg n.toNatClampNeg) P
          | false => aux ≤ st.length ∧ calQ (SX l dC dI dA b0) d M P pc ls (st.drop aux) M' (st.take aux).reverse h) := k
        cases hq : decide (M' = 9998) with
        | true =>
          rw [hq] at k
          have h2 : lk_C.any (fun r => r.1 == mO M && r.2.1 == i) = true := by simp only [hq] at h2; exact h2
          obtain ⟨n, r1, e1, q1⟩ := pI_inv k
          obtain ⟨dp, r2, e2, q2⟩ := pI_inv q1
          obtain ⟨b, r3, e3, q3⟩ := pA_inv q2
          obtain ⟨sp, r4, e4, q4⟩ := pI_inv q3
          obtain ⟨a, r, e5, k1, k2, k3, k4, k5, ⟨na, nb, k6, k7, k8, k9⟩, k10⟩ := pA_inv q4
          clear k q1 q2 q3 q4
          subst e5 e4 e3 e2 e1
          exact sx_cpy hd (lk_C_ok h2) k1 k3 k4 k5 k6 k7 k8 k9 k10
        | false =>
          rw [hq] at k
          have h2 : (decide (M' < 142) && lk_S.any (fun r => r.1 == mO M && r.2.1 == i && r.2.2.1 == M' && r.2.2.2.1 == aux)) = true := by simp only [hq] at h2; exact h2
          simp only [Bool.and_eq_true, decide_eq_true_eq] at h2
          exact sx_invS (st_m M' h2.1) (st_30 M') hs (lk_S_ok h2.2) hd k.1 k.2
      · exact k.elim
    | invokespecial i =>
      simp only [ckI, Bool.and_eq_true, beq_iff_eq] at hc
      obtain ⟨rfl, h2⟩ := hc
      rcases L with _ | ⟨M', _ | ⟨_, _⟩⟩
      · exact k.elim
      · have k : (match decide (M' = 9999) with
          | true => pA st fun _ st => st.length ≤ 4 ∧ SX l dC dI dA b0 d M (pc + 3) ls st h P
          | false => aux ≤ st.length ∧ (pA (st.drop (aux - 1)) fun _ _ => True) ∧ calQ (SX l dC dI dA b0) d M P pc ls (st.drop aux) M' (st.take aux).reverse h) := k
        cases hq : decide (M' = 9999) with
        | true =>
          rw [hq] at k
          have h2 : lk_O.any (fun r => r.1 == mO M && r.2.1 == i) = true := by simp only [hq] at h2; exact h2
          obtain ⟨a, r, rfl, k1, k2⟩ := pA_inv k
          exact sx_obj hd (lk_O_ok h2) k1 k2
        | false =>
          rw [hq] at k
          have h2 : (decide (M' < 142) && decide (1 ≤ aux) && lk_I.any (fun r => r.1 == mO M && r.2.1 == i && r.2.2.1 == M' && r.2.2.2.1 == aux - 1)) = true := by simp only [hq] at h2; exact h2
          simp only [Bool.and_eq_true, decide_eq_true_eq] at h2
          obtain ⟨k1, k2, k3⟩ := k
          obtain ⟨a, r, hdr, -⟩ := pA_inv k2
          obtain ⟨j, rfl⟩ : ∃ j, aux = j + 1 := ⟨aux - 1, by omega⟩
          rw [Nat.add_sub_cancel] at hdr h2
          have hr : st.drop (j + 1) = r := by rw [← List.drop_drop, hdr]; rfl
          have htk : (st.take (j + 1)).reverse = vR (some a) :: (st.take j).reverse := by
            have e1 : st.take (j + 1) = st.take j ++ [vR (some a)] := by
              rw [List.take_succ]
              have : st[j]? = some (vR (some a)) := by
                have := congrArg (fun l => l[0]?) hdr
                simpa using this
              rw [this]; rfl
            rw [e1, List.reverse_append]; rfl
          rw [hr, htk] at k3
          have := sx_invI (as := (st.take j).reverse) (rest := r) (st_m M' h2.1.1) (st_30 M') hs (lk_I_ok h2.2) hd (by rw [List.length_reverse, List.length_take, Nat.min_eq_left (by omega)]) k3
          rw [rv_drop (by omega) hdr] at this
          exact this
      · exact k.elim
    | ireturn =>
      simp only [ckI, Bool.and_eq_true, Bool.or_eq_true, beq_iff_eq, decide_eq_true_eq] at hc
      obtain ⟨rfl, h2⟩ := hc
      obtain ⟨x, r, rfl, rfl, k1, k2⟩ := pI_inv k
      exact sx_iret hd (h2.imp id (fun z => ⟨z.1, k1 z.2⟩)) k2
    | lreturn =>
      simp only [ckI, Bool.and_eq_true, beq_iff_eq, decide_eq_true_eq] at hc
      obtain ⟨rfl, h2⟩ := hc
      obtain ⟨x, r, rfl, rfl, k2⟩ := pL_inv k
      exact sx_lret hd h2 k2
    | areturn =>
      simp only [ckI, Bool.and_eq_true, beq_iff_eq] at hc
      obtain ⟨rfl, h2⟩ := hc
      obtain ⟨x, r, rfl, rfl, k2⟩ := pR_inv k
      unfold isO at h2
      split at h2
      · rename_i nm e; exact sx_aret hd e k2
      · cases h2
    | return_ =>
      simp only [ckI, Bool.and_eq_true, beq_iff_eq, decide_eq_true_eq] at hc
      obtain ⟨rfl, h2⟩ := hc
      obtain ⟨rfl, k2⟩ := k
      exact sx_vret hd h2 k2
    | _ => exact k.elim
theorem Ev.sound (hfl : l.stackTraces = false) {d M pc : Nat} {ls st : List AV} {h : AH} {P : PT} (k : Ev d M pc ls st h P) : SX l dC dI dA b0 d M pc ls st h P := k _ SX.mono (snd_closed hfl)
end SND
end
section
/-! ===== THE CLAIM OUT OF ONE Ev OF THE LAW (some rows turned from the kit's skeleton) ===== -/
def h0 (b n L : Nat) (xs : Nat → Int32) : AH := (fun a => if a = b then some (107, L) else none, fun a j => if a = b then xs j else 0, fun _ _ => 0, fun _ _ => none, n, 600128, 7301098)
def lw_P (b : Addr) (xs : List Int32) (args : Array Value) (s : State) : Prop := args = #[.ref b] ∧ s.IntsAt b xs ∧ xs.length ≤ 256 ∧ (Jvm.Cond.and given_1 narrow_1).before args s = true
def lw_Q (_ : Array Value) (s : State) (o : Outcome) (t : State) : Prop := o = .returned (some (.int 1)) ∧ Framed s o t [] 600128 7301098
/-- the law is what Ev says, for every script -/
def LawEv : Prop := ∀ (b n L : Nat) (xs : Nat → Int32), L ≤ 256 → b < n → Ev 300 142 0 (ent 7 [vR (some b)]) [] (h0 b n L xs) (fun o _ => o = .inl (some (vI 1)))
set_option maxRecDepth 100000 in
theorem st_ac : ∀ t, t < 3 → Jvm.Cond.arrayClass (aty t) ∈ lw_tbl := by decide +kernel
theorem st_ao : ∀ t, t < 7 → 3 ≤ t → Jvm.Cond.arrayOver (aty t) ∈ lw_tbl := by decide +kernel
set_option maxRecDepth 100000 in
theorem st_str : ∀ q ∈ x_str, (Jvm.Cond.stringRef (oN q.1) q.2.1 q.2.2 ∈ lw_tbl ∧ Jvm.Cond.exactly (.string (oN q.1) q.2.1) "java/lang/String" ∈ flatC (Jvm.Cond.and given_1 narrow_1)) := by decide +kernel
set_option maxRecDepth 100000 in
theorem st_nc : ∀ i, i < 5 → ∀ j, j < 5 → i ≠ j → Jvm.Cond.not (.castable (eN i) (eN j)) ∈ flatC (Jvm.Cond.and given_1 narrow_1) := by decide +kernel
set_option maxRecDepth 100000 in
theorem st_zs : Jvm.Cond.isRef (.static "java/lang/Throwable" "UNASSIGNED_STACK" x_steD) ∈ flatC (Jvm.Cond.and given_1 narrow_1) ∧ Jvm.Cond.isRef (.static "java/lang/Throwable" "SUPPRESSED_SENTINEL" x_listD) ∈ flatC (Jvm.Cond.and given_1 narrow_1) := by decide +kernel
theorem st_zl : Jvm.Cond.laysStatic "java/lang/Throwable" "UNASSIGNED_STACK" x_steD ∈ lw_tbl ∧ Jvm.Cond.laysStatic "java/lang/Throwable" "SUPPRESSED_SENTINEL" x_listD ∈ lw_tbl ∧ Jvm.Cond.initialized "java/lang/Throwable" ∈ lw_tbl := by decide +kernel
/-- the world at the law's start -/
theorem sn_start {s : State} {A : Array Value} (hts : ∀ w ∈ lw_tbl, w.before A s = true) (hgv : (Jvm.Cond.and given_1 narrow_1).before A s = true) : ∃ dC dI dA, sn_W dC dI dA s.heap.size s := by
  have hfl := flat_of_before _ hgv
  have hc : ∀ c, ∃ q : ClassId × (Nat → Nat), c < 17 → u_Kn s (oN c) (cT c) (idsOf c).length q.1 q.2 := by
    intro c
    by_cases hc : c < 17
    · obtain ⟨cC, iS, hk⟩ := u_known (C := oN c) (T := cT c) (N := (idsOf c).length) hts (fun w hw => (st_u c hc w hw).1) (hts _ (st_i c hc).1)
      exact ⟨(cC, iS), fun _ => hk⟩
    · exact ⟨(0, fun _ => 0), fun h => absurd h hc⟩
  have ha : ∀ t, ∃ cA : ClassId, t < 7 → ArrOfT s cA (aty t) ∧ va_RA s cA (aty t) := by
    intro t
    by_cases h3 : t < 3
    · obtain ⟨cA, kA, comp, f1, f2, f3⟩ := Cond.arrayClass_spec (hts _ (st_ac t h3))
      refine ⟨cA, fun _ => ⟨fun n z => ⟨fun k h => (by cases h), kA, f2, comp, f3⟩, ?_⟩⟩
      rcases (show t = 0 ∨ t = 1 ∨ t = 2 by omega) with rfl | rfl | rfl <;> exact f1
    · by_cases h7 : t < 7
      · have hw := hts _ (st_ao t h7 (by omega))
        rw [(aty_ref (by omega) (by omega)).1] at hw ⊢
        obtain ⟨comp, cA, kA, f1, f2, f3, f4, f5⟩ := Cond.arrayOver_spec hw
        exact ⟨cA, fun _ => ⟨fun n z => ⟨fun k h => (by cases h), kA, f3, comp, f4⟩, kA, comp, f3, f4, f1, f5⟩⟩
      · exact ⟨0, fun h => absurd h h7⟩
  obtain ⟨fc, hfc⟩ := Classical.axiomOfChoice hc
  obtain ⟨fa, hfa⟩ := Classical.axiomOfChoice ha
  have hA : ∀ a : Nat, a < s.heap.size → ¬ s.heap.size ≤ a := fun a h => Nat.not_le.mpr h
  refine ⟨fun c => (fc c).1, fun c => (fc c).2, fa, fun w hw ho => wok_move ho (State.WarmedH.refl s) (hts w hw), ⟨fun c h => hfc c h, fun t h => hfa t h⟩, ⟨va_Zqof (hts _ st_zl.1) (hts _ st_zl.2.2) (hfl _ st_zs.1) hA, ?_⟩, ⟨va_Zqof (hts _ st_zl.2.1) (hts _ st_zl.2.2) (hfl _ st_zs.2) hA, ?_⟩, fun q hq => ?_, fun i j hi hj hn => va_Nc.of (hfl _ (st_nc i hi j hj hn))⟩
  · exact hts _ st_zl.1
  · exact hts _ st_zl.2.1
  · obtain ⟨h1, h2⟩ := st_str q hq
    obtain ⟨a, c, cell, k, e1, -⟩ := Cond.exactly_spec (hfl _ h2)
    exact ⟨a, vk_R.of (hts _ h1) e1⟩
theorem h0_C (b n L : Nat) (xs : Nat → Int32) : hC (h0 b n L xs) = 600128 := rfl
theorem h0_S (b n L : Nat) (xs : Nat → Int32) : hS (h0 b n L xs) = 7301098 := rfl
theorem mB_law : mB 142 = code ∧ mL 142 = 7 ∧ mR 142 = ret ∧ mX 142 = [] ∧ oN (mO 142) = "PlannedTablesLaw" ∧ (mY 142).name = x.name := ⟨rfl, rfl, rfl, rfl, rfl, rfl⟩
set_option maxHeartbeats 4000000 in
theorem lw_walk (hlaw : LawEv) (l : Launch) (hst : l.stackTraces = false) (b : Addr) (xs : List Int32) : MetFree l x (headSpec (Jvm.Cond.code x code maxLocals ret :: tables_1) room_1) (lw_P b xs) (fun _ _ _ _ _ => True) lw_Q := by
  refine MetFree.of_bodyS (code := code) (maxLocals := maxLocals) (ret := ret) (by decide) ?_ ?_
  · intro args s m h hn
    obtain ⟨meth, c, h1, h2, h3, h4, h5, h6, -, -⟩ := Cond.code_spec hn (atoms_spec (ws := Jvm.Cond.code x code maxLocals ret :: tables_1) h _ List.mem_cons_self)
    exact ⟨meth, c, h1, h2, h3, h4, h5, h6⟩
  · intro p e s m args below meth c s₁ B hml0 hP _
    obtain ⟨rfl, hx, hbd, hgv⟩ := hP
    obtain ⟨scr, harrAt, hlist, hof, hsmall⟩ := hx
    obtain ⟨hcb, hkn, -, -⟩ := State.arrayAt?_spec harrAt
    have hts0 : ∀ c ∈ (Jvm.Cond.code x code maxLocals ret :: tables_1), c.before #[Value.ref b] s = true := atoms_spec (ws := Jvm.Cond.code x code maxLocals ret :: tables_1) B.pre
    have hts : ∀ w ∈ lw_tbl, w.before #[Value.ref b] s = true := k2_hts_sels lw_privs (fun w hw => hts0 w (List.mem_cons_of_mem _ hw)) lw_privs_ok
    have hml : c.maxLocals = 7 := B.maxLocals_eq (hts0 _ List.mem_cons_self)
    have X₀ : Stand p l e room_1 s m #[Value.ref b] below meth c s₁ [] 0 0 := Stand.of_body B
    have hh0 : s₁.heap = s.heap := by rw [B.state]; rfl
    have hsz : scr.slots.size = xs.length := by rw [← Array.length_toList, hlist, List.length_map]
    have hval : ∀ j : Nat, j < xs.length → scr.slots[j]? = some (.int (xs.getD j 0)) := fun j hj => by
      rw [← Array.getElem?_toList, hlist]
      simp [hj]
    have hbl : b < s.heap.size := (Array.getElem?_eq_some_iff.mp hcb).1
    have hX : va_X b xs.length (fun j => xs.getD j 0) s s.heap := ⟨scr, hcb, hof, hkn, hsz, hval⟩
    have hemp : c.exceptionTable.toList.map (fun x => (x.startPc, x.endPc, x.handlerPc, x.catchType)) = mX 142 := by
      have := B.noHandlers (hts0 _ List.mem_cons_self)
      have h0 : c.exceptionTable.size = 0 := by simpa [Array.isEmpty] using this
      have h1 : c.exceptionTable.toList = [] := List.eq_nil_of_length_eq_zero (by simpa using h0)
      rw [h1]; rfl
    obtain ⟨q1, q2, q3, q4, q5, q6⟩ := mB_law
    have hF : sn_F p s m meth c 142 := ⟨B.exec, by rw [q1]; exact B.bytes, by rw [q2]; exact hml, by rw [q3]; exact B.returns, B.notSynchronized, by rw [q5]; exact findClass_of_methodNamed B.named, by rw [q6]; exact (name_of_methodNamed B.named B.method).1, hemp⟩
    obtain ⟨dC, dI, dA, hW⟩ := sn_start hts hgv
    have hRp : sn_R dC dI dA s.heap.size s (h0 b s.heap.size xs.length (fun j => xs.getD j 0)) s.heap := by
      refine ⟨rfl, Nat.le_refl _, fun a t ht => ?_⟩
      have ht0 : (if a = b then some (107, xs.length) else none) = some t := ht
      have ht := ht0
      split at ht
      · rename_i e
        subst e
        have ht2 : (107, xs.length) = t := by simpa [h0, hT] using ht0
        subst ht2
        refine Or.inr (Or.inr (Or.inl ⟨rfl, hbl, ?_⟩))
        have : hI (h0 a s.heap.size xs.length (fun j => xs.getD j 0)) a = fun j => xs.getD j 0 := by funext j; simp [hI, h0]
        rw [this]
        exact hX
      · cases ht
    have hk := (Ev.sound (l := l) (dC := dC) (dI := dI) (dA := dA) (b0 := s.heap.size) hst (hlaw b s.heap.size xs.length (fun j => xs.getD j 0) hbd hbl)) p e room_1 s m #[Value.ref b] below meth c s.heap [] 0 0 _ (fun t => ∃ o, t.status = .running ∧ Ended t below o ∧ lw_Q #[Value.ref b] s o t) hF hW ⟨by decide, by decide, by rw [h0_C]; decide, by rw [h0_S]; decide⟩ hRp (fun _ _ => rfl) (fun q hq => by cases hq) (by rw [q2]; exact sn_L_ent (args := [vR (some b)]) (n := 7) (fun v hv => by rw [List.mem_singleton.mp hv]; simp) (Nat.le_of_ble_eq_true rfl)) ?_
    · rw [show List.map av_V [] = [] from rfl, ← lg_entry_eq] at hk
      obtain ⟨t, a1, o, b1, b2, b3⟩ := hk s₁ hh0 X₀
      exact ⟨t, o, a1, b1, b2, b3⟩
    · rintro o h' t rfl ⟨e1, e2, e3, e4, e5, L, k, n, e6, e7, e8, e9⟩
      refine ⟨_, e1, e2, rfl, ⟨_, rfl⟩, e5, e6.weaken (fun y hy hlt => absurd hlt (Nat.not_lt.mpr (e7 y hy))) ?_ ?_⟩
      · rw [h0_C] at e8
        omega
      · rw [h0_S] at e9
        omega
theorem lw_pre_spec {args : Array Value} {s : State} (h : (Jvm.Cond.and given_1 narrow_1).before args s = true) (hr : rest_1_c.before args s = true) : ∃ (b : Addr) (xs : List Int32), lw_P b xs args s := by
  have hs := flat_of_before _ h
  have hq := flat_of_before _ hr
  have hc : (Cond.count 1).before args s = true := hs _ (by decide +kernel)
  have harr : (Cond.arrayOf (.arg 0) .int).before args s = true := hs _ (by decide +kernel)
  have hle : (Cond.le (.length (.arg 0)) (.int 256)).before args s = true := hs _ (by decide +kernel)
  have hlen : (Cond.isInt (.length (.arg 0))).before args s = true := hq _ (by decide +kernel)
  have hall : (Cond.all (.arg 0) (.isInt (.elem (.arg 0) (.index 0)))).before args s = true := hq _ (by decide +kernel)
  obtain ⟨b, xs, hb, hx⟩ := State.ints_of_pre rfl harr hlen hall
  have hsm : xs.length < 2 ^ 31 := hx.choose_spec.2.2.2
  have hev : (Term.length (.arg 0)).eval args s none [] s = some (.int xs.length.toInt32) := hx.length_eval hb
  have hv := Cond.le_ints hev (show (Term.int 256).eval args s none [] s = some (.int 256) from rfl)
  have hd : xs.length.toInt32 ≤ 256 := by
    simpa [Cond.before, Cond.holds, hv] using hle
  have hN : xs.length ≤ 256 := (Int32.ofNat_le_ofNat hsm (by decide)).mp (show Int32.ofNat xs.length ≤ Int32.ofNat 256 from hd)
  exact ⟨b, xs, Cond.one_arg hc (show args[0]? = some (.ref b) from hb), hx, hN, h⟩
theorem lw_comes (hlaw : LawEv) (l : Launch) (hst : l.stackTraces = false) : Comes l x (Jvm.Cond.code x code maxLocals ret :: tables_1) room_1 (fun tb e args s => Calls_1 tb e args s ∧ rest_1 tb e args s ∧ Pre_1 tb e args s)
    (fun _ _ args s o t => lw_Q args s o t) := by
  intro p e ha hc hk s m args below hf hfit hheap happ hpre
  obtain ⟨b, xs, hP⟩ := lw_pre_spec hpre.2.2 hpre.2.1
  obtain ⟨k, o, h1, h2, h3, hQ⟩ := lw_walk hlaw l hst b xs p e ha hc hk s m args below hf ((Spec.applies_iff_loose hf).mp happ).1 hP trivial
  exact ⟨k, o, h1, h2, h3, hQ⟩
theorem st_fl {l : Launch} (h : l.flags = flags0) : l.stackTraces = false := by
  unfold Launch.stackTraces
  rw [h]
  decide +kernel
theorem lw_frame {s t : State} {o : Outcome} {args : Array Value} (h : Framed s o t [] 600128 7301098) :
    Framed s o t (fieldLocs frame_1_writes args s ++ arrayLocs frame_1_arrays args s ++ staticLocs frame_1_statics s) 600128 7301098 := h
theorem lw_limb (hlaw : LawEv) (L : Jvm.Cond) (hL : ∀ (args : Array Value) (s t : State), L.after args s (.returned (some (.int 1))) t = true) :
    ArmFor flags0 classFile x code maxLocals ret World_1 tables_1 room_1 Calls_1 rest_1 Pre_1
      (fun tb e a s o t => postC L tb e a s o t ∧ Framed s o t (fieldLocs frame_1_writes a s ++ arrayLocs frame_1_arrays a s ++ staticLocs frame_1_statics s) 600128 7301098) := by
  intro l hfl _ _ p e ha hc hk s m args below hf hfit hheap happ hpre
  obtain ⟨k, o, h1, h2, h3, rfl, hF⟩ := lw_comes hlaw l (st_fl hfl) p e ha hc hk s m args below hf hfit hheap happ hpre
  exact ⟨k, _, h1, h2, h3, hL args s _, lw_frame hF⟩
theorem vc_of (hlaw : LawEv) : Claimed_1_1 ∧ Claimed_1_2 := ⟨lw_limb hlaw limb_1_1 (fun args s t => by simp [limb_1_1, Cond.after, Cond.holds, Cond.value]), lw_limb hlaw limb_1_2 (fun args s t => Cond.after_iff.mpr (by
  first | (rw [show limb_1_2 = Cond.eq .result (.int 1) from rfl, Cond.eq_ints (x := 1) (y := 1) rfl rfl]; simp; done) | (simp [limb_1_2, Cond.value, Term.eval]; done)))⟩
end
section
theorem law_ev : LawEv := sorry
theorem i_vc : Claimed_1_1 ∧ Claimed_1_2 := vc_of law_ev
end
