/-! printed by wip/gen/words.py: names of methods, words of the tables -/
theorem t1_in {w : Cond} {i : Nat} (h : tables_1_1[i]? = some w) : w ∈ tables_1 := List.mem_append_left _ (List.mem_of_getElem? h)
theorem t2_in {w : Cond} {i : Nat} (h : tables_1_2[i]? = some w) : w ∈ tables_1 := List.mem_append_right _ (List.mem_append_left _ (List.mem_of_getElem? h))
theorem t3_in {w : Cond} {i : Nat} (h : tables_1_3[i]? = some w) : w ∈ tables_1 := List.mem_append_right _ (List.mem_append_right _ (List.mem_append_left _ (List.mem_of_getElem? h)))
theorem t4_in {w : Cond} {i : Nat} (h : tables_1_4[i]? = some w) : w ∈ tables_1 := List.mem_append_right _ (List.mem_append_right _ (List.mem_append_right _ (List.mem_append_left _ (List.mem_of_getElem? h))))
theorem t5_in {w : Cond} {i : Nat} (h : tables_1_5[i]? = some w) : w ∈ tables_1 := List.mem_append_right _ (List.mem_append_right _ (List.mem_append_right _ (List.mem_append_right _ (List.mem_of_getElem? h))))
def y_Cd_init : MethodName := ⟨"TableMachine$Condition", "<init>", "()V"⟩
def y_Cu_at : MethodName := ⟨"TableMachine$Cursor", "at", "()Z"⟩
def y_Cu_clear : MethodName := ⟨"TableMachine$Cursor", "clear", "()V"⟩
def y_Cu_init : MethodName := ⟨"TableMachine$Cursor", "<init>", "()V"⟩
def y_Cu_take : MethodName := ⟨"TableMachine$Cursor", "take", "(Z)Z"⟩
def y_Enum_ordinal : MethodName := ⟨"java/lang/Enum", "ordinal", "()I"⟩
def y_Exception_init : MethodName := ⟨"java/lang/Exception", "<init>", "()V"⟩
def y_Exception_init_1 : MethodName := ⟨"java/lang/Exception", "<init>", "(Ljava/lang/String;)V"⟩
def y_IAE_init : MethodName := ⟨"java/lang/IllegalArgumentException", "<init>", "()V"⟩
def y_IOOBE_init : MethodName := ⟨"java/lang/IndexOutOfBoundsException", "<init>", "()V"⟩
def y_ISE_init : MethodName := ⟨"java/lang/IllegalStateException", "<init>", "()V"⟩
def y_In_goal : MethodName := ⟨"TableMachine$Instruction", "goal", "()I"⟩
def y_In_init : MethodName := ⟨"TableMachine$Instruction", "<init>", "()V"⟩
def y_Latin1_charAt : MethodName := ⟨"java/lang/StringLatin1", "charAt", "([BI)C"⟩
def y_Lw_add : MethodName := ⟨"TableMachineLaw", "add", "(LTableMachine;IIII[J)I"⟩
def y_Lw_code : MethodName := ⟨"TableMachineLaw", "code", "(LTableMachine;II[J)I"⟩
def y_Lw_compile : MethodName := ⟨"TableMachineLaw", "compile", "(LTableMachine;[J)I"⟩
def y_Lw_delete : MethodName := ⟨"TableMachineLaw", "delete", "(LTableMachine;IJ[J)I"⟩
def y_Lw_insert : MethodName := ⟨"TableMachineLaw", "insert", "(LTableMachine;IJ[J)I"⟩
def y_Lw_isNull : MethodName := ⟨"TableMachineLaw", "isNull", "(LTableMachine;IJI[J)I"⟩
def y_Lw_next : MethodName := ⟨"TableMachineLaw", "next", "(LTableMachine;IJZ[J)I"⟩
def y_Lw_result : MethodName := ⟨"TableMachineLaw", "result", "(LTableMachine;II[J)I"⟩
def y_Lw_run : MethodName := ⟨"TableMachineLaw", "run", "(LTableMachine;I[J)I"⟩
def y_Lw_table : MethodName := ⟨"TableMachineLaw", "table", "(LTableMachine;I[J)I"⟩
def y_Lw_value : MethodName := ⟨"TableMachineLaw", "value", "(LTableMachine;IJI[J)I"⟩
def y_Lw_wasNull : MethodName := ⟨"TableMachineLaw", "wasNull", "(LTableMachine;II[J)I"⟩
def y_Md_add : MethodName := ⟨"TableMachineModel", "add", "(IIII)I"⟩
def y_Md_ask : MethodName := ⟨"TableMachineModel", "ask", "(II)Z"⟩
def y_Md_asked : MethodName := ⟨"TableMachineModel", "asked", "(IJI)I"⟩
def y_Md_code : MethodName := ⟨"TableMachineModel", "code", "(II)I"⟩
def y_Md_compares : MethodName := ⟨"TableMachineModel", "compares", "(IJJ)Z"⟩
def y_Md_compile : MethodName := ⟨"TableMachineModel", "compile", "()I"⟩
def y_Md_condition : MethodName := ⟨"TableMachineModel", "condition", "(IIII)Z"⟩
def y_Md_count : MethodName := ⟨"TableMachineModel", "count", "(I)I"⟩
def y_Md_delete : MethodName := ⟨"TableMachineModel", "delete", "(IJ)Z"⟩
def y_Md_firstRow : MethodName := ⟨"TableMachineModel", "firstRow", "(I)I"⟩
def y_Md_fits : MethodName := ⟨"TableMachineModel", "fits", "(IIII)Z"⟩
def y_Md_goal : MethodName := ⟨"TableMachineModel", "goal", "(I)I"⟩
def y_Md_in : MethodName := ⟨"TableMachineModel", "in", "(II)Z"⟩
def y_Md_init : MethodName := ⟨"TableMachineModel", "<init>", "()V"⟩
def y_Md_insert : MethodName := ⟨"TableMachineModel", "insert", "(IJ)Z"⟩
def y_Md_isColumn : MethodName := ⟨"TableMachineModel", "isColumn", "(II)Z"⟩
def y_Md_isNull : MethodName := ⟨"TableMachineModel", "isNull", "(IJI)Z"⟩
def y_Md_isTable : MethodName := ⟨"TableMachineModel", "isTable", "(I)Z"⟩
def y_Md_join : MethodName := ⟨"TableMachineModel", "join", "(II)Z"⟩
def y_Md_keep : MethodName := ⟨"TableMachineModel", "keep", "(IZJ)V"⟩
def y_Md_lay : MethodName := ⟨"TableMachineModel", "lay", "(IJIZJ)V"⟩
def y_Md_length : MethodName := ⟨"TableMachineModel", "length", "(I)I"⟩
def y_Md_loop : MethodName := ⟨"TableMachineModel", "loop", "(III)I"⟩
def y_Md_many : MethodName := ⟨"TableMachineModel", "many", "(I)I"⟩
def y_Md_needsOpen : MethodName := ⟨"TableMachineModel", "needsOpen", "(I)Z"⟩
def y_Md_next : MethodName := ⟨"TableMachineModel", "next", "(IJZ)J"⟩
def y_Md_output : MethodName := ⟨"TableMachineModel", "output", "(II)Z"⟩
def y_Md_outputsAndResult : MethodName := ⟨"TableMachineModel", "outputsAndResult", "()V"⟩
def y_Md_point : MethodName := ⟨"TableMachineModel", "point", "(II)V"⟩
def y_Md_put : MethodName := ⟨"TableMachineModel", "put", "(IIII)V"⟩
def y_Md_read : MethodName := ⟨"TableMachineModel", "read", "(III)V"⟩
def y_Md_result : MethodName := ⟨"TableMachineModel", "result", "(II)J"⟩
def y_Md_rowAt : MethodName := ⟨"TableMachineModel", "rowAt", "(I)I"⟩
def y_Md_rowFrom : MethodName := ⟨"TableMachineModel", "rowFrom", "(IJZ)I"⟩
def y_Md_rowOf : MethodName := ⟨"TableMachineModel", "rowOf", "(IJ)I"⟩
def y_Md_run : MethodName := ⟨"TableMachineModel", "run", "(I)I"⟩
def y_Md_seeker : MethodName := ⟨"TableMachineModel", "seeker", "(I)I"⟩
def y_Md_set : MethodName := ⟨"TableMachineModel", "set", "(IZJ)Z"⟩
def y_Md_sound : MethodName := ⟨"TableMachineModel", "sound", "()Z"⟩
def y_Md_step : MethodName := ⟨"TableMachineModel", "step", "()Z"⟩
def y_Md_table : MethodName := ⟨"TableMachineModel", "table", "(I)I"⟩
def y_Md_tableOf : MethodName := ⟨"TableMachineModel", "tableOf", "(I)I"⟩
def y_Md_take : MethodName := ⟨"TableMachineModel", "take", "(I)V"⟩
def y_Md_thrown : MethodName := ⟨"TableMachineModel", "thrown", "()I"⟩
def y_Md_value : MethodName := ⟨"TableMachineModel", "value", "(IJI)J"⟩
def y_Md_wasNull : MethodName := ⟨"TableMachineModel", "wasNull", "(II)Z"⟩
def y_Md_wipe : MethodName := ⟨"TableMachineModel", "wipe", "()V"⟩
def y_Md_withCursor : MethodName := ⟨"TableMachineModel", "withCursor", "(IIII)Z"⟩
def y_Md_without : MethodName := ⟨"TableMachineModel", "without", "(IIII)Z"⟩
def y_NSEE_init : MethodName := ⟨"java/util/NoSuchElementException", "<init>", "()V"⟩
def y_Object_clone : MethodName := ⟨"java/lang/Object", "clone", "()Ljava/lang/Object;"⟩
def y_Object_init : MethodName := ⟨"java/lang/Object", "<init>", "()V"⟩
def y_Op_ordinal : MethodName := ⟨"TableMachine$Op", "ordinal", "()I"⟩
def y_Op_values : MethodName := ⟨"TableMachine$Op", "values", "()[LTableMachine$Op;"⟩
def y_Pg_cells : MethodName := ⟨"TableMachine$Pages", "cells", "(I)I"⟩
def y_Pg_fresh : MethodName := ⟨"TableMachine$Pages", "fresh", "()I"⟩
def y_Pg_giveBack : MethodName := ⟨"TableMachine$Pages", "giveBack", "(I)V"⟩
def y_Pg_head : MethodName := ⟨"TableMachine$Pages", "head", "(IZI)V"⟩
def y_Pg_init : MethodName := ⟨"TableMachine$Pages", "<init>", "()V"⟩
def y_Pg_isLeaf : MethodName := ⟨"TableMachine$Pages", "isLeaf", "(I)Z"⟩
def y_Pg_open : MethodName := ⟨"TableMachine$Pages", "open", "(I)LTableMachine$Tape;"⟩
def y_Precond_checkIndex : MethodName := ⟨"jdk/internal/util/Preconditions", "checkIndex", "(IILjava/util/function/BiFunction;)I"⟩
def y_Rc_init : MethodName := ⟨"TableMachine$Record", "<init>", "()V"⟩
def y_Rc_read : MethodName := ⟨"TableMachine$Record", "read", "(LTableMachine$Tape;I)V"⟩
def y_Rc_write : MethodName := ⟨"TableMachine$Record", "write", "(LTableMachine$Tape;I)V"⟩
def y_RuntimeEx_init : MethodName := ⟨"java/lang/RuntimeException", "<init>", "()V"⟩
def y_RuntimeEx_init_1 : MethodName := ⟨"java/lang/RuntimeException", "<init>", "(Ljava/lang/String;)V"⟩
def y_String_charAt : MethodName := ⟨"java/lang/String", "charAt", "(I)C"⟩
def y_String_checkIndex : MethodName := ⟨"java/lang/String", "checkIndex", "(II)V"⟩
def y_String_isLatin1 : MethodName := ⟨"java/lang/String", "isLatin1", "()Z"⟩
def y_TM_add : MethodName := ⟨"TableMachine", "add", "(IIII)I"⟩
def y_TM_ask : MethodName := ⟨"TableMachine", "ask", "(II)Z"⟩
def y_TM_asksAll : MethodName := ⟨"TableMachine", "asksAll", "(I)V"⟩
def y_TM_check : MethodName := ⟨"TableMachine", "check", "(Z)V"⟩
def y_TM_code : MethodName := ⟨"TableMachine", "code", "(II)I"⟩
def y_TM_column : MethodName := ⟨"TableMachine", "column", "(LTableMachine$Cursor;ILTableMachine$Value;)V"⟩
def y_TM_comes : MethodName := ⟨"TableMachine", "comes", "(LTableMachine$Tree;I)Z"⟩
def y_TM_compares : MethodName := ⟨"TableMachine", "compares", "(LTableMachine$Op;JJ)Z"⟩
def y_TM_compile : MethodName := ⟨"TableMachine", "compile", "()I"⟩
def y_TM_condition : MethodName := ⟨"TableMachine", "condition", "(IIII)Z"⟩
def y_TM_count : MethodName := ⟨"TableMachine", "count", "(I)I"⟩
def y_TM_delete : MethodName := ⟨"TableMachine", "delete", "(IJ)Z"⟩
def y_TM_demand : MethodName := ⟨"TableMachine", "demand", "(Z)V"⟩
def y_TM_emit : MethodName := ⟨"TableMachine", "emit", "(LTableMachine$Op;III)V"⟩
def y_TM_fetch : MethodName := ⟨"TableMachine", "fetch", "(III)V"⟩
def y_TM_fits : MethodName := ⟨"TableMachine", "fits", "(CI)Z"⟩
def y_TM_init : MethodName := ⟨"TableMachine", "<init>", "()V"⟩
def y_TM_insert : MethodName := ⟨"TableMachine", "insert", "(IJ)Z"⟩
def y_TM_isColumn : MethodName := ⟨"TableMachine", "isColumn", "(II)Z"⟩
def y_TM_isNull : MethodName := ⟨"TableMachine", "isNull", "(IJI)Z"⟩
def y_TM_isSound : MethodName := ⟨"TableMachine", "isSound", "()Z"⟩
def y_TM_isTable : MethodName := ⟨"TableMachine", "isTable", "(I)Z"⟩
def y_TM_join : MethodName := ⟨"TableMachine", "join", "(II)Z"⟩
def y_TM_moves : MethodName := ⟨"TableMachine", "moves", "(LTableMachine$Instruction;LTableMachine$Cursor;)Z"⟩
def y_TM_needsCursor : MethodName := ⟨"TableMachine", "needsCursor", "(LTableMachine$Op;)Z"⟩
def y_TM_next : MethodName := ⟨"TableMachine", "next", "(IJZ)J"⟩
def y_TM_opens : MethodName := ⟨"TableMachine", "opens", "(I)V"⟩
def y_TM_orElse : MethodName := ⟨"TableMachine", "orElse", "(LTableMachine$Op;)V"⟩
def y_TM_output : MethodName := ⟨"TableMachine", "output", "(II)Z"⟩
def y_TM_result : MethodName := ⟨"TableMachine", "result", "(II)J"⟩
def y_TM_run : MethodName := ⟨"TableMachine", "run", "(I)I"⟩
def y_TM_set : MethodName := ⟨"TableMachine", "set", "(IZJ)Z"⟩
def y_TM_settle : MethodName := ⟨"TableMachine", "settle", "(I)V"⟩
def y_TM_step : MethodName := ⟨"TableMachine", "step", "(I)I"⟩
def y_TM_sum : MethodName := ⟨"TableMachine", "sum", "(LTableMachine$Value;LTableMachine$Value;LTableMachine$Value;)V"⟩
def y_TM_table : MethodName := ⟨"TableMachine", "table", "(I)I"⟩
def y_TM_tell : MethodName := ⟨"TableMachine", "tell", "(II)V"⟩
def y_TM_tells : MethodName := ⟨"TableMachine", "tells", "()V"⟩
def y_TM_there : MethodName := ⟨"TableMachine", "there", "(Z)V"⟩
def y_TM_value : MethodName := ⟨"TableMachine", "value", "(IJI)J"⟩
def y_TM_valueOf : MethodName := ⟨"TableMachine", "valueOf", "(IJI)LTableMachine$Value;"⟩
def y_TM_wasNull : MethodName := ⟨"TableMachine", "wasNull", "(II)Z"⟩
def y_TM_wipe : MethodName := ⟨"TableMachine", "wipe", "()V"⟩
def y_TM_works : MethodName := ⟨"TableMachine", "works", "(LTableMachine$Instruction;)Z"⟩
def y_Throwable_fillInStackTrace : MethodName := ⟨"java/lang/Throwable", "fillInStackTrace", "()Ljava/lang/Throwable;"⟩
def y_Throwable_fillInStackTrace_1 : MethodName := ⟨"java/lang/Throwable", "fillInStackTrace", "(I)Ljava/lang/Throwable;"⟩
def y_Throwable_init : MethodName := ⟨"java/lang/Throwable", "<init>", "()V"⟩
def y_Throwable_init_1 : MethodName := ⟨"java/lang/Throwable", "<init>", "(Ljava/lang/String;)V"⟩
def y_Tp_copy : MethodName := ⟨"TableMachine$Tape", "copy", "(LTableMachine$Tape;II)V"⟩
def y_Tp_init : MethodName := ⟨"TableMachine$Tape", "<init>", "(I)V"⟩
def y_Tp_number : MethodName := ⟨"TableMachine$Tape", "number", "(J)V"⟩
def y_Tp_one : MethodName := ⟨"TableMachine$Tape", "one", "(I)V"⟩
def y_Tp_take : MethodName := ⟨"TableMachine$Tape", "take", "()I"⟩
def y_Tp_takeNumber : MethodName := ⟨"TableMachine$Tape", "takeNumber", "()J"⟩
def y_Tr_above : MethodName := ⟨"TableMachine$Tree", "above", "(JI)V"⟩
def y_Tr_become : MethodName := ⟨"TableMachine$Tree", "become", "(II)V"⟩
def y_Tr_childAt : MethodName := ⟨"TableMachine$Tree", "childAt", "(II)I"⟩
def y_Tr_childFor : MethodName := ⟨"TableMachine$Tree", "childFor", "(IJ)I"⟩
def y_Tr_fill : MethodName := ⟨"TableMachine$Tree", "fill", "(IZIII)V"⟩
def y_Tr_find : MethodName := ⟨"TableMachine$Tree", "find", "(J)V"⟩
def y_Tr_first : MethodName := ⟨"TableMachine$Tree", "first", "()Z"⟩
def y_Tr_has : MethodName := ⟨"TableMachine$Tree", "has", "(J)Z"⟩
def y_Tr_init : MethodName := ⟨"TableMachine$Tree", "<init>", "(LTableMachine$Pages;I)V"⟩
def y_Tr_key : MethodName := ⟨"TableMachine$Tree", "key", "()J"⟩
def y_Tr_lead : MethodName := ⟨"TableMachine$Tree", "lead", "(III)V"⟩
def y_Tr_leaf : MethodName := ⟨"TableMachine$Tree", "leaf", "()I"⟩
def y_Tr_nextLeaf : MethodName := ⟨"TableMachine$Tree", "nextLeaf", "()Z"⟩
def y_Tr_part : MethodName := ⟨"TableMachine$Tree", "part", "(II)V"⟩
def y_Tr_pass : MethodName := ⟨"TableMachine$Tree", "pass", "(LTableMachine$Tape;Z)J"⟩
def y_Tr_place : MethodName := ⟨"TableMachine$Tree", "place", "(JLTableMachine$Record;)V"⟩
def y_Tr_prune : MethodName := ⟨"TableMachine$Tree", "prune", "()V"⟩
def y_Tr_raise : MethodName := ⟨"TableMachine$Tree", "raise", "(JI)V"⟩
def y_Tr_read : MethodName := ⟨"TableMachine$Tree", "read", "(JLTableMachine$Record;)V"⟩
def y_Tr_remove : MethodName := ⟨"TableMachine$Tree", "remove", "(J)V"⟩
def y_Tr_seek : MethodName := ⟨"TableMachine$Tree", "seek", "(JZ)Z"⟩
def y_Tr_size : MethodName := ⟨"TableMachine$Tree", "size", "(I)I"⟩
def y_Tr_splitLeaf : MethodName := ⟨"TableMachine$Tree", "splitLeaf", "(II)V"⟩
def y_Tr_widen : MethodName := ⟨"TableMachine$Tree", "widen", "(IIJI)Z"⟩
def y_Tr_without : MethodName := ⟨"TableMachine$Tree", "without", "(II)V"⟩
def y_UTF16_charAt : MethodName := ⟨"java/lang/StringUTF16", "charAt", "([BI)C"⟩
def y_UTF16_checkIndex : MethodName := ⟨"java/lang/StringUTF16", "checkIndex", "(I[B)V"⟩
def y_UTF16_getChar : MethodName := ⟨"java/lang/StringUTF16", "getChar", "([BI)C"⟩
def y_UTF16_length : MethodName := ⟨"java/lang/StringUTF16", "length", "([B)I"⟩
def y_Vl_init : MethodName := ⟨"TableMachine$Value", "<init>", "()V"⟩
def y_Vl_like : MethodName := ⟨"TableMachine$Value", "like", "(LTableMachine$Value;)V"⟩
def y_Vl_none : MethodName := ⟨"TableMachine$Value", "none", "()V"⟩
def y_Vl_to : MethodName := ⟨"TableMachine$Value", "to", "(J)V"⟩
def y__LTableMachine_Op__clone : MethodName := ⟨"[LTableMachine$Op;", "clone", "()Ljava/lang/Object;"⟩
abbrev b_Cd_init : ByteArray := prog_2_method_1_code
abbrev b_Cu_at : ByteArray := prog_3_method_2_code
abbrev b_Cu_clear : ByteArray := prog_3_method_3_code
abbrev b_Cu_init : ByteArray := prog_3_method_1_code
abbrev b_Cu_take : ByteArray := prog_3_method_4_code
abbrev b_Enum_ordinal : ByteArray := prog_14_method_2_code
abbrev b_Exception_init : ByteArray := prog_15_method_1_code
abbrev b_IAE_init : ByteArray := prog_16_method_1_code
abbrev b_IOOBE_init : ByteArray := prog_18_method_1_code
abbrev b_ISE_init : ByteArray := prog_17_method_1_code
abbrev b_In_goal : ByteArray := prog_4_method_2_code
abbrev b_In_init : ByteArray := prog_4_method_1_code
abbrev b_Latin1_charAt : ByteArray := prog_21_method_2_code
abbrev b_Lw_add : ByteArray := method_9_code
abbrev b_Lw_code : ByteArray := method_10_code
abbrev b_Lw_compile : ByteArray := method_14_code
abbrev b_Lw_delete : ByteArray := method_5_code
abbrev b_Lw_insert : ByteArray := method_4_code
abbrev b_Lw_isNull : ByteArray := method_8_code
abbrev b_Lw_next : ByteArray := method_6_code
abbrev b_Lw_result : ByteArray := method_12_code
abbrev b_Lw_run : ByteArray := method_11_code
abbrev b_Lw_table : ByteArray := method_3_code
abbrev b_Lw_value : ByteArray := method_7_code
abbrev b_Lw_wasNull : ByteArray := method_13_code
abbrev b_Md_add : ByteArray := prog_12_method_22_code
abbrev b_Md_ask : ByteArray := prog_12_method_38_code
abbrev b_Md_asked : ByteArray := prog_12_method_15_code
abbrev b_Md_code : ByteArray := prog_12_method_24_code
abbrev b_Md_compares : ByteArray := prog_12_method_31_code
abbrev b_Md_compile : ByteArray := prog_12_method_49_code
abbrev b_Md_condition : ByteArray := prog_12_method_42_code
abbrev b_Md_count : ByteArray := prog_12_method_13_code
abbrev b_Md_delete : ByteArray := prog_12_method_12_code
abbrev b_Md_firstRow : ByteArray := prog_12_method_8_code
abbrev b_Md_fits : ByteArray := prog_12_method_19_code
abbrev b_Md_goal : ByteArray := prog_12_method_25_code
abbrev b_Md_in : ByteArray := prog_12_method_18_code
abbrev b_Md_init : ByteArray := prog_12_method_1_code
abbrev b_Md_insert : ByteArray := prog_12_method_11_code
abbrev b_Md_isColumn : ByteArray := prog_12_method_40_code
abbrev b_Md_isNull : ByteArray := prog_12_method_17_code
abbrev b_Md_isTable : ByteArray := prog_12_method_3_code
abbrev b_Md_join : ByteArray := prog_12_method_43_code
abbrev b_Md_keep : ByteArray := prog_12_method_27_code
abbrev b_Md_lay : ByteArray := prog_12_method_9_code
abbrev b_Md_length : ByteArray := prog_12_method_46_code
abbrev b_Md_loop : ByteArray := prog_12_method_47_code
abbrev b_Md_many : ByteArray := prog_12_method_20_code
abbrev b_Md_needsOpen : ByteArray := prog_12_method_28_code
abbrev b_Md_next : ByteArray := prog_12_method_14_code
abbrev b_Md_output : ByteArray := prog_12_method_41_code
abbrev b_Md_outputsAndResult : ByteArray := prog_12_method_48_code
abbrev b_Md_point : ByteArray := prog_12_method_29_code
abbrev b_Md_put : ByteArray := prog_12_method_21_code
abbrev b_Md_read : ByteArray := prog_12_method_44_code
abbrev b_Md_result : ByteArray := prog_12_method_36_code
abbrev b_Md_rowAt : ByteArray := prog_12_method_30_code
abbrev b_Md_rowFrom : ByteArray := prog_12_method_7_code
abbrev b_Md_rowOf : ByteArray := prog_12_method_6_code
abbrev b_Md_run : ByteArray := prog_12_method_35_code
abbrev b_Md_seeker : ByteArray := prog_12_method_45_code
abbrev b_Md_set : ByteArray := prog_12_method_5_code
abbrev b_Md_sound : ByteArray := prog_12_method_26_code
abbrev b_Md_step : ByteArray := prog_12_method_34_code
abbrev b_Md_table : ByteArray := prog_12_method_4_code
abbrev b_Md_tableOf : ByteArray := prog_12_method_39_code
abbrev b_Md_take : ByteArray := prog_12_method_10_code
abbrev b_Md_thrown : ByteArray := prog_12_method_2_code
abbrev b_Md_value : ByteArray := prog_12_method_16_code
abbrev b_Md_wasNull : ByteArray := prog_12_method_37_code
abbrev b_Md_wipe : ByteArray := prog_12_method_23_code
abbrev b_Md_withCursor : ByteArray := prog_12_method_32_code
abbrev b_Md_without : ByteArray := prog_12_method_33_code
abbrev b_NSEE_init : ByteArray := prog_24_method_1_code
abbrev b_Object_init : ByteArray := object_method_1_code
abbrev b_Op_values : ByteArray := prog_5_method_1_code
abbrev b_Pg_cells : ByteArray := prog_6_method_6_code
abbrev b_Pg_fresh : ByteArray := prog_6_method_2_code
abbrev b_Pg_giveBack : ByteArray := prog_6_method_3_code
abbrev b_Pg_head : ByteArray := prog_6_method_7_code
abbrev b_Pg_init : ByteArray := prog_6_method_1_code
abbrev b_Pg_isLeaf : ByteArray := prog_6_method_5_code
abbrev b_Pg_open : ByteArray := prog_6_method_4_code
abbrev b_Precond_checkIndex : ByteArray := prog_25_method_11_code
abbrev b_Rc_init : ByteArray := prog_7_method_1_code
abbrev b_Rc_read : ByteArray := prog_7_method_3_code
abbrev b_Rc_write : ByteArray := prog_7_method_2_code
abbrev b_RuntimeEx_init : ByteArray := prog_19_method_1_code
abbrev b_String_charAt : ByteArray := prog_20_method_56_code
abbrev b_String_checkIndex : ByteArray := prog_20_method_155_code
abbrev b_String_isLatin1 : ByteArray := prog_20_method_154_code
abbrev b_TM_add : ByteArray := prog_1_method_17_code
abbrev b_TM_ask : ByteArray := prog_1_method_33_code
abbrev b_TM_asksAll : ByteArray := prog_1_method_41_code
abbrev b_TM_check : ByteArray := prog_1_method_2_code
abbrev b_TM_code : ByteArray := prog_1_method_19_code
abbrev b_TM_column : ByteArray := prog_1_method_22_code
abbrev b_TM_comes : ByteArray := prog_1_method_23_code
abbrev b_TM_compares : ByteArray := prog_1_method_20_code
abbrev b_TM_compile : ByteArray := prog_1_method_44_code
abbrev b_TM_condition : ByteArray := prog_1_method_36_code
abbrev b_TM_count : ByteArray := prog_1_method_10_code
abbrev b_TM_delete : ByteArray := prog_1_method_9_code
abbrev b_TM_demand : ByteArray := prog_1_method_3_code
abbrev b_TM_emit : ByteArray := prog_1_method_16_code
abbrev b_TM_fetch : ByteArray := prog_1_method_38_code
abbrev b_TM_fits : ByteArray := prog_1_method_15_code
abbrev b_TM_init : ByteArray := prog_1_method_1_code
abbrev b_TM_insert : ByteArray := prog_1_method_8_code
abbrev b_TM_isColumn : ByteArray := prog_1_method_34_code
abbrev b_TM_isNull : ByteArray := prog_1_method_14_code
abbrev b_TM_isSound : ByteArray := prog_1_method_29_code
abbrev b_TM_isTable : ByteArray := prog_1_method_5_code
abbrev b_TM_join : ByteArray := prog_1_method_37_code
abbrev b_TM_moves : ByteArray := prog_1_method_21_code
abbrev b_TM_needsCursor : ByteArray := prog_1_method_27_code
abbrev b_TM_next : ByteArray := prog_1_method_11_code
abbrev b_TM_opens : ByteArray := prog_1_method_40_code
abbrev b_TM_orElse : ByteArray := prog_1_method_39_code
abbrev b_TM_output : ByteArray := prog_1_method_35_code
abbrev b_TM_result : ByteArray := prog_1_method_31_code
abbrev b_TM_run : ByteArray := prog_1_method_30_code
abbrev b_TM_set : ByteArray := prog_1_method_7_code
abbrev b_TM_settle : ByteArray := prog_1_method_43_code
abbrev b_TM_step : ByteArray := prog_1_method_28_code
abbrev b_TM_sum : ByteArray := prog_1_method_26_code
abbrev b_TM_table : ByteArray := prog_1_method_6_code
abbrev b_TM_tell : ByteArray := prog_1_method_24_code
abbrev b_TM_tells : ByteArray := prog_1_method_42_code
abbrev b_TM_there : ByteArray := prog_1_method_4_code
abbrev b_TM_value : ByteArray := prog_1_method_13_code
abbrev b_TM_valueOf : ByteArray := prog_1_method_12_code
abbrev b_TM_wasNull : ByteArray := prog_1_method_32_code
abbrev b_TM_wipe : ByteArray := prog_1_method_18_code
abbrev b_TM_works : ByteArray := prog_1_method_25_code
abbrev b_Throwable_fillInStackTrace : ByteArray := prog_23_method_18_code
abbrev b_Throwable_init : ByteArray := prog_23_method_1_code
abbrev b_Tp_copy : ByteArray := prog_8_method_6_code
abbrev b_Tp_init : ByteArray := prog_8_method_1_code
abbrev b_Tp_number : ByteArray := prog_8_method_4_code
abbrev b_Tp_one : ByteArray := prog_8_method_2_code
abbrev b_Tp_take : ByteArray := prog_8_method_3_code
abbrev b_Tp_takeNumber : ByteArray := prog_8_method_5_code
abbrev b_Tr_above : ByteArray := prog_9_method_17_code
abbrev b_Tr_become : ByteArray := prog_9_method_23_code
abbrev b_Tr_childAt : ByteArray := prog_9_method_3_code
abbrev b_Tr_childFor : ByteArray := prog_9_method_2_code
abbrev b_Tr_fill : ByteArray := prog_9_method_14_code
abbrev b_Tr_find : ByteArray := prog_9_method_6_code
abbrev b_Tr_first : ByteArray := prog_9_method_11_code
abbrev b_Tr_has : ByteArray := prog_9_method_8_code
abbrev b_Tr_init : ByteArray := prog_9_method_1_code
abbrev b_Tr_key : ByteArray := prog_9_method_12_code
abbrev b_Tr_lead : ByteArray := prog_9_method_24_code
abbrev b_Tr_leaf : ByteArray := prog_9_method_7_code
abbrev b_Tr_nextLeaf : ByteArray := prog_9_method_10_code
abbrev b_Tr_part : ByteArray := prog_9_method_20_code
abbrev b_Tr_pass : ByteArray := prog_9_method_5_code
abbrev b_Tr_place : ByteArray := prog_9_method_15_code
abbrev b_Tr_prune : ByteArray := prog_9_method_22_code
abbrev b_Tr_raise : ByteArray := prog_9_method_18_code
abbrev b_Tr_read : ByteArray := prog_9_method_13_code
abbrev b_Tr_remove : ByteArray := prog_9_method_21_code
abbrev b_Tr_seek : ByteArray := prog_9_method_9_code
abbrev b_Tr_size : ByteArray := prog_9_method_4_code
abbrev b_Tr_splitLeaf : ByteArray := prog_9_method_16_code
abbrev b_Tr_widen : ByteArray := prog_9_method_19_code
abbrev b_Tr_without : ByteArray := prog_9_method_25_code
abbrev b_UTF16_charAt : ByteArray := prog_22_method_83_code
abbrev b_UTF16_checkIndex : ByteArray := prog_22_method_91_code
abbrev b_UTF16_getChar : ByteArray := prog_22_method_5_code
abbrev b_UTF16_length : ByteArray := prog_22_method_6_code
abbrev b_Vl_init : ByteArray := prog_10_method_1_code
abbrev b_Vl_like : ByteArray := prog_10_method_4_code
abbrev b_Vl_none : ByteArray := prog_10_method_3_code
abbrev b_Vl_to : ByteArray := prog_10_method_2_code
theorem w_0 : Cond.initialized "TableMachineLaw" ∈ TB := tb_in (t1_in (i := 0) rfl) rfl
theorem w_1 : Cond.initialized "TableMachine" ∈ TB := tb_in (t1_in (i := 1) rfl) rfl
theorem w_2 : Cond.initialized "TableMachine$Pages" ∈ TB := tb_in (t1_in (i := 2) rfl) rfl
theorem w_3 : Cond.initialized "TableMachine$Tape" ∈ TB := tb_in (t1_in (i := 3) rfl) rfl
theorem w_4 : Cond.initialized "TableMachine$Record" ∈ TB := tb_in (t1_in (i := 4) rfl) rfl
theorem w_5 : Cond.initialized "TableMachine$Value" ∈ TB := tb_in (t1_in (i := 5) rfl) rfl
theorem w_6 : Cond.initialized "java/lang/Enum" ∈ TB := tb_in (t1_in (i := 6) rfl) rfl
theorem w_7 : Cond.initialized "TableMachine$Op" ∈ TB := tb_in (t1_in (i := 7) rfl) rfl
theorem w_8 : Cond.initialized "TableMachine$Instruction" ∈ TB := tb_in (t1_in (i := 8) rfl) rfl
theorem w_9 : Cond.initialized "TableMachine$Cursor" ∈ TB := tb_in (t1_in (i := 9) rfl) rfl
theorem w_10 : Cond.initialized "TableMachine$Condition" ∈ TB := tb_in (t1_in (i := 10) rfl) rfl
theorem w_11 : Cond.initialized "TableMachineModel" ∈ TB := tb_in (t1_in (i := 11) rfl) rfl
theorem w_12 : Cond.initialized "java/lang/Throwable" ∈ TB := tb_in (t1_in (i := 12) rfl) rfl
theorem w_13 : Cond.initialized "java/lang/Exception" ∈ TB := tb_in (t1_in (i := 13) rfl) rfl
theorem w_14 : Cond.initialized "java/lang/RuntimeException" ∈ TB := tb_in (t1_in (i := 14) rfl) rfl
theorem w_15 : Cond.initialized "java/lang/IllegalArgumentException" ∈ TB := tb_in (t1_in (i := 15) rfl) rfl
theorem w_16 : Cond.initialized "java/lang/IllegalStateException" ∈ TB := tb_in (t1_in (i := 16) rfl) rfl
theorem w_17 : Cond.initialized "TableMachine$Tree" ∈ TB := tb_in (t1_in (i := 17) rfl) rfl
theorem w_18 : Cond.initialized "java/util/NoSuchElementException" ∈ TB := tb_in (t1_in (i := 18) rfl) rfl
theorem w_19 : Cond.initialized "java/lang/String" ∈ TB := tb_in (t1_in (i := 19) rfl) rfl
theorem w_20 : Cond.initialized "java/lang/StringLatin1" ∈ TB := tb_in (t1_in (i := 20) rfl) rfl
theorem w_21 : Cond.initialized "jdk/internal/util/Preconditions" ∈ TB := tb_in (t1_in (i := 21) rfl) rfl
theorem w_22 : Cond.initialized "java/lang/StringUTF16" ∈ TB := tb_in (t1_in (i := 22) rfl) rfl
theorem w_23 : Cond.initialized "java/lang/IndexOutOfBoundsException" ∈ TB := tb_in (t1_in (i := 23) rfl) rfl
theorem w_24 : Cond.classLink "TableMachineLaw" 8 "TableMachine" ∈ TB := tb_in (t1_in (i := 24) rfl) rfl
theorem w_25 : Cond.instantiable "TableMachine" 24 ∈ TB := tb_in (t1_in (i := 25) rfl) rfl
theorem w_26 : Cond.methodLink "TableMachineLaw" 63 y_TM_init ∈ TB := tb_in (t1_in (i := 26) rfl) rfl
theorem w_27 : Cond.instanceMethod y_TM_init ∈ TB := tb_in (t1_in (i := 27) rfl) rfl
theorem w_28 : Cond.code y_TM_init b_TM_init 2 none ∈ TB := tb_in (t1_in (i := 28) rfl) rfl
theorem w_29 : Cond.methodLink "TableMachine" 1 y_Object_init ∈ TB := tb_in (t1_in (i := 29) rfl) rfl
theorem w_30 : Cond.instanceMethod y_Object_init ∈ TB := tb_in (t1_in (i := 30) rfl) rfl
theorem w_31 : Cond.code y_Object_init b_Object_init 1 none ∈ TB := tb_in (t1_in (i := 31) rfl) rfl
theorem w_32 : Cond.classLink "TableMachine" 7 "TableMachine$Pages" ∈ TB := tb_in (t1_in (i := 32) rfl) rfl
theorem w_33 : Cond.instantiable "TableMachine$Pages" 3 ∈ TB := tb_in (t1_in (i := 33) rfl) rfl
theorem w_34 : Cond.methodLink "TableMachine" 9 y_Pg_init ∈ TB := tb_in (t1_in (i := 34) rfl) rfl
theorem w_35 : Cond.instanceMethod y_Pg_init ∈ TB := tb_in (t1_in (i := 35) rfl) rfl
theorem w_36 : Cond.code y_Pg_init b_Pg_init 2 none ∈ TB := tb_in (t1_in (i := 36) rfl) rfl
theorem w_37 : Cond.methodLink "TableMachine$Pages" 3 y_Object_init ∈ TB := tb_in (t1_in (i := 37) rfl) rfl
theorem w_38 : Cond.classLink "TableMachine$Pages" 9 "TableMachine$Tape" ∈ TB := tb_in (t1_in (i := 38) rfl) rfl
theorem w_40 : Cond.instantiable "TableMachine$Tape" 2 ∈ TB := tb_in (t1_in (i := 40) rfl) rfl
theorem w_41 : Cond.methodLink "TableMachine$Pages" 21 y_Tp_init ∈ TB := tb_in (t1_in (i := 41) rfl) rfl
theorem w_42 : Cond.instanceMethod y_Tp_init ∈ TB := tb_in (t1_in (i := 42) rfl) rfl
theorem w_43 : Cond.code y_Tp_init b_Tp_init 2 none ∈ TB := tb_in (t1_in (i := 43) rfl) rfl
theorem w_44 : Cond.methodLink "TableMachine$Tape" 1 y_Object_init ∈ TB := tb_in (t1_in (i := 44) rfl) rfl
theorem w_45 : Cond.fieldLink "TableMachine$Tape" 7 "TableMachine$Tape" "bytes" "[B" ∈ TB := tb_in (t1_in (i := 45) rfl) rfl
theorem w_46 : Cond.fieldLinkNest "TableMachine$Pages" 31 "TableMachine$Tape" "bytes" "[B" "TableMachine" ∈ NW := nw_in (t1_in (i := 46) rfl) rfl
theorem w_47 : Cond.fieldLinkNest "TableMachine$Tree" 185 "TableMachine$Tape" "bytes" "[B" "TableMachine" ∈ NW := nw_in (t1_in (i := 47) rfl) rfl
theorem w_48 : Cond.fieldLink "TableMachine$Tape" 13 "TableMachine$Tape" "at" "I" ∈ TB := tb_in (t1_in (i := 48) rfl) rfl
theorem w_49 : Cond.fieldLinkNest "TableMachine$Pages" 28 "TableMachine$Tape" "at" "I" "TableMachine" ∈ NW := nw_in (t1_in (i := 49) rfl) rfl
theorem w_50 : Cond.fieldLinkNest "TableMachine$Tree" 70 "TableMachine$Tape" "at" "I" "TableMachine" ∈ NW := nw_in (t1_in (i := 50) rfl) rfl
theorem w_55 : Cond.superclass "TableMachine$Tape" "java/lang/Object" ∈ TB := tb_in (t1_in (i := 55) rfl) rfl
theorem w_58 : Cond.fieldLink "TableMachine$Pages" 11 "TableMachine$Pages" "pages" "[LTableMachine$Tape;" ∈ TB := tb_in (t1_in (i := 58) rfl) rfl
theorem w_59 : Cond.fieldLink "TableMachine$Pages" 17 "TableMachine$Pages" "free" "[I" ∈ TB := tb_in (t1_in (i := 59) rfl) rfl
theorem w_60 : Cond.fieldLink "TableMachine$Pages" 24 "TableMachine$Pages" "left" "I" ∈ TB := tb_in (t1_in (i := 60) rfl) rfl
theorem w_67 : Cond.superclass "TableMachine$Pages" "java/lang/Object" ∈ TB := tb_in (t1_in (i := 67) rfl) rfl
theorem w_68 : Cond.classLink "TableMachine" 16 "TableMachine$Tree" ∈ TB := tb_in (t1_in (i := 68) rfl) rfl
theorem w_70 : Cond.classLink "TableMachine" 22 "TableMachine$Record" ∈ TB := tb_in (t1_in (i := 70) rfl) rfl
theorem w_71 : Cond.instantiable "TableMachine$Record" 1 ∈ TB := tb_in (t1_in (i := 71) rfl) rfl
theorem w_72 : Cond.methodLink "TableMachine" 24 y_Rc_init ∈ TB := tb_in (t1_in (i := 72) rfl) rfl
theorem w_73 : Cond.instanceMethod y_Rc_init ∈ TB := tb_in (t1_in (i := 73) rfl) rfl
theorem w_74 : Cond.code y_Rc_init b_Rc_init 2 none ∈ TB := tb_in (t1_in (i := 74) rfl) rfl
theorem w_75 : Cond.methodLink "TableMachine$Record" 3 y_Object_init ∈ TB := tb_in (t1_in (i := 75) rfl) rfl
theorem w_76 : Cond.classLink "TableMachine$Record" 9 "TableMachine$Value" ∈ TB := tb_in (t1_in (i := 76) rfl) rfl
theorem w_78 : Cond.instantiable "TableMachine$Value" 2 ∈ TB := tb_in (t1_in (i := 78) rfl) rfl
theorem w_79 : Cond.methodLinkNest "TableMachine$Record" 17 y_Vl_init "TableMachine" ∈ NW := nw_in (t1_in (i := 79) rfl) rfl
theorem w_80 : Cond.instanceMethod y_Vl_init ∈ TB := tb_in (t1_in (i := 80) rfl) rfl
theorem w_81 : Cond.code y_Vl_init b_Vl_init 1 none ∈ TB := tb_in (t1_in (i := 81) rfl) rfl
theorem w_82 : Cond.methodLink "TableMachine$Value" 1 y_Object_init ∈ TB := tb_in (t1_in (i := 82) rfl) rfl
theorem w_83 : Cond.fieldLink "TableMachine$Value" 7 "TableMachine$Value" "is" "Z" ∈ TB := tb_in (t1_in (i := 83) rfl) rfl
theorem w_84 : Cond.fieldLinkNest "TableMachine$Record" 18 "TableMachine$Value" "is" "Z" "TableMachine" ∈ NW := nw_in (t1_in (i := 84) rfl) rfl
theorem w_85 : Cond.fieldLinkNest "TableMachine" 162 "TableMachine$Value" "is" "Z" "TableMachine" ∈ NW := nw_in (t1_in (i := 85) rfl) rfl
theorem w_86 : Cond.fieldLink "TableMachine$Value" 13 "TableMachine$Value" "v" "J" ∈ TB := tb_in (t1_in (i := 86) rfl) rfl
theorem w_87 : Cond.fieldLinkNest "TableMachine$Record" 28 "TableMachine$Value" "v" "J" "TableMachine" ∈ NW := nw_in (t1_in (i := 87) rfl) rfl
theorem w_88 : Cond.fieldLinkNest "TableMachine" 158 "TableMachine$Value" "v" "J" "TableMachine" ∈ NW := nw_in (t1_in (i := 88) rfl) rfl
theorem w_93 : Cond.superclass "TableMachine$Value" "java/lang/Object" ∈ TB := tb_in (t1_in (i := 93) rfl) rfl
theorem w_94 : Cond.fieldLink "TableMachine$Record" 11 "TableMachine$Record" "values" "[LTableMachine$Value;" ∈ TB := tb_in (t1_in (i := 94) rfl) rfl
theorem w_95 : Cond.fieldLinkNest "TableMachine" 109 "TableMachine$Record" "values" "[LTableMachine$Value;" "TableMachine" ∈ NW := nw_in (t1_in (i := 95) rfl) rfl
theorem w_98 : Cond.superclass "TableMachine$Record" "java/lang/Object" ∈ TB := tb_in (t1_in (i := 98) rfl) rfl
theorem w_99 : Cond.methodLink "TableMachine" 32 y_Op_values ∈ TB := tb_in (t1_in (i := 99) rfl) rfl
theorem w_100 : Cond.static y_Op_values ∈ TB := tb_in (t1_in (i := 100) rfl) rfl
theorem w_101 : Cond.code y_Op_values b_Op_values 0 (some (.array (.object "TableMachine$Op"))) ∈ TB := tb_in (t1_in (i := 101) rfl) rfl
theorem w_102 : Cond.fieldLink "TableMachine$Op" 70 "TableMachine$Op" "$VALUES" "[LTableMachine$Op;" ∈ TB := tb_in (t1_in (i := 102) rfl) rfl
theorem w_104 : Cond.methodLink "TableMachine$Op" 74 y__LTableMachine_Op__clone ∈ TB := tb_in (t1_in (i := 104) rfl) rfl
theorem w_105 : Cond.sameMethod "[LTableMachine$Op;" "java/lang/Object" "clone" "()Ljava/lang/Object;" ∈ TB := tb_in (t1_in (i := 105) rfl) rfl
theorem w_106 : Cond.native y_Object_clone ∈ TB := tb_in (t1_in (i := 106) rfl) rfl
theorem w_107 : Cond.instanceMethod y_Object_clone ∈ TB := tb_in (t1_in (i := 107) rfl) rfl
theorem w_108 : Cond.selects "[LTableMachine$Op;" y__LTableMachine_Op__clone y_Object_clone ∈ TB := tb_in (t1_in (i := 108) rfl) rfl
theorem w_111 : Cond.classLink "TableMachine$Op" 75 "[LTableMachine$Op;" ∈ TB := tb_in (t1_in (i := 111) rfl) rfl
theorem w_112 : Cond.classLink "TableMachine" 42 "TableMachine$Instruction" ∈ TB := tb_in (t1_in (i := 112) rfl) rfl
theorem w_114 : Cond.classLink "TableMachine" 48 "TableMachine$Value" ∈ TB := tb_in (t1_in (i := 114) rfl) rfl
theorem w_115 : Cond.classLink "TableMachine" 54 "TableMachine$Cursor" ∈ TB := tb_in (t1_in (i := 115) rfl) rfl
theorem w_117 : Cond.classLink "TableMachine" 74 "TableMachine$Condition" ∈ TB := tb_in (t1_in (i := 117) rfl) rfl
theorem w_119 : Cond.instantiable "TableMachine$Instruction" 2 ∈ TB := tb_in (t1_in (i := 119) rfl) rfl
theorem w_120 : Cond.methodLinkNest "TableMachine" 83 y_In_init "TableMachine" ∈ NW := nw_in (t1_in (i := 120) rfl) rfl
theorem w_121 : Cond.instanceMethod y_In_init ∈ TB := tb_in (t1_in (i := 121) rfl) rfl
theorem w_122 : Cond.code y_In_init b_In_init 1 none ∈ TB := tb_in (t1_in (i := 122) rfl) rfl
theorem w_123 : Cond.methodLink "TableMachine$Instruction" 3 y_Object_init ∈ TB := tb_in (t1_in (i := 123) rfl) rfl
theorem w_124 : Cond.fieldLink "TableMachine$Instruction" 15 "TableMachine$Instruction" "op" "LTableMachine$Op;" ∈ TB := tb_in (t1_in (i := 124) rfl) rfl
theorem w_125 : Cond.fieldLinkNest "TableMachine" 169 "TableMachine$Instruction" "op" "LTableMachine$Op;" "TableMachine" ∈ NW := nw_in (t1_in (i := 125) rfl) rfl
theorem w_126 : Cond.fieldLink "TableMachine$Instruction" 9 "TableMachine$Instruction" "with" "[I" ∈ TB := tb_in (t1_in (i := 126) rfl) rfl
theorem w_127 : Cond.fieldLinkNest "TableMachine" 173 "TableMachine$Instruction" "with" "[I" "TableMachine" ∈ NW := nw_in (t1_in (i := 127) rfl) rfl
theorem w_132 : Cond.superclass "TableMachine$Instruction" "java/lang/Object" ∈ TB := tb_in (t1_in (i := 132) rfl) rfl
theorem w_133 : Cond.methodLinkNest "TableMachine" 84 y_Vl_init "TableMachine" ∈ NW := nw_in (t1_in (i := 133) rfl) rfl
theorem w_134 : Cond.instantiable "TableMachine$Cursor" 3 ∈ TB := tb_in (t1_in (i := 134) rfl) rfl
theorem w_135 : Cond.methodLinkNest "TableMachine" 85 y_Cu_init "TableMachine" ∈ NW := nw_in (t1_in (i := 135) rfl) rfl
theorem w_136 : Cond.instanceMethod y_Cu_init ∈ TB := tb_in (t1_in (i := 136) rfl) rfl
theorem w_137 : Cond.code y_Cu_init b_Cu_init 1 none ∈ TB := tb_in (t1_in (i := 137) rfl) rfl
theorem w_138 : Cond.methodLink "TableMachine$Cursor" 1 y_Object_init ∈ TB := tb_in (t1_in (i := 138) rfl) rfl
theorem w_139 : Cond.fieldLink "TableMachine$Cursor" 13 "TableMachine$Cursor" "on" "LTableMachine$Tree;" ∈ TB := tb_in (t1_in (i := 139) rfl) rfl
theorem w_140 : Cond.fieldLinkNest "TableMachine" 204 "TableMachine$Cursor" "on" "LTableMachine$Tree;" "TableMachine" ∈ NW := nw_in (t1_in (i := 140) rfl) rfl
theorem w_141 : Cond.fieldLink "TableMachine$Cursor" 7 "TableMachine$Cursor" "has" "Z" ∈ TB := tb_in (t1_in (i := 141) rfl) rfl
theorem w_142 : Cond.fieldLinkNest "TableMachine" 216 "TableMachine$Cursor" "has" "Z" "TableMachine" ∈ NW := nw_in (t1_in (i := 142) rfl) rfl
theorem w_143 : Cond.fieldLink "TableMachine$Cursor" 17 "TableMachine$Cursor" "key" "J" ∈ TB := tb_in (t1_in (i := 143) rfl) rfl
theorem w_144 : Cond.fieldLinkNest "TableMachine" 218 "TableMachine$Cursor" "key" "J" "TableMachine" ∈ NW := nw_in (t1_in (i := 144) rfl) rfl
theorem w_151 : Cond.superclass "TableMachine$Cursor" "java/lang/Object" ∈ TB := tb_in (t1_in (i := 151) rfl) rfl
theorem w_152 : Cond.instantiable "TableMachine$Condition" 4 ∈ TB := tb_in (t1_in (i := 152) rfl) rfl
theorem w_153 : Cond.methodLinkNest "TableMachine" 86 y_Cd_init "TableMachine" ∈ NW := nw_in (t1_in (i := 153) rfl) rfl
theorem w_154 : Cond.instanceMethod y_Cd_init ∈ TB := tb_in (t1_in (i := 154) rfl) rfl
theorem w_155 : Cond.code y_Cd_init b_Cd_init 1 none ∈ TB := tb_in (t1_in (i := 155) rfl) rfl
theorem w_156 : Cond.methodLink "TableMachine$Condition" 1 y_Object_init ∈ TB := tb_in (t1_in (i := 156) rfl) rfl
theorem w_157 : Cond.fieldLinkNest "TableMachine" 294 "TableMachine$Condition" "cursor" "I" "TableMachine" ∈ NW := nw_in (t1_in (i := 157) rfl) rfl
theorem w_158 : Cond.fieldLinkNest "TableMachine" 297 "TableMachine$Condition" "column" "I" "TableMachine" ∈ NW := nw_in (t1_in (i := 158) rfl) rfl
theorem w_159 : Cond.fieldLinkNest "TableMachine" 299 "TableMachine$Condition" "comparison" "I" "TableMachine" ∈ NW := nw_in (t1_in (i := 159) rfl) rfl
theorem w_160 : Cond.fieldLinkNest "TableMachine" 302 "TableMachine$Condition" "number" "I" "TableMachine" ∈ NW := nw_in (t1_in (i := 160) rfl) rfl
theorem w_169 : Cond.superclass "TableMachine$Condition" "java/lang/Object" ∈ TB := tb_in (t1_in (i := 169) rfl) rfl
theorem w_170 : Cond.fieldLink "TableMachine" 10 "TableMachine" "store" "LTableMachine$Pages;" ∈ TB := tb_in (t1_in (i := 170) rfl) rfl
theorem w_171 : Cond.fieldLink "TableMachine" 18 "TableMachine" "tables" "[LTableMachine$Tree;" ∈ TB := tb_in (t1_in (i := 171) rfl) rfl
theorem w_172 : Cond.fieldLink "TableMachine" 96 "TableMachine" "tableCount" "I" ∈ TB := tb_in (t1_in (i := 172) rfl) rfl
theorem w_173 : Cond.fieldLink "TableMachine" 122 "TableMachine" "rows" "I" ∈ TB := tb_in (t1_in (i := 173) rfl) rfl
theorem w_174 : Cond.fieldLink "TableMachine" 25 "TableMachine" "coming" "LTableMachine$Record;" ∈ TB := tb_in (t1_in (i := 174) rfl) rfl
theorem w_175 : Cond.fieldLink "TableMachine" 29 "TableMachine" "seen" "LTableMachine$Record;" ∈ TB := tb_in (t1_in (i := 175) rfl) rfl
theorem w_176 : Cond.fieldLink "TableMachine" 38 "TableMachine" "ops" "[LTableMachine$Op;" ∈ TB := tb_in (t1_in (i := 176) rfl) rfl
theorem w_177 : Cond.fieldLink "TableMachine" 44 "TableMachine" "program" "[LTableMachine$Instruction;" ∈ TB := tb_in (t1_in (i := 177) rfl) rfl
theorem w_178 : Cond.fieldLink "TableMachine" 166 "TableMachine" "length" "I" ∈ TB := tb_in (t1_in (i := 178) rfl) rfl
theorem w_179 : Cond.fieldLink "TableMachine" 50 "TableMachine" "registers" "[LTableMachine$Value;" ∈ TB := tb_in (t1_in (i := 179) rfl) rfl
theorem w_180 : Cond.fieldLink "TableMachine" 56 "TableMachine" "cursors" "[LTableMachine$Cursor;" ∈ TB := tb_in (t1_in (i := 180) rfl) rfl
theorem w_181 : Cond.fieldLink "TableMachine" 60 "TableMachine" "results" "[LTableMachine$Value;" ∈ TB := tb_in (t1_in (i := 181) rfl) rfl
theorem w_182 : Cond.fieldLink "TableMachine" 63 "TableMachine" "widths" "[I" ∈ TB := tb_in (t1_in (i := 182) rfl) rfl
theorem w_183 : Cond.fieldLink "TableMachine" 235 "TableMachine" "resultCount" "I" ∈ TB := tb_in (t1_in (i := 183) rfl) rfl
theorem w_184 : Cond.fieldLink "TableMachine" 238 "TableMachine" "outcome" "I" ∈ TB := tb_in (t1_in (i := 184) rfl) rfl
theorem w_185 : Cond.fieldLink "TableMachine" 67 "TableMachine" "asks" "I" ∈ TB := tb_in (t1_in (i := 185) rfl) rfl
theorem w_186 : Cond.fieldLink "TableMachine" 71 "TableMachine" "joins" "I" ∈ TB := tb_in (t1_in (i := 186) rfl) rfl
theorem w_187 : Cond.fieldLink "TableMachine" 76 "TableMachine" "conditions" "[LTableMachine$Condition;" ∈ TB := tb_in (t1_in (i := 187) rfl) rfl
theorem w_188 : Cond.fieldLink "TableMachine" 281 "TableMachine" "conditionCount" "I" ∈ TB := tb_in (t1_in (i := 188) rfl) rfl
theorem w_189 : Cond.fieldLink "TableMachine" 80 "TableMachine" "outputs" "[I" ∈ TB := tb_in (t1_in (i := 189) rfl) rfl
theorem w_190 : Cond.fieldLink "TableMachine" 284 "TableMachine" "outputCount" "I" ∈ TB := tb_in (t1_in (i := 190) rfl) rfl
theorem w_191 : Cond.fieldLink "TableMachine" 287 "TableMachine" "joined" "Z" ∈ TB := tb_in (t1_in (i := 191) rfl) rfl
theorem w_192 : Cond.fieldLink "TableMachine" 305 "TableMachine" "joinFirst" "I" ∈ TB := tb_in (t1_in (i := 192) rfl) rfl
theorem w_193 : Cond.fieldLink "TableMachine" 308 "TableMachine" "joinSecond" "I" ∈ TB := tb_in (t1_in (i := 193) rfl) rfl
theorem w_242 : Cond.superclass "TableMachine" "java/lang/Object" ∈ TB := tb_in (t2_in (i := 2) rfl) rfl
theorem w_243 : Cond.methodLink "TableMachineLaw" 78 y_TM_set ∈ TB := tb_in (t2_in (i := 3) rfl) rfl
theorem w_244 : Cond.instanceMethod y_TM_set ∈ TB := tb_in (t2_in (i := 4) rfl) rfl
theorem w_245 : Cond.selects "TableMachine" y_TM_set y_TM_set ∈ TB := tb_in (t2_in (i := 5) rfl) rfl
theorem w_246 : Cond.code y_TM_set b_TM_set 5 (some .boolean) ∈ TB := tb_in (t2_in (i := 6) rfl) rfl
theorem w_247 : Cond.methodLink "TableMachine" 111 y_Vl_to ∈ TB := tb_in (t2_in (i := 7) rfl) rfl
theorem w_248 : Cond.instanceMethod y_Vl_to ∈ TB := tb_in (t2_in (i := 8) rfl) rfl
theorem w_249 : Cond.selects "TableMachine$Value" y_Vl_to y_Vl_to ∈ TB := tb_in (t2_in (i := 9) rfl) rfl
theorem w_250 : Cond.code y_Vl_to b_Vl_to 3 none ∈ TB := tb_in (t2_in (i := 10) rfl) rfl
theorem w_251 : Cond.methodLink "TableMachine" 115 y_Vl_none ∈ TB := tb_in (t2_in (i := 11) rfl) rfl
theorem w_252 : Cond.instanceMethod y_Vl_none ∈ TB := tb_in (t2_in (i := 12) rfl) rfl
theorem w_253 : Cond.selects "TableMachine$Value" y_Vl_none y_Vl_none ∈ TB := tb_in (t2_in (i := 13) rfl) rfl
theorem w_254 : Cond.code y_Vl_none b_Vl_none 1 none ∈ TB := tb_in (t2_in (i := 14) rfl) rfl
theorem w_255 : Cond.methodLink "TableMachineLaw" 90 y_TM_count ∈ TB := tb_in (t2_in (i := 15) rfl) rfl
theorem w_256 : Cond.instanceMethod y_TM_count ∈ TB := tb_in (t2_in (i := 16) rfl) rfl
theorem w_257 : Cond.selects "TableMachine" y_TM_count y_TM_count ∈ TB := tb_in (t2_in (i := 17) rfl) rfl
theorem w_258 : Cond.code y_TM_count b_TM_count 2 (some .int) ∈ TB := tb_in (t2_in (i := 18) rfl) rfl
theorem w_259 : Cond.methodLink "TableMachine" 118 y_TM_isTable ∈ TB := tb_in (t2_in (i := 19) rfl) rfl
theorem w_261 : Cond.instanceMethod y_TM_isTable ∈ TB := tb_in (t2_in (i := 21) rfl) rfl
theorem w_262 : Cond.code y_TM_isTable b_TM_isTable 2 (some .boolean) ∈ TB := tb_in (t2_in (i := 22) rfl) rfl
theorem w_263 : Cond.methodLink "TableMachineLaw" 109 y_TM_wipe ∈ TB := tb_in (t2_in (i := 23) rfl) rfl
theorem w_264 : Cond.instanceMethod y_TM_wipe ∈ TB := tb_in (t2_in (i := 24) rfl) rfl
theorem w_265 : Cond.selects "TableMachine" y_TM_wipe y_TM_wipe ∈ TB := tb_in (t2_in (i := 25) rfl) rfl
theorem w_266 : Cond.code y_TM_wipe b_TM_wipe 1 none ∈ TB := tb_in (t2_in (i := 26) rfl) rfl
theorem w_267 : Cond.methodLink "TableMachineLaw" 126 y_TM_ask ∈ TB := tb_in (t2_in (i := 27) rfl) rfl
theorem w_268 : Cond.instanceMethod y_TM_ask ∈ TB := tb_in (t2_in (i := 28) rfl) rfl
theorem w_269 : Cond.selects "TableMachine" y_TM_ask y_TM_ask ∈ TB := tb_in (t2_in (i := 29) rfl) rfl
theorem w_270 : Cond.code y_TM_ask b_TM_ask 3 (some .boolean) ∈ TB := tb_in (t2_in (i := 30) rfl) rfl
theorem w_271 : Cond.methodLink "TableMachineLaw" 130 y_TM_output ∈ TB := tb_in (t2_in (i := 31) rfl) rfl
theorem w_272 : Cond.instanceMethod y_TM_output ∈ TB := tb_in (t2_in (i := 32) rfl) rfl
theorem w_273 : Cond.selects "TableMachine" y_TM_output y_TM_output ∈ TB := tb_in (t2_in (i := 33) rfl) rfl
theorem w_274 : Cond.code y_TM_output b_TM_output 3 (some .boolean) ∈ TB := tb_in (t2_in (i := 34) rfl) rfl
theorem w_275 : Cond.methodLink "TableMachine" 290 y_TM_isColumn ∈ TB := tb_in (t2_in (i := 35) rfl) rfl
theorem w_277 : Cond.instanceMethod y_TM_isColumn ∈ TB := tb_in (t2_in (i := 37) rfl) rfl
theorem w_278 : Cond.code y_TM_isColumn b_TM_isColumn 4 (some .boolean) ∈ TB := tb_in (t2_in (i := 38) rfl) rfl
theorem w_279 : Cond.methodLink "TableMachineLaw" 134 y_TM_condition ∈ TB := tb_in (t2_in (i := 39) rfl) rfl
theorem w_280 : Cond.instanceMethod y_TM_condition ∈ TB := tb_in (t2_in (i := 40) rfl) rfl
theorem w_281 : Cond.selects "TableMachine" y_TM_condition y_TM_condition ∈ TB := tb_in (t2_in (i := 41) rfl) rfl
theorem w_282 : Cond.code y_TM_condition b_TM_condition 6 (some .boolean) ∈ TB := tb_in (t2_in (i := 42) rfl) rfl
theorem w_283 : Cond.methodLink "TableMachineLaw" 139 y_TM_join ∈ TB := tb_in (t2_in (i := 43) rfl) rfl
theorem w_284 : Cond.instanceMethod y_TM_join ∈ TB := tb_in (t2_in (i := 44) rfl) rfl
theorem w_285 : Cond.selects "TableMachine" y_TM_join y_TM_join ∈ TB := tb_in (t2_in (i := 45) rfl) rfl
theorem w_286 : Cond.code y_TM_join b_TM_join 3 (some .boolean) ∈ TB := tb_in (t2_in (i := 46) rfl) rfl
theorem w_287 : Cond.methodLink "TableMachineLaw" 67 y_Lw_table ∈ TB := tb_in (t2_in (i := 47) rfl) rfl
theorem w_288 : Cond.static y_Lw_table ∈ TB := tb_in (t2_in (i := 48) rfl) rfl
theorem w_290 : Cond.classLink "TableMachineLaw" 13 "java/lang/IllegalArgumentException" ∈ TB := tb_in (t2_in (i := 50) rfl) rfl
theorem w_291 : Cond.classLink "TableMachineLaw" 15 "java/lang/IllegalStateException" ∈ TB := tb_in (t2_in (i := 51) rfl) rfl
theorem w_292 : Cond.methodLink "TableMachineLaw" 7 y_TM_table ∈ TB := tb_in (t2_in (i := 52) rfl) rfl
theorem w_293 : Cond.instanceMethod y_TM_table ∈ TB := tb_in (t2_in (i := 53) rfl) rfl
theorem w_294 : Cond.selects "TableMachine" y_TM_table y_TM_table ∈ TB := tb_in (t2_in (i := 54) rfl) rfl
theorem w_295 : Cond.code y_TM_table b_TM_table 2 (some .int) ∈ TB := tb_in (t2_in (i := 55) rfl) rfl
theorem w_296 : Cond.methodLink "TableMachine" 99 y_TM_check ∈ TB := tb_in (t2_in (i := 56) rfl) rfl
theorem w_297 : Cond.static y_TM_check ∈ TB := tb_in (t2_in (i := 57) rfl) rfl
theorem w_298 : Cond.code y_TM_check b_TM_check 1 none ∈ TB := tb_in (t2_in (i := 58) rfl) rfl
theorem w_299 : Cond.classLink "TableMachine" 87 "java/lang/IllegalArgumentException" ∈ TB := tb_in (t2_in (i := 59) rfl) rfl
theorem w_300 : Cond.instantiable "java/lang/IllegalArgumentException" 6 ∈ TB := tb_in (t2_in (i := 60) rfl) rfl
theorem w_308 : Cond.selects "java/lang/IllegalArgumentException" y_Throwable_fillInStackTrace_1 y_Throwable_fillInStackTrace_1 ∈ TB := tb_in (t2_in (i := 68) rfl) rfl
theorem w_309 : Cond.selects "java/lang/IllegalArgumentException" y_Throwable_fillInStackTrace y_Throwable_fillInStackTrace ∈ TB := tb_in (t2_in (i := 69) rfl) rfl
theorem w_320 : Cond.fieldLink "java/lang/Throwable" 198 "java/lang/Throwable" "backtrace" "Ljava/lang/Object;" ∈ TB := tb_in (t2_in (i := 80) rfl) rfl
theorem w_321 : Cond.superclass "java/lang/Throwable" "java/lang/Object" ∈ TB := tb_in (t2_in (i := 81) rfl) rfl
theorem w_322 : Cond.instanceMethod y_Throwable_init ∈ TB := tb_in (t2_in (i := 82) rfl) rfl
theorem w_323 : Cond.code y_Throwable_init b_Throwable_init 1 none ∈ TB := tb_in (t2_in (i := 83) rfl) rfl
theorem w_324 : Cond.methodLink "java/lang/Throwable" 1 y_Object_init ∈ TB := tb_in (t2_in (i := 84) rfl) rfl
theorem w_325 : Cond.fieldLink "java/lang/Throwable" 13 "java/lang/Throwable" "UNASSIGNED_STACK" "[Ljava/lang/StackTraceElement;" ∈ TB := tb_in (t2_in (i := 85) rfl) rfl
theorem w_327 : Cond.fieldLink "java/lang/Throwable" 20 "java/lang/Throwable" "SUPPRESSED_SENTINEL" "Ljava/util/List;" ∈ TB := tb_in (t2_in (i := 87) rfl) rfl
theorem w_329 : Cond.methodLink "java/lang/Throwable" 27 y_Throwable_fillInStackTrace ∈ TB := tb_in (t2_in (i := 89) rfl) rfl
theorem w_330 : Cond.instanceMethod y_Throwable_fillInStackTrace ∈ TB := tb_in (t2_in (i := 90) rfl) rfl
theorem w_331 : Cond.sameMethod "java/lang/Throwable" "java/lang/Throwable" "fillInStackTrace" "()Ljava/lang/Throwable;" ∈ TB := tb_in (t2_in (i := 91) rfl) rfl
theorem w_332 : Cond.selects "java/lang/IllegalStateException" y_Throwable_fillInStackTrace y_Throwable_fillInStackTrace ∈ TB := tb_in (t2_in (i := 92) rfl) rfl
theorem w_333 : Cond.selects "java/lang/IndexOutOfBoundsException" y_Throwable_fillInStackTrace y_Throwable_fillInStackTrace ∈ TB := tb_in (t2_in (i := 93) rfl) rfl
theorem w_334 : Cond.selects "java/util/NoSuchElementException" y_Throwable_fillInStackTrace y_Throwable_fillInStackTrace ∈ TB := tb_in (t2_in (i := 94) rfl) rfl
theorem w_336 : Cond.methodLink "java/lang/Throwable" 202 y_Throwable_fillInStackTrace_1 ∈ TB := tb_in (t2_in (i := 96) rfl) rfl
theorem w_338 : Cond.instanceMethod y_Throwable_fillInStackTrace_1 ∈ TB := tb_in (t2_in (i := 98) rfl) rfl
theorem w_339 : Cond.instantiable "java/lang/Throwable" 6 ∈ TB := tb_in (t2_in (i := 99) rfl) rfl
theorem w_340 : Cond.native y_Throwable_fillInStackTrace_1 ∈ TB := tb_in (t2_in (i := 100) rfl) rfl
theorem w_341 : Cond.methodLink "TableMachine" 89 y_IAE_init ∈ TB := tb_in (t2_in (i := 101) rfl) rfl
theorem w_342 : Cond.instanceMethod y_IAE_init ∈ TB := tb_in (t2_in (i := 102) rfl) rfl
theorem w_343 : Cond.code y_IAE_init b_IAE_init 1 none ∈ TB := tb_in (t2_in (i := 103) rfl) rfl
theorem w_344 : Cond.methodLink "java/lang/IllegalArgumentException" 1 y_RuntimeEx_init ∈ TB := tb_in (t2_in (i := 104) rfl) rfl
theorem w_345 : Cond.instanceMethod y_RuntimeEx_init ∈ TB := tb_in (t2_in (i := 105) rfl) rfl
theorem w_346 : Cond.code y_RuntimeEx_init b_RuntimeEx_init 1 none ∈ TB := tb_in (t2_in (i := 106) rfl) rfl
theorem w_347 : Cond.methodLink "java/lang/RuntimeException" 1 y_Exception_init ∈ TB := tb_in (t2_in (i := 107) rfl) rfl
theorem w_348 : Cond.instanceMethod y_Exception_init ∈ TB := tb_in (t2_in (i := 108) rfl) rfl
theorem w_349 : Cond.code y_Exception_init b_Exception_init 1 none ∈ TB := tb_in (t2_in (i := 109) rfl) rfl
theorem w_350 : Cond.methodLink "java/lang/Exception" 1 y_Throwable_init ∈ TB := tb_in (t2_in (i := 110) rfl) rfl
theorem w_352 : Cond.fieldLink "java/lang/Throwable" 7 "java/lang/Throwable" "cause" "Ljava/lang/Throwable;" ∈ TB := tb_in (t2_in (i := 112) rfl) rfl
theorem w_353 : Cond.fieldLink "java/lang/Throwable" 17 "java/lang/Throwable" "stackTrace" "[Ljava/lang/StackTraceElement;" ∈ TB := tb_in (t2_in (i := 113) rfl) rfl
theorem w_354 : Cond.fieldLink "java/lang/Throwable" 24 "java/lang/Throwable" "suppressedExceptions" "Ljava/util/List;" ∈ TB := tb_in (t2_in (i := 114) rfl) rfl
theorem w_362 : Cond.superclass "java/lang/IllegalArgumentException" "java/lang/RuntimeException" ∈ TB := tb_in (t2_in (i := 122) rfl) rfl
theorem w_363 : Cond.methodLink "TableMachine" 103 y_TM_demand ∈ TB := tb_in (t2_in (i := 123) rfl) rfl
theorem w_364 : Cond.static y_TM_demand ∈ TB := tb_in (t2_in (i := 124) rfl) rfl
theorem w_365 : Cond.code y_TM_demand b_TM_demand 1 none ∈ TB := tb_in (t2_in (i := 125) rfl) rfl
theorem w_366 : Cond.classLink "TableMachine" 90 "java/lang/IllegalStateException" ∈ TB := tb_in (t2_in (i := 126) rfl) rfl
theorem w_367 : Cond.instantiable "java/lang/IllegalStateException" 6 ∈ TB := tb_in (t2_in (i := 127) rfl) rfl
theorem w_369 : Cond.selects "java/lang/IllegalStateException" y_Throwable_fillInStackTrace_1 y_Throwable_fillInStackTrace_1 ∈ TB := tb_in (t2_in (i := 129) rfl) rfl
theorem w_375 : Cond.methodLink "TableMachine" 92 y_ISE_init ∈ TB := tb_in (t2_in (i := 135) rfl) rfl
theorem w_376 : Cond.instanceMethod y_ISE_init ∈ TB := tb_in (t2_in (i := 136) rfl) rfl
theorem w_377 : Cond.code y_ISE_init b_ISE_init 1 none ∈ TB := tb_in (t2_in (i := 137) rfl) rfl
theorem w_378 : Cond.methodLink "java/lang/IllegalStateException" 1 y_RuntimeEx_init ∈ TB := tb_in (t2_in (i := 138) rfl) rfl
theorem w_380 : Cond.superclass "java/lang/IllegalStateException" "java/lang/RuntimeException" ∈ TB := tb_in (t2_in (i := 140) rfl) rfl
theorem w_381 : Cond.instantiable "TableMachine$Tree" 14 ∈ TB := tb_in (t2_in (i := 141) rfl) rfl
theorem w_382 : Cond.methodLink "TableMachine" 106 y_Tr_init ∈ TB := tb_in (t2_in (i := 142) rfl) rfl
theorem w_383 : Cond.instanceMethod y_Tr_init ∈ TB := tb_in (t2_in (i := 143) rfl) rfl
theorem w_384 : Cond.code y_Tr_init b_Tr_init 3 none ∈ TB := tb_in (t2_in (i := 144) rfl) rfl
theorem w_385 : Cond.methodLink "TableMachine$Tree" 3 y_Object_init ∈ TB := tb_in (t2_in (i := 145) rfl) rfl
theorem w_386 : Cond.classLink "TableMachine$Tree" 18 "TableMachine$Tape" ∈ TB := tb_in (t2_in (i := 146) rfl) rfl
theorem w_387 : Cond.methodLink "TableMachine$Tree" 20 y_Tp_init ∈ TB := tb_in (t2_in (i := 147) rfl) rfl
theorem w_388 : Cond.methodLink "TableMachine$Tree" 35 y_Pg_fresh ∈ TB := tb_in (t2_in (i := 148) rfl) rfl
theorem w_389 : Cond.instanceMethod y_Pg_fresh ∈ TB := tb_in (t2_in (i := 149) rfl) rfl
theorem w_390 : Cond.selects "TableMachine$Pages" y_Pg_fresh y_Pg_fresh ∈ TB := tb_in (t2_in (i := 150) rfl) rfl
theorem w_391 : Cond.code y_Pg_fresh b_Pg_fresh 1 (some .int) ∈ TB := tb_in (t2_in (i := 151) rfl) rfl
theorem w_392 : Cond.methodLink "TableMachine$Tree" 44 y_Pg_head ∈ TB := tb_in (t2_in (i := 152) rfl) rfl
theorem w_393 : Cond.instanceMethod y_Pg_head ∈ TB := tb_in (t2_in (i := 153) rfl) rfl
theorem w_394 : Cond.selects "TableMachine$Pages" y_Pg_head y_Pg_head ∈ TB := tb_in (t2_in (i := 154) rfl) rfl
theorem w_395 : Cond.code y_Pg_head b_Pg_head 4 none ∈ TB := tb_in (t2_in (i := 155) rfl) rfl
theorem w_396 : Cond.fieldLink "TableMachine$Tree" 27 "TableMachine$Tree" "store" "LTableMachine$Pages;" ∈ TB := tb_in (t2_in (i := 156) rfl) rfl
theorem w_397 : Cond.fieldLink "TableMachine$Tree" 41 "TableMachine$Tree" "root" "I" ∈ TB := tb_in (t2_in (i := 157) rfl) rfl
theorem w_398 : Cond.fieldLink "TableMachine$Tree" 31 "TableMachine$Tree" "columns" "I" ∈ TB := tb_in (t2_in (i := 158) rfl) rfl
theorem w_399 : Cond.fieldLinkNest "TableMachine" 148 "TableMachine$Tree" "columns" "I" "TableMachine" ∈ NW := nw_in (t2_in (i := 159) rfl) rfl
theorem w_400 : Cond.fieldLinkNest "TableMachine" 136 "TableMachine$Tree" "rows" "I" "TableMachine" ∈ NW := nw_in (t2_in (i := 160) rfl) rfl
theorem w_401 : Cond.fieldLink "TableMachine$Tree" 134 "TableMachine$Tree" "rows" "I" ∈ TB := tb_in (t2_in (i := 161) rfl) rfl
theorem w_402 : Cond.fieldLink "TableMachine$Tree" 9 "TableMachine$Tree" "way" "[I" ∈ TB := tb_in (t2_in (i := 162) rfl) rfl
theorem w_403 : Cond.fieldLink "TableMachine$Tree" 15 "TableMachine$Tree" "turn" "[I" ∈ TB := tb_in (t2_in (i := 163) rfl) rfl
theorem w_404 : Cond.fieldLink "TableMachine$Tree" 55 "TableMachine$Tree" "depth" "I" ∈ TB := tb_in (t2_in (i := 164) rfl) rfl
theorem w_405 : Cond.fieldLink "TableMachine$Tree" 88 "TableMachine$Tree" "begin" "I" ∈ TB := tb_in (t2_in (i := 165) rfl) rfl
theorem w_406 : Cond.fieldLink "TableMachine$Tree" 91 "TableMachine$Tree" "end" "I" ∈ TB := tb_in (t2_in (i := 166) rfl) rfl
theorem w_407 : Cond.fieldLink "TableMachine$Tree" 81 "TableMachine$Tree" "index" "I" ∈ TB := tb_in (t2_in (i := 167) rfl) rfl
theorem w_408 : Cond.fieldLink "TableMachine$Tree" 84 "TableMachine$Tree" "found" "Z" ∈ TB := tb_in (t2_in (i := 168) rfl) rfl
theorem w_409 : Cond.fieldLink "TableMachine$Tree" 23 "TableMachine$Tree" "work" "LTableMachine$Tape;" ∈ TB := tb_in (t2_in (i := 169) rfl) rfl
theorem w_410 : Cond.fieldLink "TableMachine$Tree" 156 "TableMachine$Tree" "midKey" "J" ∈ TB := tb_in (t2_in (i := 170) rfl) rfl
theorem w_411 : Cond.fieldLink "TableMachine$Tree" 160 "TableMachine$Tree" "midPage" "I" ∈ TB := tb_in (t2_in (i := 171) rfl) rfl
theorem w_440 : Cond.superclass "TableMachine$Tree" "java/lang/Object" ∈ TB := tb_in (t2_in (i := 200) rfl) rfl
theorem w_441 : Cond.methodLink "TableMachineLaw" 83 y_Lw_insert ∈ TB := tb_in (t2_in (i := 201) rfl) rfl
theorem w_442 : Cond.static y_Lw_insert ∈ TB := tb_in (t2_in (i := 202) rfl) rfl
theorem w_444 : Cond.methodLink "TableMachineLaw" 17 y_TM_insert ∈ TB := tb_in (t2_in (i := 204) rfl) rfl
theorem w_445 : Cond.instanceMethod y_TM_insert ∈ TB := tb_in (t2_in (i := 205) rfl) rfl
theorem w_446 : Cond.selects "TableMachine" y_TM_insert y_TM_insert ∈ TB := tb_in (t2_in (i := 206) rfl) rfl
theorem w_447 : Cond.code y_TM_insert b_TM_insert 4 (some .boolean) ∈ TB := tb_in (t2_in (i := 207) rfl) rfl
theorem w_448 : Cond.methodLink "TableMachine" 125 y_Tr_has ∈ TB := tb_in (t2_in (i := 208) rfl) rfl
theorem w_449 : Cond.instanceMethod y_Tr_has ∈ TB := tb_in (t2_in (i := 209) rfl) rfl
theorem w_450 : Cond.selects "TableMachine$Tree" y_Tr_has y_Tr_has ∈ TB := tb_in (t2_in (i := 210) rfl) rfl
theorem w_451 : Cond.code y_Tr_has b_Tr_has 3 (some .boolean) ∈ TB := tb_in (t2_in (i := 211) rfl) rfl
theorem w_452 : Cond.methodLink "TableMachine$Tree" 94 y_Tr_find ∈ TB := tb_in (t2_in (i := 212) rfl) rfl
theorem w_454 : Cond.instanceMethod y_Tr_find ∈ TB := tb_in (t2_in (i := 214) rfl) rfl
theorem w_455 : Cond.code y_Tr_find b_Tr_find 8 none ∈ TB := tb_in (t2_in (i := 215) rfl) rfl
theorem w_456 : Cond.methodLink "TableMachine$Tree" 66 y_Pg_isLeaf ∈ TB := tb_in (t2_in (i := 216) rfl) rfl
theorem w_457 : Cond.instanceMethod y_Pg_isLeaf ∈ TB := tb_in (t2_in (i := 217) rfl) rfl
theorem w_458 : Cond.selects "TableMachine$Pages" y_Pg_isLeaf y_Pg_isLeaf ∈ TB := tb_in (t2_in (i := 218) rfl) rfl
theorem w_459 : Cond.code y_Pg_isLeaf b_Pg_isLeaf 2 (some .boolean) ∈ TB := tb_in (t2_in (i := 219) rfl) rfl
theorem w_460 : Cond.methodLink "TableMachine$Tree" 77 y_Tr_childFor ∈ TB := tb_in (t2_in (i := 220) rfl) rfl
theorem w_462 : Cond.instanceMethod y_Tr_childFor ∈ TB := tb_in (t2_in (i := 222) rfl) rfl
theorem w_463 : Cond.code y_Tr_childFor b_Tr_childFor 10 (some .int) ∈ TB := tb_in (t2_in (i := 223) rfl) rfl
theorem w_464 : Cond.methodLink "TableMachine$Tree" 48 y_Pg_open ∈ TB := tb_in (t2_in (i := 224) rfl) rfl
theorem w_465 : Cond.instanceMethod y_Pg_open ∈ TB := tb_in (t2_in (i := 225) rfl) rfl
theorem w_466 : Cond.selects "TableMachine$Pages" y_Pg_open y_Pg_open ∈ TB := tb_in (t2_in (i := 226) rfl) rfl
theorem w_467 : Cond.code y_Pg_open b_Pg_open 2 (some (.object "TableMachine$Tape")) ∈ TB := tb_in (t2_in (i := 227) rfl) rfl
theorem w_468 : Cond.methodLink "TableMachine$Tree" 52 y_Tp_take ∈ TB := tb_in (t2_in (i := 228) rfl) rfl
theorem w_469 : Cond.instanceMethod y_Tp_take ∈ TB := tb_in (t2_in (i := 229) rfl) rfl
theorem w_470 : Cond.selects "TableMachine$Tape" y_Tp_take y_Tp_take ∈ TB := tb_in (t2_in (i := 230) rfl) rfl
theorem w_471 : Cond.code y_Tp_take b_Tp_take 1 (some .int) ∈ TB := tb_in (t2_in (i := 231) rfl) rfl
theorem w_472 : Cond.methodLink "TableMachine$Tree" 58 y_Pg_cells ∈ TB := tb_in (t2_in (i := 232) rfl) rfl
theorem w_473 : Cond.instanceMethod y_Pg_cells ∈ TB := tb_in (t2_in (i := 233) rfl) rfl
theorem w_474 : Cond.selects "TableMachine$Pages" y_Pg_cells y_Pg_cells ∈ TB := tb_in (t2_in (i := 234) rfl) rfl
theorem w_475 : Cond.code y_Pg_cells b_Pg_cells 2 (some .int) ∈ TB := tb_in (t2_in (i := 235) rfl) rfl
theorem w_476 : Cond.methodLink "TableMachine$Tree" 62 y_Tp_takeNumber ∈ TB := tb_in (t2_in (i := 236) rfl) rfl
theorem w_477 : Cond.instanceMethod y_Tp_takeNumber ∈ TB := tb_in (t2_in (i := 237) rfl) rfl
theorem w_478 : Cond.selects "TableMachine$Tape" y_Tp_takeNumber y_Tp_takeNumber ∈ TB := tb_in (t2_in (i := 238) rfl) rfl
theorem w_479 : Cond.code y_Tp_takeNumber b_Tp_takeNumber 5 (some .long) ∈ TB := tb_in (t2_in (i := 239) rfl) rfl
theorem w_480 : Cond.methodLink "TableMachine$Tape" 23 y_Tp_take ∈ TB := tb_in (t3_in (i := 0) rfl) rfl
theorem w_481 : Cond.methodLink "TableMachine$Tree" 73 y_Tr_pass ∈ TB := tb_in (t3_in (i := 1) rfl) rfl
theorem w_483 : Cond.instanceMethod y_Tr_pass ∈ TB := tb_in (t3_in (i := 3) rfl) rfl
theorem w_484 : Cond.code y_Tr_pass b_Tr_pass 9 (some .long) ∈ TB := tb_in (t3_in (i := 4) rfl) rfl
theorem w_485 : Cond.methodLink "TableMachine" 129 y_Tr_place ∈ TB := tb_in (t3_in (i := 5) rfl) rfl
theorem w_486 : Cond.instanceMethod y_Tr_place ∈ TB := tb_in (t3_in (i := 6) rfl) rfl
theorem w_487 : Cond.selects "TableMachine$Tree" y_Tr_place y_Tr_place ∈ TB := tb_in (t3_in (i := 7) rfl) rfl
theorem w_488 : Cond.code y_Tr_place b_Tr_place 7 none ∈ TB := tb_in (t3_in (i := 8) rfl) rfl
theorem w_489 : Cond.methodLink "TableMachine$Tree" 98 y_Tr_leaf ∈ TB := tb_in (t3_in (i := 9) rfl) rfl
theorem w_491 : Cond.instanceMethod y_Tr_leaf ∈ TB := tb_in (t3_in (i := 11) rfl) rfl
theorem w_492 : Cond.code y_Tr_leaf b_Tr_leaf 1 (some .int) ∈ TB := tb_in (t3_in (i := 12) rfl) rfl
theorem w_493 : Cond.methodLink "TableMachine$Tree" 125 y_Tr_size ∈ TB := tb_in (t3_in (i := 13) rfl) rfl
theorem w_495 : Cond.instanceMethod y_Tr_size ∈ TB := tb_in (t3_in (i := 15) rfl) rfl
theorem w_496 : Cond.code y_Tr_size b_Tr_size 4 (some .int) ∈ TB := tb_in (t3_in (i := 16) rfl) rfl
theorem w_497 : Cond.methodLink "TableMachine$Tree" 121 y_Tp_copy ∈ TB := tb_in (t3_in (i := 17) rfl) rfl
theorem w_498 : Cond.instanceMethod y_Tp_copy ∈ TB := tb_in (t3_in (i := 18) rfl) rfl
theorem w_499 : Cond.selects "TableMachine$Tape" y_Tp_copy y_Tp_copy ∈ TB := tb_in (t3_in (i := 19) rfl) rfl
theorem w_500 : Cond.code y_Tp_copy b_Tp_copy 5 none ∈ TB := tb_in (t3_in (i := 20) rfl) rfl
theorem w_501 : Cond.methodLink "TableMachine$Tape" 19 y_Tp_one ∈ TB := tb_in (t3_in (i := 21) rfl) rfl
theorem w_502 : Cond.instanceMethod y_Tp_one ∈ TB := tb_in (t3_in (i := 22) rfl) rfl
theorem w_503 : Cond.selects "TableMachine$Tape" y_Tp_one y_Tp_one ∈ TB := tb_in (t3_in (i := 23) rfl) rfl
theorem w_504 : Cond.code y_Tp_one b_Tp_one 2 none ∈ TB := tb_in (t3_in (i := 24) rfl) rfl
theorem w_505 : Cond.methodLink "TableMachine$Tree" 128 y_Tp_number ∈ TB := tb_in (t3_in (i := 25) rfl) rfl
theorem w_506 : Cond.instanceMethod y_Tp_number ∈ TB := tb_in (t3_in (i := 26) rfl) rfl
theorem w_507 : Cond.selects "TableMachine$Tape" y_Tp_number y_Tp_number ∈ TB := tb_in (t3_in (i := 27) rfl) rfl
theorem w_508 : Cond.code y_Tp_number b_Tp_number 5 none ∈ TB := tb_in (t3_in (i := 28) rfl) rfl
theorem w_509 : Cond.constantLong "TableMachine$Tape" (17 : Nat) (127 : Int64) ∈ TB := tb_in (t3_in (i := 29) rfl) rfl
theorem w_510 : Cond.methodLink "TableMachine$Tree" 131 y_Rc_write ∈ TB := tb_in (t3_in (i := 30) rfl) rfl
theorem w_511 : Cond.instanceMethod y_Rc_write ∈ TB := tb_in (t3_in (i := 31) rfl) rfl
theorem w_512 : Cond.selects "TableMachine$Record" y_Rc_write y_Rc_write ∈ TB := tb_in (t3_in (i := 32) rfl) rfl
theorem w_513 : Cond.code y_Rc_write b_Rc_write 5 none ∈ TB := tb_in (t3_in (i := 33) rfl) rfl
theorem w_514 : Cond.methodLink "TableMachine$Record" 22 y_Tp_one ∈ TB := tb_in (t3_in (i := 34) rfl) rfl
theorem w_515 : Cond.methodLink "TableMachine$Record" 32 y_Tp_number ∈ TB := tb_in (t3_in (i := 35) rfl) rfl
theorem w_516 : Cond.methodLink "TableMachine$Tree" 137 y_Tr_fill ∈ TB := tb_in (t3_in (i := 36) rfl) rfl
theorem w_518 : Cond.instanceMethod y_Tr_fill ∈ TB := tb_in (t3_in (i := 38) rfl) rfl
theorem w_519 : Cond.code y_Tr_fill b_Tr_fill 7 none ∈ TB := tb_in (t3_in (i := 39) rfl) rfl
theorem w_520 : Cond.methodLink "TableMachine$Tree" 141 y_Tr_splitLeaf ∈ TB := tb_in (t3_in (i := 40) rfl) rfl
theorem w_522 : Cond.instanceMethod y_Tr_splitLeaf ∈ TB := tb_in (t3_in (i := 42) rfl) rfl
theorem w_523 : Cond.code y_Tr_splitLeaf b_Tr_splitLeaf 10 none ∈ TB := tb_in (t3_in (i := 43) rfl) rfl
theorem w_524 : Cond.methodLink "TableMachine$Tree" 145 y_Tr_above ∈ TB := tb_in (t3_in (i := 44) rfl) rfl
theorem w_526 : Cond.instanceMethod y_Tr_above ∈ TB := tb_in (t3_in (i := 46) rfl) rfl
theorem w_527 : Cond.code y_Tr_above b_Tr_above 9 none ∈ TB := tb_in (t3_in (i := 47) rfl) rfl
theorem w_528 : Cond.methodLink "TableMachine$Tree" 149 y_Tr_raise ∈ TB := tb_in (t3_in (i := 48) rfl) rfl
theorem w_530 : Cond.instanceMethod y_Tr_raise ∈ TB := tb_in (t3_in (i := 50) rfl) rfl
theorem w_531 : Cond.code y_Tr_raise b_Tr_raise 5 none ∈ TB := tb_in (t3_in (i := 51) rfl) rfl
theorem w_532 : Cond.methodLink "TableMachine$Tree" 163 y_Tr_become ∈ TB := tb_in (t3_in (i := 52) rfl) rfl
theorem w_534 : Cond.instanceMethod y_Tr_become ∈ TB := tb_in (t3_in (i := 54) rfl) rfl
theorem w_535 : Cond.code y_Tr_become b_Tr_become 4 none ∈ TB := tb_in (t3_in (i := 55) rfl) rfl
theorem w_536 : Cond.methodLink "TableMachine$Tree" 166 y_Tp_one ∈ TB := tb_in (t3_in (i := 56) rfl) rfl
theorem w_537 : Cond.methodLink "TableMachine$Tree" 152 y_Tr_widen ∈ TB := tb_in (t3_in (i := 57) rfl) rfl
theorem w_539 : Cond.instanceMethod y_Tr_widen ∈ TB := tb_in (t3_in (i := 59) rfl) rfl
theorem w_540 : Cond.code y_Tr_widen b_Tr_widen 11 (some .boolean) ∈ TB := tb_in (t3_in (i := 60) rfl) rfl
theorem w_541 : Cond.methodLink "TableMachine$Tree" 169 y_Tr_part ∈ TB := tb_in (t3_in (i := 61) rfl) rfl
theorem w_543 : Cond.instanceMethod y_Tr_part ∈ TB := tb_in (t3_in (i := 63) rfl) rfl
theorem w_544 : Cond.code y_Tr_part b_Tr_part 7 none ∈ TB := tb_in (t3_in (i := 64) rfl) rfl
theorem w_545 : Cond.methodLink "TableMachineLaw" 87 y_Lw_delete ∈ TB := tb_in (t3_in (i := 65) rfl) rfl
theorem w_546 : Cond.static y_Lw_delete ∈ TB := tb_in (t3_in (i := 66) rfl) rfl
theorem w_548 : Cond.methodLink "TableMachineLaw" 21 y_TM_delete ∈ TB := tb_in (t3_in (i := 68) rfl) rfl
theorem w_549 : Cond.instanceMethod y_TM_delete ∈ TB := tb_in (t3_in (i := 69) rfl) rfl
theorem w_550 : Cond.selects "TableMachine" y_TM_delete y_TM_delete ∈ TB := tb_in (t3_in (i := 70) rfl) rfl
theorem w_551 : Cond.code y_TM_delete b_TM_delete 4 (some .boolean) ∈ TB := tb_in (t3_in (i := 71) rfl) rfl
theorem w_552 : Cond.methodLink "TableMachine" 133 y_Tr_remove ∈ TB := tb_in (t3_in (i := 72) rfl) rfl
theorem w_553 : Cond.instanceMethod y_Tr_remove ∈ TB := tb_in (t3_in (i := 73) rfl) rfl
theorem w_554 : Cond.selects "TableMachine$Tree" y_Tr_remove y_Tr_remove ∈ TB := tb_in (t3_in (i := 74) rfl) rfl
theorem w_555 : Cond.code y_Tr_remove b_Tr_remove 6 none ∈ TB := tb_in (t3_in (i := 75) rfl) rfl
theorem w_556 : Cond.methodLink "TableMachine$Tree" 172 y_Tr_prune ∈ TB := tb_in (t3_in (i := 76) rfl) rfl
theorem w_558 : Cond.instanceMethod y_Tr_prune ∈ TB := tb_in (t3_in (i := 78) rfl) rfl
theorem w_559 : Cond.code y_Tr_prune b_Tr_prune 3 none ∈ TB := tb_in (t3_in (i := 79) rfl) rfl
theorem w_560 : Cond.methodLink "TableMachine$Tree" 175 y_Pg_giveBack ∈ TB := tb_in (t3_in (i := 80) rfl) rfl
theorem w_561 : Cond.instanceMethod y_Pg_giveBack ∈ TB := tb_in (t3_in (i := 81) rfl) rfl
theorem w_562 : Cond.selects "TableMachine$Pages" y_Pg_giveBack y_Pg_giveBack ∈ TB := tb_in (t3_in (i := 82) rfl) rfl
theorem w_563 : Cond.code y_Pg_giveBack b_Pg_giveBack 2 none ∈ TB := tb_in (t3_in (i := 83) rfl) rfl
theorem w_564 : Cond.methodLink "TableMachine$Tree" 178 y_Tr_without ∈ TB := tb_in (t3_in (i := 84) rfl) rfl
theorem w_566 : Cond.instanceMethod y_Tr_without ∈ TB := tb_in (t3_in (i := 86) rfl) rfl
theorem w_567 : Cond.code y_Tr_without b_Tr_without 8 none ∈ TB := tb_in (t3_in (i := 87) rfl) rfl
theorem w_568 : Cond.methodLink "TableMachine$Tree" 105 y_Tr_childAt ∈ TB := tb_in (t3_in (i := 88) rfl) rfl
theorem w_570 : Cond.instanceMethod y_Tr_childAt ∈ TB := tb_in (t3_in (i := 90) rfl) rfl
theorem w_571 : Cond.code y_Tr_childAt b_Tr_childAt 8 (some .int) ∈ TB := tb_in (t3_in (i := 91) rfl) rfl
theorem w_572 : Cond.methodLink "TableMachine$Tree" 181 y_Tr_lead ∈ TB := tb_in (t3_in (i := 92) rfl) rfl
theorem w_574 : Cond.instanceMethod y_Tr_lead ∈ TB := tb_in (t3_in (i := 94) rfl) rfl
theorem w_575 : Cond.code y_Tr_lead b_Tr_lead 8 none ∈ TB := tb_in (t3_in (i := 95) rfl) rfl
theorem w_576 : Cond.methodLink "TableMachineLaw" 94 y_Lw_next ∈ TB := tb_in (t3_in (i := 96) rfl) rfl
theorem w_577 : Cond.static y_Lw_next ∈ TB := tb_in (t3_in (i := 97) rfl) rfl
theorem w_579 : Cond.classLink "TableMachineLaw" 28 "java/util/NoSuchElementException" ∈ TB := tb_in (t3_in (i := 99) rfl) rfl
theorem w_580 : Cond.methodLink "TableMachineLaw" 24 y_TM_next ∈ TB := tb_in (t3_in (i := 100) rfl) rfl
theorem w_581 : Cond.instanceMethod y_TM_next ∈ TB := tb_in (t3_in (i := 101) rfl) rfl
theorem w_582 : Cond.selects "TableMachine" y_TM_next y_TM_next ∈ TB := tb_in (t3_in (i := 102) rfl) rfl
theorem w_583 : Cond.code y_TM_next b_TM_next 5 (some .long) ∈ TB := tb_in (t3_in (i := 103) rfl) rfl
theorem w_584 : Cond.methodLink "TableMachine" 137 y_Tr_seek ∈ TB := tb_in (t3_in (i := 104) rfl) rfl
theorem w_585 : Cond.instanceMethod y_Tr_seek ∈ TB := tb_in (t3_in (i := 105) rfl) rfl
theorem w_586 : Cond.selects "TableMachine$Tree" y_Tr_seek y_Tr_seek ∈ TB := tb_in (t3_in (i := 106) rfl) rfl
theorem w_587 : Cond.code y_Tr_seek b_Tr_seek 4 (some .boolean) ∈ TB := tb_in (t3_in (i := 107) rfl) rfl
theorem w_588 : Cond.methodLink "TableMachine$Tree" 101 y_Tr_nextLeaf ∈ TB := tb_in (t3_in (i := 108) rfl) rfl
theorem w_590 : Cond.instanceMethod y_Tr_nextLeaf ∈ TB := tb_in (t3_in (i := 110) rfl) rfl
theorem w_591 : Cond.code y_Tr_nextLeaf b_Tr_nextLeaf 3 (some .boolean) ∈ TB := tb_in (t3_in (i := 111) rfl) rfl
theorem w_592 : Cond.classLink "TableMachine" 141 "java/util/NoSuchElementException" ∈ TB := tb_in (t3_in (i := 112) rfl) rfl
theorem w_593 : Cond.instantiable "java/util/NoSuchElementException" 6 ∈ TB := tb_in (t3_in (i := 113) rfl) rfl
theorem w_595 : Cond.selects "java/util/NoSuchElementException" y_Throwable_fillInStackTrace_1 y_Throwable_fillInStackTrace_1 ∈ TB := tb_in (t3_in (i := 115) rfl) rfl
theorem w_601 : Cond.methodLink "TableMachine" 143 y_NSEE_init ∈ TB := tb_in (t3_in (i := 121) rfl) rfl
theorem w_602 : Cond.instanceMethod y_NSEE_init ∈ TB := tb_in (t3_in (i := 122) rfl) rfl
theorem w_603 : Cond.code y_NSEE_init b_NSEE_init 1 none ∈ TB := tb_in (t3_in (i := 123) rfl) rfl
theorem w_604 : Cond.methodLink "java/util/NoSuchElementException" 1 y_RuntimeEx_init ∈ TB := tb_in (t3_in (i := 124) rfl) rfl
theorem w_606 : Cond.superclass "java/util/NoSuchElementException" "java/lang/RuntimeException" ∈ TB := tb_in (t3_in (i := 126) rfl) rfl
theorem w_607 : Cond.methodLink "TableMachine" 144 y_Tr_key ∈ TB := tb_in (t3_in (i := 127) rfl) rfl
theorem w_608 : Cond.instanceMethod y_Tr_key ∈ TB := tb_in (t3_in (i := 128) rfl) rfl
theorem w_609 : Cond.selects "TableMachine$Tree" y_Tr_key y_Tr_key ∈ TB := tb_in (t3_in (i := 129) rfl) rfl
theorem w_610 : Cond.code y_Tr_key b_Tr_key 2 (some .long) ∈ TB := tb_in (t3_in (i := 130) rfl) rfl
theorem w_611 : Cond.methodLink "TableMachineLaw" 98 y_Lw_value ∈ TB := tb_in (t3_in (i := 131) rfl) rfl
theorem w_612 : Cond.static y_Lw_value ∈ TB := tb_in (t3_in (i := 132) rfl) rfl
theorem w_614 : Cond.methodLink "TableMachineLaw" 30 y_TM_value ∈ TB := tb_in (t3_in (i := 134) rfl) rfl
theorem w_615 : Cond.instanceMethod y_TM_value ∈ TB := tb_in (t3_in (i := 135) rfl) rfl
theorem w_616 : Cond.selects "TableMachine" y_TM_value y_TM_value ∈ TB := tb_in (t3_in (i := 136) rfl) rfl
theorem w_617 : Cond.code y_TM_value b_TM_value 5 (some .long) ∈ TB := tb_in (t3_in (i := 137) rfl) rfl
theorem w_618 : Cond.methodLink "TableMachine" 154 y_TM_valueOf ∈ TB := tb_in (t3_in (i := 138) rfl) rfl
theorem w_620 : Cond.instanceMethod y_TM_valueOf ∈ TB := tb_in (t3_in (i := 140) rfl) rfl
theorem w_621 : Cond.code y_TM_valueOf b_TM_valueOf 5 (some (.object "TableMachine$Value")) ∈ TB := tb_in (t3_in (i := 141) rfl) rfl
theorem w_622 : Cond.methodLink "TableMachine" 151 y_Tr_read ∈ TB := tb_in (t3_in (i := 142) rfl) rfl
theorem w_623 : Cond.instanceMethod y_Tr_read ∈ TB := tb_in (t3_in (i := 143) rfl) rfl
theorem w_624 : Cond.selects "TableMachine$Tree" y_Tr_read y_Tr_read ∈ TB := tb_in (t3_in (i := 144) rfl) rfl
theorem w_625 : Cond.code y_Tr_read b_Tr_read 7 none ∈ TB := tb_in (t3_in (i := 145) rfl) rfl
theorem w_626 : Cond.methodLink "TableMachine$Tree" 115 y_Rc_read ∈ TB := tb_in (t3_in (i := 146) rfl) rfl
theorem w_627 : Cond.instanceMethod y_Rc_read ∈ TB := tb_in (t3_in (i := 147) rfl) rfl
theorem w_628 : Cond.selects "TableMachine$Record" y_Rc_read y_Rc_read ∈ TB := tb_in (t3_in (i := 148) rfl) rfl
theorem w_629 : Cond.code y_Rc_read b_Rc_read 5 none ∈ TB := tb_in (t3_in (i := 149) rfl) rfl
theorem w_630 : Cond.methodLink "TableMachine$Record" 36 y_Tp_take ∈ TB := tb_in (t3_in (i := 150) rfl) rfl
theorem w_631 : Cond.methodLink "TableMachine$Record" 40 y_Tp_takeNumber ∈ TB := tb_in (t3_in (i := 151) rfl) rfl
theorem w_632 : Cond.methodLink "TableMachine$Record" 44 y_Vl_to ∈ TB := tb_in (t3_in (i := 152) rfl) rfl
theorem w_633 : Cond.methodLink "TableMachine$Record" 47 y_Vl_none ∈ TB := tb_in (t3_in (i := 153) rfl) rfl
theorem w_634 : Cond.methodLink "TableMachineLaw" 102 y_Lw_isNull ∈ TB := tb_in (t3_in (i := 154) rfl) rfl
theorem w_635 : Cond.static y_Lw_isNull ∈ TB := tb_in (t3_in (i := 155) rfl) rfl
theorem w_637 : Cond.methodLink "TableMachineLaw" 34 y_TM_isNull ∈ TB := tb_in (t3_in (i := 157) rfl) rfl
theorem w_638 : Cond.instanceMethod y_TM_isNull ∈ TB := tb_in (t3_in (i := 158) rfl) rfl
theorem w_639 : Cond.selects "TableMachine" y_TM_isNull y_TM_isNull ∈ TB := tb_in (t3_in (i := 159) rfl) rfl
theorem w_640 : Cond.code y_TM_isNull b_TM_isNull 5 (some .boolean) ∈ TB := tb_in (t3_in (i := 160) rfl) rfl
theorem w_641 : Cond.methodLink "TableMachineLaw" 105 y_Lw_add ∈ TB := tb_in (t3_in (i := 161) rfl) rfl
theorem w_642 : Cond.static y_Lw_add ∈ TB := tb_in (t3_in (i := 162) rfl) rfl
theorem w_644 : Cond.methodLink "TableMachineLaw" 38 y_TM_add ∈ TB := tb_in (t3_in (i := 164) rfl) rfl
theorem w_645 : Cond.instanceMethod y_TM_add ∈ TB := tb_in (t3_in (i := 165) rfl) rfl
theorem w_646 : Cond.selects "TableMachine" y_TM_add y_TM_add ∈ TB := tb_in (t3_in (i := 166) rfl) rfl
theorem w_647 : Cond.code y_TM_add b_TM_add 6 (some .int) ∈ TB := tb_in (t3_in (i := 167) rfl) rfl
theorem w_648 : Cond.methodLink "TableMachine" 180 y_String_charAt ∈ TB := tb_in (t3_in (i := 168) rfl) rfl
theorem w_649 : Cond.instanceMethod y_String_charAt ∈ TB := tb_in (t3_in (i := 169) rfl) rfl
theorem w_650 : Cond.selects "java/lang/String" y_String_charAt y_String_charAt ∈ TB := tb_in (t3_in (i := 170) rfl) rfl
theorem w_651 : Cond.code y_String_charAt b_String_charAt 2 (some .char) ∈ TB := tb_in (t3_in (i := 171) rfl) rfl
theorem w_652 : Cond.methodLink "java/lang/String" 492 y_String_isLatin1 ∈ TB := tb_in (t3_in (i := 172) rfl) rfl
theorem w_653 : Cond.instanceMethod y_String_isLatin1 ∈ TB := tb_in (t3_in (i := 173) rfl) rfl
theorem w_654 : Cond.selects "java/lang/String" y_String_isLatin1 y_String_isLatin1 ∈ TB := tb_in (t3_in (i := 174) rfl) rfl
theorem w_655 : Cond.code y_String_isLatin1 b_String_isLatin1 1 (some .boolean) ∈ TB := tb_in (t3_in (i := 175) rfl) rfl
theorem w_656 : Cond.fieldLink "java/lang/String" 38 "java/lang/String" "COMPACT_STRINGS" "Z" ∈ TB := tb_in (t3_in (i := 176) rfl) rfl
theorem w_658 : Cond.methodLink "java/lang/String" 495 y_Latin1_charAt ∈ TB := tb_in (t3_in (i := 178) rfl) rfl
theorem w_659 : Cond.static y_Latin1_charAt ∈ TB := tb_in (t3_in (i := 179) rfl) rfl
theorem w_660 : Cond.code y_Latin1_charAt b_Latin1_charAt 2 (some .char) ∈ TB := tb_in (t3_in (i := 180) rfl) rfl
theorem w_661 : Cond.methodLink "java/lang/StringLatin1" 9 y_String_checkIndex ∈ TB := tb_in (t3_in (i := 181) rfl) rfl
theorem w_662 : Cond.static y_String_checkIndex ∈ TB := tb_in (t3_in (i := 182) rfl) rfl
theorem w_663 : Cond.code y_String_checkIndex b_String_checkIndex 2 none ∈ TB := tb_in (t3_in (i := 183) rfl) rfl
theorem w_664 : Cond.fieldLink "java/lang/String" 1053 "jdk/internal/util/Preconditions" "SIOOBE_FORMATTER" "Ljava/util/function/BiFunction;" ∈ TB := tb_in (t3_in (i := 184) rfl) rfl
theorem w_666 : Cond.methodLink "java/lang/String" 1059 y_Precond_checkIndex ∈ TB := tb_in (t3_in (i := 186) rfl) rfl
theorem w_667 : Cond.static y_Precond_checkIndex ∈ TB := tb_in (t3_in (i := 187) rfl) rfl
theorem w_668 : Cond.code y_Precond_checkIndex b_Precond_checkIndex 3 (some .int) ∈ TB := tb_in (t3_in (i := 188) rfl) rfl
theorem w_669 : Cond.methodLink "java/lang/String" 498 y_UTF16_charAt ∈ TB := tb_in (t3_in (i := 189) rfl) rfl
theorem w_670 : Cond.static y_UTF16_charAt ∈ TB := tb_in (t3_in (i := 190) rfl) rfl
theorem w_671 : Cond.code y_UTF16_charAt b_UTF16_charAt 2 (some .char) ∈ TB := tb_in (t3_in (i := 191) rfl) rfl
theorem w_672 : Cond.methodLink "java/lang/StringUTF16" 67 y_UTF16_checkIndex ∈ TB := tb_in (t3_in (i := 192) rfl) rfl
theorem w_673 : Cond.static y_UTF16_checkIndex ∈ TB := tb_in (t3_in (i := 193) rfl) rfl
theorem w_674 : Cond.code y_UTF16_checkIndex b_UTF16_checkIndex 2 none ∈ TB := tb_in (t3_in (i := 194) rfl) rfl
theorem w_675 : Cond.methodLink "java/lang/StringUTF16" 48 y_UTF16_length ∈ TB := tb_in (t3_in (i := 195) rfl) rfl
theorem w_676 : Cond.static y_UTF16_length ∈ TB := tb_in (t3_in (i := 196) rfl) rfl
theorem w_677 : Cond.code y_UTF16_length b_UTF16_length 1 (some .int) ∈ TB := tb_in (t3_in (i := 197) rfl) rfl
theorem w_678 : Cond.methodLink "java/lang/StringUTF16" 414 y_String_checkIndex ∈ TB := tb_in (t3_in (i := 198) rfl) rfl
theorem w_679 : Cond.methodLink "java/lang/StringUTF16" 71 y_UTF16_getChar ∈ TB := tb_in (t3_in (i := 199) rfl) rfl
theorem w_680 : Cond.static y_UTF16_getChar ∈ TB := tb_in (t3_in (i := 200) rfl) rfl
theorem w_681 : Cond.code y_UTF16_getChar b_UTF16_getChar 2 (some .char) ∈ TB := tb_in (t3_in (i := 201) rfl) rfl
theorem w_682 : Cond.fieldLink "java/lang/StringUTF16" 44 "java/lang/StringUTF16" "$assertionsDisabled" "Z" ∈ TB := tb_in (t3_in (i := 202) rfl) rfl
theorem w_684 : Cond.fieldLink "java/lang/StringUTF16" 59 "java/lang/StringUTF16" "HI_BYTE_SHIFT" "I" ∈ TB := tb_in (t3_in (i := 204) rfl) rfl
theorem w_686 : Cond.fieldLink "java/lang/StringUTF16" 63 "java/lang/StringUTF16" "LO_BYTE_SHIFT" "I" ∈ TB := tb_in (t3_in (i := 206) rfl) rfl
theorem w_688 : Cond.methodLink "TableMachine" 186 y_TM_fits ∈ TB := tb_in (t3_in (i := 208) rfl) rfl
theorem w_689 : Cond.static y_TM_fits ∈ TB := tb_in (t3_in (i := 209) rfl) rfl
theorem w_690 : Cond.code y_TM_fits b_TM_fits 2 (some .boolean) ∈ TB := tb_in (t3_in (i := 210) rfl) rfl
theorem w_691 : Cond.fieldLink "TableMachine" 190 "TableMachine$Op" "RESULT" "LTableMachine$Op;" ∈ TB := tb_in (t3_in (i := 211) rfl) rfl
theorem w_693 : Cond.methodLink "TableMachine" 193 y_TM_emit ∈ TB := tb_in (t3_in (i := 213) rfl) rfl
theorem w_695 : Cond.instanceMethod y_TM_emit ∈ TB := tb_in (t3_in (i := 215) rfl) rfl
theorem w_696 : Cond.code y_TM_emit b_TM_emit 6 none ∈ TB := tb_in (t3_in (i := 216) rfl) rfl
theorem w_697 : Cond.methodLink "TableMachineLaw" 113 y_Lw_code ∈ TB := tb_in (t3_in (i := 217) rfl) rfl
theorem w_698 : Cond.static y_Lw_code ∈ TB := tb_in (t3_in (i := 218) rfl) rfl
theorem w_700 : Cond.classLink "TableMachineLaw" 46 "java/lang/IndexOutOfBoundsException" ∈ TB := tb_in (t3_in (i := 220) rfl) rfl
theorem w_701 : Cond.methodLink "TableMachineLaw" 42 y_TM_code ∈ TB := tb_in (t3_in (i := 221) rfl) rfl
theorem w_702 : Cond.instanceMethod y_TM_code ∈ TB := tb_in (t3_in (i := 222) rfl) rfl
theorem w_703 : Cond.selects "TableMachine" y_TM_code y_TM_code ∈ TB := tb_in (t3_in (i := 223) rfl) rfl
theorem w_704 : Cond.code y_TM_code b_TM_code 3 (some .int) ∈ TB := tb_in (t3_in (i := 224) rfl) rfl
theorem w_705 : Cond.methodLink "TableMachine" 197 y_TM_there ∈ TB := tb_in (t3_in (i := 225) rfl) rfl
theorem w_706 : Cond.static y_TM_there ∈ TB := tb_in (t3_in (i := 226) rfl) rfl
theorem w_707 : Cond.code y_TM_there b_TM_there 1 none ∈ TB := tb_in (t3_in (i := 227) rfl) rfl
theorem w_708 : Cond.classLink "TableMachine" 93 "java/lang/IndexOutOfBoundsException" ∈ TB := tb_in (t3_in (i := 228) rfl) rfl
theorem w_709 : Cond.instantiable "java/lang/IndexOutOfBoundsException" 6 ∈ TB := tb_in (t3_in (i := 229) rfl) rfl
theorem w_711 : Cond.selects "java/lang/IndexOutOfBoundsException" y_Throwable_fillInStackTrace_1 y_Throwable_fillInStackTrace_1 ∈ TB := tb_in (t3_in (i := 231) rfl) rfl
theorem w_717 : Cond.methodLink "TableMachine" 95 y_IOOBE_init ∈ TB := tb_in (t3_in (i := 237) rfl) rfl
theorem w_718 : Cond.instanceMethod y_IOOBE_init ∈ TB := tb_in (t3_in (i := 238) rfl) rfl
theorem w_719 : Cond.code y_IOOBE_init b_IOOBE_init 1 none ∈ TB := tb_in (t3_in (i := 239) rfl) rfl
theorem w_720 : Cond.methodLink "java/lang/IndexOutOfBoundsException" 1 y_RuntimeEx_init ∈ TB := tb_in (t4_in (i := 0) rfl) rfl
theorem w_722 : Cond.superclass "java/lang/IndexOutOfBoundsException" "java/lang/RuntimeException" ∈ TB := tb_in (t4_in (i := 2) rfl) rfl
theorem w_723 : Cond.methodLink "TableMachine" 200 y_Op_ordinal ∈ TB := tb_in (t4_in (i := 3) rfl) rfl
theorem w_724 : Cond.sameMethod "TableMachine$Op" "java/lang/Enum" "ordinal" "()I" ∈ TB := tb_in (t4_in (i := 4) rfl) rfl
theorem w_726 : Cond.selects "TableMachine$Op" y_Op_ordinal y_Enum_ordinal ∈ TB := tb_in (t4_in (i := 6) rfl) rfl
theorem w_727 : Cond.instanceMethod y_Enum_ordinal ∈ TB := tb_in (t4_in (i := 7) rfl) rfl
theorem w_728 : Cond.code y_Enum_ordinal b_Enum_ordinal 1 (some .int) ∈ TB := tb_in (t4_in (i := 8) rfl) rfl
theorem w_729 : Cond.methodLink "TableMachineLaw" 117 y_Lw_run ∈ TB := tb_in (t4_in (i := 9) rfl) rfl
theorem w_730 : Cond.static y_Lw_run ∈ TB := tb_in (t4_in (i := 10) rfl) rfl
theorem w_732 : Cond.methodLink "TableMachineLaw" 48 y_TM_run ∈ TB := tb_in (t4_in (i := 12) rfl) rfl
theorem w_733 : Cond.instanceMethod y_TM_run ∈ TB := tb_in (t4_in (i := 13) rfl) rfl
theorem w_734 : Cond.selects "TableMachine" y_TM_run y_TM_run ∈ TB := tb_in (t4_in (i := 14) rfl) rfl
theorem w_735 : Cond.code y_TM_run b_TM_run 4 (some .int) ∈ TB := tb_in (t4_in (i := 15) rfl) rfl
theorem w_736 : Cond.methodLink "TableMachine" 274 y_TM_isSound ∈ TB := tb_in (t4_in (i := 16) rfl) rfl
theorem w_738 : Cond.instanceMethod y_TM_isSound ∈ TB := tb_in (t4_in (i := 18) rfl) rfl
theorem w_739 : Cond.code y_TM_isSound b_TM_isSound 3 (some .boolean) ∈ TB := tb_in (t4_in (i := 19) rfl) rfl
theorem w_740 : Cond.methodLink "TableMachine" 271 y_In_goal ∈ TB := tb_in (t4_in (i := 20) rfl) rfl
theorem w_741 : Cond.instanceMethod y_In_goal ∈ TB := tb_in (t4_in (i := 21) rfl) rfl
theorem w_742 : Cond.selects "TableMachine$Instruction" y_In_goal y_In_goal ∈ TB := tb_in (t4_in (i := 22) rfl) rfl
theorem w_743 : Cond.code y_In_goal b_In_goal 3 (some .int) ∈ TB := tb_in (t4_in (i := 23) rfl) rfl
theorem w_744 : Cond.methodLink "TableMachine$Instruction" 25 y_String_charAt ∈ TB := tb_in (t4_in (i := 24) rfl) rfl
theorem w_745 : Cond.fieldLink "TableMachine" 256 "TableMachine$Op" "OPEN" "LTableMachine$Op;" ∈ TB := tb_in (t4_in (i := 25) rfl) rfl
theorem w_747 : Cond.methodLink "TableMachine" 241 y_Cu_clear ∈ TB := tb_in (t4_in (i := 27) rfl) rfl
theorem w_748 : Cond.instanceMethod y_Cu_clear ∈ TB := tb_in (t4_in (i := 28) rfl) rfl
theorem w_749 : Cond.selects "TableMachine$Cursor" y_Cu_clear y_Cu_clear ∈ TB := tb_in (t4_in (i := 29) rfl) rfl
theorem w_750 : Cond.code y_Cu_clear b_Cu_clear 1 none ∈ TB := tb_in (t4_in (i := 30) rfl) rfl
theorem w_751 : Cond.methodLink "TableMachine" 277 y_TM_step ∈ TB := tb_in (t4_in (i := 31) rfl) rfl
theorem w_753 : Cond.instanceMethod y_TM_step ∈ TB := tb_in (t4_in (i := 33) rfl) rfl
theorem w_754 : Cond.code y_TM_step b_TM_step 4 (some .int) ∈ TB := tb_in (t4_in (i := 34) rfl) rfl
theorem w_755 : Cond.methodLink "TableMachine" 259 y_TM_needsCursor ∈ TB := tb_in (t4_in (i := 35) rfl) rfl
theorem w_756 : Cond.static y_TM_needsCursor ∈ TB := tb_in (t4_in (i := 36) rfl) rfl
theorem w_757 : Cond.code y_TM_needsCursor b_TM_needsCursor 1 (some .boolean) ∈ TB := tb_in (t4_in (i := 37) rfl) rfl
theorem w_758 : Cond.methodLink "TableMachine" 263 y_TM_moves ∈ TB := tb_in (t4_in (i := 38) rfl) rfl
theorem w_760 : Cond.instanceMethod y_TM_moves ∈ TB := tb_in (t4_in (i := 40) rfl) rfl
theorem w_761 : Cond.code y_TM_moves b_TM_moves 3 (some .boolean) ∈ TB := tb_in (t4_in (i := 41) rfl) rfl
theorem w_762 : Cond.methodLink "TableMachine" 208 y_Tr_first ∈ TB := tb_in (t4_in (i := 42) rfl) rfl
theorem w_763 : Cond.instanceMethod y_Tr_first ∈ TB := tb_in (t4_in (i := 43) rfl) rfl
theorem w_764 : Cond.selects "TableMachine$Tree" y_Tr_first y_Tr_first ∈ TB := tb_in (t4_in (i := 44) rfl) rfl
theorem w_765 : Cond.code y_Tr_first b_Tr_first 1 (some .boolean) ∈ TB := tb_in (t4_in (i := 45) rfl) rfl
theorem w_766 : Cond.constantLong "TableMachine$Tree" (109 : Nat) (-9223372036854775808 : Int64) ∈ TB := tb_in (t4_in (i := 46) rfl) rfl
theorem w_767 : Cond.methodLink "TableMachine$Tree" 111 y_Tr_seek ∈ TB := tb_in (t4_in (i := 47) rfl) rfl
theorem w_768 : Cond.methodLink "TableMachine" 212 y_Cu_take ∈ TB := tb_in (t4_in (i := 48) rfl) rfl
theorem w_769 : Cond.instanceMethod y_Cu_take ∈ TB := tb_in (t4_in (i := 49) rfl) rfl
theorem w_770 : Cond.selects "TableMachine$Cursor" y_Cu_take y_Cu_take ∈ TB := tb_in (t4_in (i := 50) rfl) rfl
theorem w_771 : Cond.code y_Cu_take b_Cu_take 2 (some .boolean) ∈ TB := tb_in (t4_in (i := 51) rfl) rfl
theorem w_772 : Cond.methodLink "TableMachine$Cursor" 26 y_Tr_key ∈ TB := tb_in (t4_in (i := 52) rfl) rfl
theorem w_773 : Cond.methodLink "TableMachine" 220 y_TM_column ∈ TB := tb_in (t4_in (i := 53) rfl) rfl
theorem w_775 : Cond.instanceMethod y_TM_column ∈ TB := tb_in (t4_in (i := 55) rfl) rfl
theorem w_776 : Cond.code y_TM_column b_TM_column 4 none ∈ TB := tb_in (t4_in (i := 56) rfl) rfl
theorem w_777 : Cond.methodLink "TableMachine" 224 y_Cu_at ∈ TB := tb_in (t4_in (i := 57) rfl) rfl
theorem w_778 : Cond.instanceMethod y_Cu_at ∈ TB := tb_in (t4_in (i := 58) rfl) rfl
theorem w_779 : Cond.selects "TableMachine$Cursor" y_Cu_at y_Cu_at ∈ TB := tb_in (t4_in (i := 59) rfl) rfl
theorem w_780 : Cond.code y_Cu_at b_Cu_at 1 (some .boolean) ∈ TB := tb_in (t4_in (i := 60) rfl) rfl
theorem w_781 : Cond.methodLink "TableMachine$Cursor" 21 y_Tr_has ∈ TB := tb_in (t4_in (i := 61) rfl) rfl
theorem w_782 : Cond.methodLink "TableMachine" 231 y_Vl_like ∈ TB := tb_in (t4_in (i := 62) rfl) rfl
theorem w_783 : Cond.instanceMethod y_Vl_like ∈ TB := tb_in (t4_in (i := 63) rfl) rfl
theorem w_784 : Cond.selects "TableMachine$Value" y_Vl_like y_Vl_like ∈ TB := tb_in (t4_in (i := 64) rfl) rfl
theorem w_785 : Cond.code y_Vl_like b_Vl_like 2 none ∈ TB := tb_in (t4_in (i := 65) rfl) rfl
theorem w_786 : Cond.methodLink "TableMachine" 227 y_TM_comes ∈ TB := tb_in (t4_in (i := 66) rfl) rfl
theorem w_788 : Cond.instanceMethod y_TM_comes ∈ TB := tb_in (t4_in (i := 68) rfl) rfl
theorem w_789 : Cond.code y_TM_comes b_TM_comes 4 (some .boolean) ∈ TB := tb_in (t4_in (i := 69) rfl) rfl
theorem w_790 : Cond.methodLink "TableMachine" 267 y_TM_works ∈ TB := tb_in (t4_in (i := 70) rfl) rfl
theorem w_792 : Cond.instanceMethod y_TM_works ∈ TB := tb_in (t4_in (i := 72) rfl) rfl
theorem w_793 : Cond.code y_TM_works b_TM_works 4 (some .boolean) ∈ TB := tb_in (t4_in (i := 73) rfl) rfl
theorem w_794 : Cond.methodLink "TableMachine" 244 y_TM_sum ∈ TB := tb_in (t4_in (i := 74) rfl) rfl
theorem w_795 : Cond.static y_TM_sum ∈ TB := tb_in (t4_in (i := 75) rfl) rfl
theorem w_796 : Cond.code y_TM_sum b_TM_sum 3 none ∈ TB := tb_in (t4_in (i := 76) rfl) rfl
theorem w_797 : Cond.methodLink "TableMachine" 248 y_TM_tell ∈ TB := tb_in (t4_in (i := 77) rfl) rfl
theorem w_799 : Cond.instanceMethod y_TM_tell ∈ TB := tb_in (t4_in (i := 79) rfl) rfl
theorem w_800 : Cond.code y_TM_tell b_TM_tell 4 none ∈ TB := tb_in (t4_in (i := 80) rfl) rfl
theorem w_801 : Cond.methodLink "TableMachine" 252 y_TM_compares ∈ TB := tb_in (t4_in (i := 81) rfl) rfl
theorem w_802 : Cond.static y_TM_compares ∈ TB := tb_in (t4_in (i := 82) rfl) rfl
theorem w_803 : Cond.code y_TM_compares b_TM_compares 5 (some .boolean) ∈ TB := tb_in (t4_in (i := 83) rfl) rfl
theorem w_804 : Cond.methodLink "TableMachineLaw" 120 y_Lw_result ∈ TB := tb_in (t4_in (i := 84) rfl) rfl
theorem w_805 : Cond.static y_Lw_result ∈ TB := tb_in (t4_in (i := 85) rfl) rfl
theorem w_807 : Cond.methodLink "TableMachineLaw" 51 y_TM_result ∈ TB := tb_in (t4_in (i := 87) rfl) rfl
theorem w_808 : Cond.instanceMethod y_TM_result ∈ TB := tb_in (t4_in (i := 88) rfl) rfl
theorem w_809 : Cond.selects "TableMachine" y_TM_result y_TM_result ∈ TB := tb_in (t4_in (i := 89) rfl) rfl
theorem w_810 : Cond.code y_TM_result b_TM_result 3 (some .long) ∈ TB := tb_in (t4_in (i := 90) rfl) rfl
theorem w_811 : Cond.methodLink "TableMachineLaw" 123 y_Lw_wasNull ∈ TB := tb_in (t4_in (i := 91) rfl) rfl
theorem w_812 : Cond.static y_Lw_wasNull ∈ TB := tb_in (t4_in (i := 92) rfl) rfl
theorem w_814 : Cond.methodLink "TableMachineLaw" 55 y_TM_wasNull ∈ TB := tb_in (t4_in (i := 94) rfl) rfl
theorem w_815 : Cond.instanceMethod y_TM_wasNull ∈ TB := tb_in (t4_in (i := 95) rfl) rfl
theorem w_816 : Cond.selects "TableMachine" y_TM_wasNull y_TM_wasNull ∈ TB := tb_in (t4_in (i := 96) rfl) rfl
theorem w_817 : Cond.code y_TM_wasNull b_TM_wasNull 3 (some .boolean) ∈ TB := tb_in (t4_in (i := 97) rfl) rfl
theorem w_818 : Cond.methodLink "TableMachineLaw" 143 y_Lw_compile ∈ TB := tb_in (t4_in (i := 98) rfl) rfl
theorem w_819 : Cond.static y_Lw_compile ∈ TB := tb_in (t4_in (i := 99) rfl) rfl
theorem w_821 : Cond.methodLink "TableMachineLaw" 59 y_TM_compile ∈ TB := tb_in (t4_in (i := 101) rfl) rfl
theorem w_822 : Cond.instanceMethod y_TM_compile ∈ TB := tb_in (t4_in (i := 102) rfl) rfl
theorem w_823 : Cond.selects "TableMachine" y_TM_compile y_TM_compile ∈ TB := tb_in (t4_in (i := 103) rfl) rfl
theorem w_824 : Cond.code y_TM_compile b_TM_compile 4 (some .int) ∈ TB := tb_in (t4_in (i := 104) rfl) rfl
theorem w_825 : Cond.methodLink "TableMachine" 340 y_TM_opens ∈ TB := tb_in (t4_in (i := 105) rfl) rfl
theorem w_827 : Cond.instanceMethod y_TM_opens ∈ TB := tb_in (t4_in (i := 107) rfl) rfl
theorem w_828 : Cond.code y_TM_opens b_TM_opens 6 none ∈ TB := tb_in (t4_in (i := 108) rfl) rfl
theorem w_829 : Cond.fieldLink "TableMachine" 320 "TableMachine$Op" "REWIND" "LTableMachine$Op;" ∈ TB := tb_in (t4_in (i := 109) rfl) rfl
theorem w_831 : Cond.fieldLink "TableMachine" 323 "TableMachine$Op" "INTEGER" "LTableMachine$Op;" ∈ TB := tb_in (t4_in (i := 111) rfl) rfl
theorem w_833 : Cond.fieldLink "TableMachine" 326 "TableMachine$Op" "SEEK" "LTableMachine$Op;" ∈ TB := tb_in (t4_in (i := 113) rfl) rfl
theorem w_835 : Cond.methodLink "TableMachine" 344 y_TM_asksAll ∈ TB := tb_in (t4_in (i := 115) rfl) rfl
theorem w_837 : Cond.instanceMethod y_TM_asksAll ∈ TB := tb_in (t4_in (i := 117) rfl) rfl
theorem w_838 : Cond.code y_TM_asksAll b_TM_asksAll 4 none ∈ TB := tb_in (t4_in (i := 118) rfl) rfl
theorem w_839 : Cond.methodLink "TableMachine" 329 y_TM_fetch ∈ TB := tb_in (t4_in (i := 119) rfl) rfl
theorem w_841 : Cond.instanceMethod y_TM_fetch ∈ TB := tb_in (t4_in (i := 121) rfl) rfl
theorem w_842 : Cond.code y_TM_fetch b_TM_fetch 4 none ∈ TB := tb_in (t4_in (i := 122) rfl) rfl
theorem w_843 : Cond.fieldLink "TableMachine" 311 "TableMachine$Op" "ROWID" "LTableMachine$Op;" ∈ TB := tb_in (t4_in (i := 123) rfl) rfl
theorem w_845 : Cond.fieldLink "TableMachine" 314 "TableMachine$Op" "COLUMN" "LTableMachine$Op;" ∈ TB := tb_in (t4_in (i := 125) rfl) rfl
theorem w_847 : Cond.fieldLink "TableMachine" 333 "TableMachine$Op" "EQ" "LTableMachine$Op;" ∈ TB := tb_in (t4_in (i := 127) rfl) rfl
theorem w_849 : Cond.methodLink "TableMachine" 336 y_TM_orElse ∈ TB := tb_in (t4_in (i := 129) rfl) rfl
theorem w_851 : Cond.instanceMethod y_TM_orElse ∈ TB := tb_in (t4_in (i := 131) rfl) rfl
theorem w_852 : Cond.code y_TM_orElse b_TM_orElse 2 none ∈ TB := tb_in (t4_in (i := 132) rfl) rfl
theorem w_853 : Cond.fieldLink "TableMachine" 317 "TableMachine$Op" "GOTO" "LTableMachine$Op;" ∈ TB := tb_in (t4_in (i := 133) rfl) rfl
theorem w_855 : Cond.methodLink "TableMachine" 347 y_TM_tells ∈ TB := tb_in (t4_in (i := 135) rfl) rfl
theorem w_857 : Cond.instanceMethod y_TM_tells ∈ TB := tb_in (t4_in (i := 137) rfl) rfl
theorem w_858 : Cond.code y_TM_tells b_TM_tells 2 none ∈ TB := tb_in (t4_in (i := 138) rfl) rfl
theorem w_859 : Cond.methodLink "TableMachine" 350 y_TM_settle ∈ TB := tb_in (t4_in (i := 139) rfl) rfl
theorem w_861 : Cond.instanceMethod y_TM_settle ∈ TB := tb_in (t4_in (i := 141) rfl) rfl
theorem w_862 : Cond.code y_TM_settle b_TM_settle 6 none ∈ TB := tb_in (t4_in (i := 142) rfl) rfl
theorem w_863 : Cond.fieldLink "TableMachine" 353 "TableMachine$Op" "NEXT" "LTableMachine$Op;" ∈ TB := tb_in (t4_in (i := 143) rfl) rfl
theorem w_865 : Cond.fieldLink "TableMachine" 356 "TableMachine$Op" "HALT" "LTableMachine$Op;" ∈ TB := tb_in (t4_in (i := 145) rfl) rfl
theorem w_867 : Cond.classLink "TableMachineLaw" 64 "TableMachineModel" ∈ TB := tb_in (t4_in (i := 147) rfl) rfl
theorem w_868 : Cond.instantiable "TableMachineModel" 32 ∈ TB := tb_in (t4_in (i := 148) rfl) rfl
theorem w_869 : Cond.methodLink "TableMachineLaw" 66 y_Md_init ∈ TB := tb_in (t4_in (i := 149) rfl) rfl
theorem w_870 : Cond.instanceMethod y_Md_init ∈ TB := tb_in (t4_in (i := 150) rfl) rfl
theorem w_871 : Cond.code y_Md_init b_Md_init 1 none ∈ TB := tb_in (t4_in (i := 151) rfl) rfl
theorem w_872 : Cond.methodLink "TableMachineModel" 1 y_Object_init ∈ TB := tb_in (t4_in (i := 152) rfl) rfl
theorem w_873 : Cond.fieldLink "TableMachineModel" 73 "TableMachineModel" "thrown" "I" ∈ TB := tb_in (t4_in (i := 153) rfl) rfl
theorem w_874 : Cond.fieldLink "TableMachineModel" 76 "TableMachineModel" "tables" "I" ∈ TB := tb_in (t4_in (i := 154) rfl) rfl
theorem w_875 : Cond.fieldLink "TableMachineModel" 7 "TableMachineModel" "columns" "[I" ∈ TB := tb_in (t4_in (i := 155) rfl) rfl
theorem w_876 : Cond.fieldLink "TableMachineModel" 79 "TableMachineModel" "rows" "I" ∈ TB := tb_in (t4_in (i := 156) rfl) rfl
theorem w_877 : Cond.fieldLink "TableMachineModel" 13 "TableMachineModel" "owner" "[I" ∈ TB := tb_in (t4_in (i := 157) rfl) rfl
theorem w_878 : Cond.fieldLink "TableMachineModel" 16 "TableMachineModel" "keys" "[J" ∈ TB := tb_in (t4_in (i := 158) rfl) rfl
theorem w_879 : Cond.fieldLink "TableMachineModel" 20 "TableMachineModel" "values" "[J" ∈ TB := tb_in (t4_in (i := 159) rfl) rfl
theorem w_880 : Cond.fieldLink "TableMachineModel" 23 "TableMachineModel" "has" "[Z" ∈ TB := tb_in (t4_in (i := 160) rfl) rfl
theorem w_881 : Cond.fieldLink "TableMachineModel" 27 "TableMachineModel" "coming" "[J" ∈ TB := tb_in (t4_in (i := 161) rfl) rfl
theorem w_882 : Cond.fieldLink "TableMachineModel" 30 "TableMachineModel" "comes" "[Z" ∈ TB := tb_in (t4_in (i := 162) rfl) rfl
theorem w_883 : Cond.fieldLink "TableMachineModel" 110 "TableMachineModel" "size" "I" ∈ TB := tb_in (t4_in (i := 163) rfl) rfl
theorem w_884 : Cond.fieldLink "TableMachineModel" 33 "TableMachineModel" "code" "[I" ∈ TB := tb_in (t4_in (i := 164) rfl) rfl
theorem w_885 : Cond.fieldLink "TableMachineModel" 36 "TableMachineModel" "registers" "[J" ∈ TB := tb_in (t4_in (i := 165) rfl) rfl
theorem w_886 : Cond.fieldLink "TableMachineModel" 39 "TableMachineModel" "full" "[Z" ∈ TB := tb_in (t4_in (i := 166) rfl) rfl
theorem w_887 : Cond.fieldLink "TableMachineModel" 42 "TableMachineModel" "open" "[I" ∈ TB := tb_in (t4_in (i := 167) rfl) rfl
theorem w_888 : Cond.fieldLink "TableMachineModel" 45 "TableMachineModel" "keyed" "[Z" ∈ TB := tb_in (t4_in (i := 168) rfl) rfl
theorem w_889 : Cond.fieldLink "TableMachineModel" 48 "TableMachineModel" "at" "[J" ∈ TB := tb_in (t4_in (i := 169) rfl) rfl
theorem w_890 : Cond.fieldLink "TableMachineModel" 155 "TableMachineModel" "outcome" "I" ∈ TB := tb_in (t4_in (i := 170) rfl) rfl
theorem w_891 : Cond.fieldLink "TableMachineModel" 149 "TableMachineModel" "place" "I" ∈ TB := tb_in (t4_in (i := 171) rfl) rfl
theorem w_892 : Cond.fieldLink "TableMachineModel" 142 "TableMachineModel" "results" "I" ∈ TB := tb_in (t4_in (i := 172) rfl) rfl
theorem w_893 : Cond.fieldLink "TableMachineModel" 51 "TableMachineModel" "wide" "[I" ∈ TB := tb_in (t4_in (i := 173) rfl) rfl
theorem w_894 : Cond.fieldLink "TableMachineModel" 54 "TableMachineModel" "told" "[J" ∈ TB := tb_in (t4_in (i := 174) rfl) rfl
theorem w_895 : Cond.fieldLink "TableMachineModel" 57 "TableMachineModel" "given" "[Z" ∈ TB := tb_in (t4_in (i := 175) rfl) rfl
theorem w_896 : Cond.fieldLink "TableMachineModel" 60 "TableMachineModel" "first" "I" ∈ TB := tb_in (t4_in (i := 176) rfl) rfl
theorem w_897 : Cond.fieldLink "TableMachineModel" 64 "TableMachineModel" "second" "I" ∈ TB := tb_in (t4_in (i := 177) rfl) rfl
theorem w_898 : Cond.fieldLink "TableMachineModel" 171 "TableMachineModel" "outputs" "I" ∈ TB := tb_in (t4_in (i := 178) rfl) rfl
theorem w_899 : Cond.fieldLink "TableMachineModel" 67 "TableMachineModel" "output" "[I" ∈ TB := tb_in (t4_in (i := 179) rfl) rfl
theorem w_900 : Cond.fieldLink "TableMachineModel" 174 "TableMachineModel" "conditions" "I" ∈ TB := tb_in (t4_in (i := 180) rfl) rfl
theorem w_901 : Cond.fieldLink "TableMachineModel" 70 "TableMachineModel" "condition" "[I" ∈ TB := tb_in (t4_in (i := 181) rfl) rfl
theorem w_902 : Cond.fieldLink "TableMachineModel" 177 "TableMachineModel" "joins" "Z" ∈ TB := tb_in (t4_in (i := 182) rfl) rfl
theorem w_903 : Cond.fieldLink "TableMachineModel" 187 "TableMachineModel" "joinFirst" "I" ∈ TB := tb_in (t4_in (i := 183) rfl) rfl
theorem w_904 : Cond.fieldLink "TableMachineModel" 190 "TableMachineModel" "joinSecond" "I" ∈ TB := tb_in (t4_in (i := 184) rfl) rfl
theorem w_969 : Cond.superclass "TableMachineModel" "java/lang/Object" ∈ TB := tb_in (t5_in (i := 9) rfl) rfl
theorem w_972 : Cond.methodLink "TableMachineLaw" 73 y_Md_thrown ∈ TB := tb_in (t5_in (i := 12) rfl) rfl
theorem w_973 : Cond.instanceMethod y_Md_thrown ∈ TB := tb_in (t5_in (i := 13) rfl) rfl
theorem w_974 : Cond.selects "TableMachineModel" y_Md_thrown y_Md_thrown ∈ TB := tb_in (t5_in (i := 14) rfl) rfl
theorem w_975 : Cond.code y_Md_thrown b_Md_thrown 1 (some .int) ∈ TB := tb_in (t5_in (i := 15) rfl) rfl
theorem w_976 : Cond.methodLink "TableMachineLaw" 72 y_Md_table ∈ TB := tb_in (t5_in (i := 16) rfl) rfl
theorem w_977 : Cond.instanceMethod y_Md_table ∈ TB := tb_in (t5_in (i := 17) rfl) rfl
theorem w_978 : Cond.selects "TableMachineModel" y_Md_table y_Md_table ∈ TB := tb_in (t5_in (i := 18) rfl) rfl
theorem w_979 : Cond.code y_Md_table b_Md_table 2 (some .int) ∈ TB := tb_in (t5_in (i := 19) rfl) rfl
theorem w_980 : Cond.methodLink "TableMachineLaw" 82 y_Md_set ∈ TB := tb_in (t5_in (i := 20) rfl) rfl
theorem w_981 : Cond.instanceMethod y_Md_set ∈ TB := tb_in (t5_in (i := 21) rfl) rfl
theorem w_982 : Cond.selects "TableMachineModel" y_Md_set y_Md_set ∈ TB := tb_in (t5_in (i := 22) rfl) rfl
theorem w_983 : Cond.code y_Md_set b_Md_set 5 (some .boolean) ∈ TB := tb_in (t5_in (i := 23) rfl) rfl
theorem w_984 : Cond.methodLink "TableMachineLaw" 86 y_Md_insert ∈ TB := tb_in (t5_in (i := 24) rfl) rfl
theorem w_985 : Cond.instanceMethod y_Md_insert ∈ TB := tb_in (t5_in (i := 25) rfl) rfl
theorem w_986 : Cond.selects "TableMachineModel" y_Md_insert y_Md_insert ∈ TB := tb_in (t5_in (i := 26) rfl) rfl
theorem w_987 : Cond.code y_Md_insert b_Md_insert 5 (some .boolean) ∈ TB := tb_in (t5_in (i := 27) rfl) rfl
theorem w_988 : Cond.methodLink "TableMachineModel" 82 y_Md_isTable ∈ TB := tb_in (t5_in (i := 28) rfl) rfl
theorem w_990 : Cond.instanceMethod y_Md_isTable ∈ TB := tb_in (t5_in (i := 30) rfl) rfl
theorem w_991 : Cond.code y_Md_isTable b_Md_isTable 2 (some .boolean) ∈ TB := tb_in (t5_in (i := 31) rfl) rfl
theorem w_992 : Cond.methodLink "TableMachineModel" 86 y_Md_rowOf ∈ TB := tb_in (t5_in (i := 32) rfl) rfl
theorem w_994 : Cond.instanceMethod y_Md_rowOf ∈ TB := tb_in (t5_in (i := 34) rfl) rfl
theorem w_995 : Cond.code y_Md_rowOf b_Md_rowOf 6 (some .int) ∈ TB := tb_in (t5_in (i := 35) rfl) rfl
theorem w_996 : Cond.methodLink "TableMachineModel" 90 y_Md_lay ∈ TB := tb_in (t5_in (i := 36) rfl) rfl
theorem w_998 : Cond.instanceMethod y_Md_lay ∈ TB := tb_in (t5_in (i := 38) rfl) rfl
theorem w_999 : Cond.code y_Md_lay b_Md_lay 8 none ∈ TB := tb_in (t5_in (i := 39) rfl) rfl
theorem w_1000 : Cond.methodLink "TableMachineLaw" 89 y_Md_delete ∈ TB := tb_in (t5_in (i := 40) rfl) rfl
theorem w_1001 : Cond.instanceMethod y_Md_delete ∈ TB := tb_in (t5_in (i := 41) rfl) rfl
theorem w_1002 : Cond.selects "TableMachineModel" y_Md_delete y_Md_delete ∈ TB := tb_in (t5_in (i := 42) rfl) rfl
theorem w_1003 : Cond.code y_Md_delete b_Md_delete 5 (some .boolean) ∈ TB := tb_in (t5_in (i := 43) rfl) rfl
theorem w_1004 : Cond.methodLink "TableMachineModel" 94 y_Md_take ∈ TB := tb_in (t5_in (i := 44) rfl) rfl
theorem w_1006 : Cond.instanceMethod y_Md_take ∈ TB := tb_in (t5_in (i := 46) rfl) rfl
theorem w_1007 : Cond.code y_Md_take b_Md_take 3 none ∈ TB := tb_in (t5_in (i := 47) rfl) rfl
theorem w_1008 : Cond.methodLink "TableMachineLaw" 93 y_Md_count ∈ TB := tb_in (t5_in (i := 48) rfl) rfl
theorem w_1009 : Cond.instanceMethod y_Md_count ∈ TB := tb_in (t5_in (i := 49) rfl) rfl
theorem w_1010 : Cond.selects "TableMachineModel" y_Md_count y_Md_count ∈ TB := tb_in (t5_in (i := 50) rfl) rfl
theorem w_1011 : Cond.code y_Md_count b_Md_count 4 (some .int) ∈ TB := tb_in (t5_in (i := 51) rfl) rfl
theorem w_1012 : Cond.methodLink "TableMachineLaw" 97 y_Md_next ∈ TB := tb_in (t5_in (i := 52) rfl) rfl
theorem w_1013 : Cond.instanceMethod y_Md_next ∈ TB := tb_in (t5_in (i := 53) rfl) rfl
theorem w_1014 : Cond.selects "TableMachineModel" y_Md_next y_Md_next ∈ TB := tb_in (t5_in (i := 54) rfl) rfl
theorem w_1015 : Cond.code y_Md_next b_Md_next 6 (some .long) ∈ TB := tb_in (t5_in (i := 55) rfl) rfl
theorem w_1016 : Cond.methodLink "TableMachineModel" 98 y_Md_rowFrom ∈ TB := tb_in (t5_in (i := 56) rfl) rfl
theorem w_1018 : Cond.instanceMethod y_Md_rowFrom ∈ TB := tb_in (t5_in (i := 58) rfl) rfl
theorem w_1019 : Cond.code y_Md_rowFrom b_Md_rowFrom 8 (some .int) ∈ TB := tb_in (t5_in (i := 59) rfl) rfl
theorem w_1020 : Cond.methodLink "TableMachineLaw" 101 y_Md_value ∈ TB := tb_in (t5_in (i := 60) rfl) rfl
theorem w_1021 : Cond.instanceMethod y_Md_value ∈ TB := tb_in (t5_in (i := 61) rfl) rfl
theorem w_1022 : Cond.selects "TableMachineModel" y_Md_value y_Md_value ∈ TB := tb_in (t5_in (i := 62) rfl) rfl
theorem w_1023 : Cond.code y_Md_value b_Md_value 6 (some .long) ∈ TB := tb_in (t5_in (i := 63) rfl) rfl
theorem w_1024 : Cond.methodLink "TableMachineModel" 102 y_Md_asked ∈ TB := tb_in (t5_in (i := 64) rfl) rfl
theorem w_1026 : Cond.instanceMethod y_Md_asked ∈ TB := tb_in (t5_in (i := 66) rfl) rfl
theorem w_1027 : Cond.code y_Md_asked b_Md_asked 6 (some .int) ∈ TB := tb_in (t5_in (i := 67) rfl) rfl
theorem w_1028 : Cond.methodLink "TableMachineLaw" 104 y_Md_isNull ∈ TB := tb_in (t5_in (i := 68) rfl) rfl
theorem w_1029 : Cond.instanceMethod y_Md_isNull ∈ TB := tb_in (t5_in (i := 69) rfl) rfl
theorem w_1030 : Cond.selects "TableMachineModel" y_Md_isNull y_Md_isNull ∈ TB := tb_in (t5_in (i := 70) rfl) rfl
theorem w_1031 : Cond.code y_Md_isNull b_Md_isNull 6 (some .boolean) ∈ TB := tb_in (t5_in (i := 71) rfl) rfl
theorem w_1032 : Cond.methodLink "TableMachineLaw" 108 y_Md_add ∈ TB := tb_in (t5_in (i := 72) rfl) rfl
theorem w_1033 : Cond.instanceMethod y_Md_add ∈ TB := tb_in (t5_in (i := 73) rfl) rfl
theorem w_1034 : Cond.selects "TableMachineModel" y_Md_add y_Md_add ∈ TB := tb_in (t5_in (i := 74) rfl) rfl
theorem w_1035 : Cond.code y_Md_add b_Md_add 5 (some .int) ∈ TB := tb_in (t5_in (i := 75) rfl) rfl
theorem w_1036 : Cond.methodLink "TableMachineModel" 117 y_Md_fits ∈ TB := tb_in (t5_in (i := 76) rfl) rfl
theorem w_1037 : Cond.static y_Md_fits ∈ TB := tb_in (t5_in (i := 77) rfl) rfl
theorem w_1038 : Cond.code y_Md_fits b_Md_fits 4 (some .boolean) ∈ TB := tb_in (t5_in (i := 78) rfl) rfl
theorem w_1039 : Cond.methodLink "TableMachineModel" 106 y_Md_in ∈ TB := tb_in (t5_in (i := 79) rfl) rfl
theorem w_1040 : Cond.static y_Md_in ∈ TB := tb_in (t5_in (i := 80) rfl) rfl
theorem w_1041 : Cond.code y_Md_in b_Md_in 2 (some .boolean) ∈ TB := tb_in (t5_in (i := 81) rfl) rfl
theorem w_1042 : Cond.methodLink "TableMachineModel" 121 y_Md_put ∈ TB := tb_in (t5_in (i := 82) rfl) rfl
theorem w_1044 : Cond.instanceMethod y_Md_put ∈ TB := tb_in (t5_in (i := 84) rfl) rfl
theorem w_1045 : Cond.code y_Md_put b_Md_put 6 none ∈ TB := tb_in (t5_in (i := 85) rfl) rfl
theorem w_1046 : Cond.methodLink "TableMachineModel" 113 y_Md_many ∈ TB := tb_in (t5_in (i := 86) rfl) rfl
theorem w_1047 : Cond.static y_Md_many ∈ TB := tb_in (t5_in (i := 87) rfl) rfl
theorem w_1048 : Cond.code y_Md_many b_Md_many 1 (some .int) ∈ TB := tb_in (t5_in (i := 88) rfl) rfl
theorem w_1049 : Cond.methodLink "TableMachineLaw" 112 y_Md_wipe ∈ TB := tb_in (t5_in (i := 89) rfl) rfl
theorem w_1050 : Cond.instanceMethod y_Md_wipe ∈ TB := tb_in (t5_in (i := 90) rfl) rfl
theorem w_1051 : Cond.selects "TableMachineModel" y_Md_wipe y_Md_wipe ∈ TB := tb_in (t5_in (i := 91) rfl) rfl
theorem w_1052 : Cond.code y_Md_wipe b_Md_wipe 1 none ∈ TB := tb_in (t5_in (i := 92) rfl) rfl
theorem w_1053 : Cond.methodLink "TableMachineLaw" 116 y_Md_code ∈ TB := tb_in (t5_in (i := 93) rfl) rfl
theorem w_1054 : Cond.instanceMethod y_Md_code ∈ TB := tb_in (t5_in (i := 94) rfl) rfl
theorem w_1055 : Cond.selects "TableMachineModel" y_Md_code y_Md_code ∈ TB := tb_in (t5_in (i := 95) rfl) rfl
theorem w_1056 : Cond.code y_Md_code b_Md_code 3 (some .int) ∈ TB := tb_in (t5_in (i := 96) rfl) rfl
theorem w_1057 : Cond.methodLink "TableMachineLaw" 119 y_Md_run ∈ TB := tb_in (t5_in (i := 97) rfl) rfl
theorem w_1058 : Cond.instanceMethod y_Md_run ∈ TB := tb_in (t5_in (i := 98) rfl) rfl
theorem w_1059 : Cond.selects "TableMachineModel" y_Md_run y_Md_run ∈ TB := tb_in (t5_in (i := 99) rfl) rfl
theorem w_1060 : Cond.code y_Md_run b_Md_run 4 (some .int) ∈ TB := tb_in (t5_in (i := 100) rfl) rfl
theorem w_1061 : Cond.methodLink "TableMachineModel" 164 y_Md_sound ∈ TB := tb_in (t5_in (i := 101) rfl) rfl
theorem w_1063 : Cond.instanceMethod y_Md_sound ∈ TB := tb_in (t5_in (i := 103) rfl) rfl
theorem w_1064 : Cond.code y_Md_sound b_Md_sound 4 (some .boolean) ∈ TB := tb_in (t5_in (i := 104) rfl) rfl
theorem w_1065 : Cond.methodLink "TableMachineModel" 125 y_Md_goal ∈ TB := tb_in (t5_in (i := 105) rfl) rfl
theorem w_1066 : Cond.static y_Md_goal ∈ TB := tb_in (t5_in (i := 106) rfl) rfl
theorem w_1067 : Cond.code y_Md_goal b_Md_goal 2 (some .int) ∈ TB := tb_in (t5_in (i := 107) rfl) rfl
theorem w_1068 : Cond.methodLink "TableMachineModel" 138 y_Md_keep ∈ TB := tb_in (t5_in (i := 108) rfl) rfl
theorem w_1070 : Cond.instanceMethod y_Md_keep ∈ TB := tb_in (t5_in (i := 110) rfl) rfl
theorem w_1071 : Cond.code y_Md_keep b_Md_keep 5 none ∈ TB := tb_in (t5_in (i := 111) rfl) rfl
theorem w_1072 : Cond.methodLink "TableMachineModel" 168 y_Md_step ∈ TB := tb_in (t5_in (i := 112) rfl) rfl
theorem w_1074 : Cond.instanceMethod y_Md_step ∈ TB := tb_in (t5_in (i := 114) rfl) rfl
theorem w_1075 : Cond.code y_Md_step b_Md_step 6 (some .boolean) ∈ TB := tb_in (t5_in (i := 115) rfl) rfl
theorem w_1076 : Cond.methodLink "TableMachineModel" 152 y_Md_needsOpen ∈ TB := tb_in (t5_in (i := 116) rfl) rfl
theorem w_1077 : Cond.static y_Md_needsOpen ∈ TB := tb_in (t5_in (i := 117) rfl) rfl
theorem w_1078 : Cond.code y_Md_needsOpen b_Md_needsOpen 1 (some .boolean) ∈ TB := tb_in (t5_in (i := 118) rfl) rfl
theorem w_1079 : Cond.methodLink "TableMachineModel" 158 y_Md_withCursor ∈ TB := tb_in (t5_in (i := 119) rfl) rfl
theorem w_1081 : Cond.instanceMethod y_Md_withCursor ∈ TB := tb_in (t5_in (i := 121) rfl) rfl
theorem w_1082 : Cond.code y_Md_withCursor b_Md_withCursor 8 (some .boolean) ∈ TB := tb_in (t5_in (i := 122) rfl) rfl
theorem w_1083 : Cond.methodLink "TableMachineModel" 128 y_Md_firstRow ∈ TB := tb_in (t5_in (i := 123) rfl) rfl
theorem w_1085 : Cond.instanceMethod y_Md_firstRow ∈ TB := tb_in (t5_in (i := 125) rfl) rfl
theorem w_1086 : Cond.code y_Md_firstRow b_Md_firstRow 4 (some .int) ∈ TB := tb_in (t5_in (i := 126) rfl) rfl
theorem w_1087 : Cond.methodLink "TableMachineModel" 131 y_Md_point ∈ TB := tb_in (t5_in (i := 127) rfl) rfl
theorem w_1089 : Cond.instanceMethod y_Md_point ∈ TB := tb_in (t5_in (i := 129) rfl) rfl
theorem w_1090 : Cond.code y_Md_point b_Md_point 3 none ∈ TB := tb_in (t5_in (i := 130) rfl) rfl
theorem w_1091 : Cond.methodLink "TableMachineModel" 135 y_Md_rowAt ∈ TB := tb_in (t5_in (i := 131) rfl) rfl
theorem w_1093 : Cond.instanceMethod y_Md_rowAt ∈ TB := tb_in (t5_in (i := 133) rfl) rfl
theorem w_1094 : Cond.code y_Md_rowAt b_Md_rowAt 2 (some .int) ∈ TB := tb_in (t5_in (i := 134) rfl) rfl
theorem w_1095 : Cond.methodLink "TableMachineModel" 161 y_Md_without ∈ TB := tb_in (t5_in (i := 135) rfl) rfl
theorem w_1097 : Cond.instanceMethod y_Md_without ∈ TB := tb_in (t5_in (i := 137) rfl) rfl
theorem w_1098 : Cond.code y_Md_without b_Md_without 6 (some .boolean) ∈ TB := tb_in (t5_in (i := 138) rfl) rfl
theorem w_1099 : Cond.methodLink "TableMachineModel" 145 y_Md_compares ∈ TB := tb_in (t5_in (i := 139) rfl) rfl
theorem w_1101 : Cond.instanceMethod y_Md_compares ∈ TB := tb_in (t5_in (i := 141) rfl) rfl
theorem w_1102 : Cond.code y_Md_compares b_Md_compares 7 (some .boolean) ∈ TB := tb_in (t5_in (i := 142) rfl) rfl
theorem w_1103 : Cond.methodLink "TableMachineLaw" 122 y_Md_result ∈ TB := tb_in (t5_in (i := 143) rfl) rfl
theorem w_1104 : Cond.instanceMethod y_Md_result ∈ TB := tb_in (t5_in (i := 144) rfl) rfl
theorem w_1105 : Cond.selects "TableMachineModel" y_Md_result y_Md_result ∈ TB := tb_in (t5_in (i := 145) rfl) rfl
theorem w_1106 : Cond.code y_Md_result b_Md_result 3 (some .long) ∈ TB := tb_in (t5_in (i := 146) rfl) rfl
theorem w_1107 : Cond.methodLink "TableMachineLaw" 125 y_Md_wasNull ∈ TB := tb_in (t5_in (i := 147) rfl) rfl
theorem w_1108 : Cond.instanceMethod y_Md_wasNull ∈ TB := tb_in (t5_in (i := 148) rfl) rfl
theorem w_1109 : Cond.selects "TableMachineModel" y_Md_wasNull y_Md_wasNull ∈ TB := tb_in (t5_in (i := 149) rfl) rfl
theorem w_1110 : Cond.code y_Md_wasNull b_Md_wasNull 3 (some .boolean) ∈ TB := tb_in (t5_in (i := 150) rfl) rfl
theorem w_1111 : Cond.methodLink "TableMachineLaw" 129 y_Md_ask ∈ TB := tb_in (t5_in (i := 151) rfl) rfl
theorem w_1112 : Cond.instanceMethod y_Md_ask ∈ TB := tb_in (t5_in (i := 152) rfl) rfl
theorem w_1113 : Cond.selects "TableMachineModel" y_Md_ask y_Md_ask ∈ TB := tb_in (t5_in (i := 153) rfl) rfl
theorem w_1114 : Cond.code y_Md_ask b_Md_ask 3 (some .boolean) ∈ TB := tb_in (t5_in (i := 154) rfl) rfl
theorem w_1115 : Cond.methodLink "TableMachineLaw" 133 y_Md_output ∈ TB := tb_in (t5_in (i := 155) rfl) rfl
theorem w_1116 : Cond.instanceMethod y_Md_output ∈ TB := tb_in (t5_in (i := 156) rfl) rfl
theorem w_1117 : Cond.selects "TableMachineModel" y_Md_output y_Md_output ∈ TB := tb_in (t5_in (i := 157) rfl) rfl
theorem w_1118 : Cond.code y_Md_output b_Md_output 3 (some .boolean) ∈ TB := tb_in (t5_in (i := 158) rfl) rfl
theorem w_1119 : Cond.methodLink "TableMachineModel" 184 y_Md_isColumn ∈ TB := tb_in (t5_in (i := 159) rfl) rfl
theorem w_1121 : Cond.instanceMethod y_Md_isColumn ∈ TB := tb_in (t5_in (i := 161) rfl) rfl
theorem w_1122 : Cond.code y_Md_isColumn b_Md_isColumn 4 (some .boolean) ∈ TB := tb_in (t5_in (i := 162) rfl) rfl
theorem w_1123 : Cond.methodLink "TableMachineModel" 181 y_Md_tableOf ∈ TB := tb_in (t5_in (i := 163) rfl) rfl
theorem w_1125 : Cond.instanceMethod y_Md_tableOf ∈ TB := tb_in (t5_in (i := 165) rfl) rfl
theorem w_1126 : Cond.code y_Md_tableOf b_Md_tableOf 2 (some .int) ∈ TB := tb_in (t5_in (i := 166) rfl) rfl
theorem w_1127 : Cond.methodLink "TableMachineLaw" 138 y_Md_condition ∈ TB := tb_in (t5_in (i := 167) rfl) rfl
theorem w_1128 : Cond.instanceMethod y_Md_condition ∈ TB := tb_in (t5_in (i := 168) rfl) rfl
theorem w_1129 : Cond.selects "TableMachineModel" y_Md_condition y_Md_condition ∈ TB := tb_in (t5_in (i := 169) rfl) rfl
theorem w_1130 : Cond.code y_Md_condition b_Md_condition 6 (some .boolean) ∈ TB := tb_in (t5_in (i := 170) rfl) rfl
theorem w_1131 : Cond.methodLink "TableMachineLaw" 142 y_Md_join ∈ TB := tb_in (t5_in (i := 171) rfl) rfl
theorem w_1132 : Cond.instanceMethod y_Md_join ∈ TB := tb_in (t5_in (i := 172) rfl) rfl
theorem w_1133 : Cond.selects "TableMachineModel" y_Md_join y_Md_join ∈ TB := tb_in (t5_in (i := 173) rfl) rfl
theorem w_1134 : Cond.code y_Md_join b_Md_join 3 (some .boolean) ∈ TB := tb_in (t5_in (i := 174) rfl) rfl
theorem w_1135 : Cond.methodLink "TableMachineLaw" 146 y_Md_compile ∈ TB := tb_in (t5_in (i := 175) rfl) rfl
theorem w_1136 : Cond.instanceMethod y_Md_compile ∈ TB := tb_in (t5_in (i := 176) rfl) rfl
theorem w_1137 : Cond.selects "TableMachineModel" y_Md_compile y_Md_compile ∈ TB := tb_in (t5_in (i := 177) rfl) rfl
theorem w_1138 : Cond.code y_Md_compile b_Md_compile 7 (some .int) ∈ TB := tb_in (t5_in (i := 178) rfl) rfl
theorem w_1139 : Cond.methodLink "TableMachineModel" 200 y_Md_length ∈ TB := tb_in (t5_in (i := 179) rfl) rfl
theorem w_1141 : Cond.instanceMethod y_Md_length ∈ TB := tb_in (t5_in (i := 181) rfl) rfl
theorem w_1142 : Cond.code y_Md_length b_Md_length 4 (some .int) ∈ TB := tb_in (t5_in (i := 182) rfl) rfl
theorem w_1143 : Cond.methodLink "TableMachineModel" 193 y_Md_seeker ∈ TB := tb_in (t5_in (i := 183) rfl) rfl
theorem w_1145 : Cond.instanceMethod y_Md_seeker ∈ TB := tb_in (t5_in (i := 185) rfl) rfl
theorem w_1146 : Cond.code y_Md_seeker b_Md_seeker 6 (some .int) ∈ TB := tb_in (t5_in (i := 186) rfl) rfl
theorem w_1147 : Cond.methodLink "TableMachineModel" 203 y_Md_loop ∈ TB := tb_in (t5_in (i := 187) rfl) rfl
theorem w_1149 : Cond.instanceMethod y_Md_loop ∈ TB := tb_in (t5_in (i := 189) rfl) rfl
theorem w_1150 : Cond.code y_Md_loop b_Md_loop 8 (some .int) ∈ TB := tb_in (t5_in (i := 190) rfl) rfl
theorem w_1151 : Cond.methodLink "TableMachineModel" 196 y_Md_read ∈ TB := tb_in (t5_in (i := 191) rfl) rfl
theorem w_1153 : Cond.instanceMethod y_Md_read ∈ TB := tb_in (t5_in (i := 193) rfl) rfl
theorem w_1154 : Cond.code y_Md_read b_Md_read 4 none ∈ TB := tb_in (t5_in (i := 194) rfl) rfl
theorem w_1155 : Cond.methodLink "TableMachineModel" 207 y_Md_outputsAndResult ∈ TB := tb_in (t5_in (i := 195) rfl) rfl
theorem w_1157 : Cond.instanceMethod y_Md_outputsAndResult ∈ TB := tb_in (t5_in (i := 197) rfl) rfl
theorem w_1158 : Cond.code y_Md_outputsAndResult b_Md_outputsAndResult 2 none ∈ TB := tb_in (t5_in (i := 198) rfl) rfl
theorem w_1159 : Cond.constantLong "TableMachineLaw" (76 : Nat) (4294967295 : Int64) ∈ TB := tb_in (t5_in (i := 199) rfl) rfl
theorem w_1160 : Cond.sameMethod "java/lang/Throwable" "java/lang/Throwable" "fillInStackTrace" "(I)Ljava/lang/Throwable;" ∈ TB := tb_in (t5_in (i := 200) rfl) rfl
theorem w_1161 : Cond.fieldLinkNest "TableMachine" 176 "TableMachine$Op" "what" "Ljava/lang/String;" "TableMachine" ∈ NW := nw_in (t5_in (i := 201) rfl) rfl
theorem w_1162 : Cond.fieldLink "java/lang/String" 15 "java/lang/String" "coder" "B" ∈ TB := tb_in (t5_in (i := 202) rfl) rfl
theorem w_1163 : Cond.fieldLink "java/lang/String" 9 "java/lang/String" "value" "[B" ∈ TB := tb_in (t5_in (i := 203) rfl) rfl
theorem w_1164 : Cond.fieldLink "java/lang/Enum" 7 "java/lang/Enum" "ordinal" "I" ∈ TB := tb_in (t5_in (i := 204) rfl) rfl
theorem w_1165 : Cond.fieldLinkNest "TableMachine$Instruction" 19 "TableMachine$Op" "what" "Ljava/lang/String;" "TableMachine" ∈ NW := nw_in (t5_in (i := 205) rfl) rfl
theorem wp_0 : Cond.selects "TableMachine" y_TM_isTable y_TM_isTable ∈ TB := tb_sel (q := (y_TM_isTable, 24)) (List.mem_of_getElem? (i := 0) rfl)
theorem wp_1 : Cond.selects "TableMachine" y_TM_isColumn y_TM_isColumn ∈ TB := tb_sel (q := (y_TM_isColumn, 24)) (List.mem_of_getElem? (i := 1) rfl)
theorem wp_2 : Cond.selects "java/lang/Throwable" y_Throwable_fillInStackTrace_1 y_Throwable_fillInStackTrace_1 ∈ TB := tb_sel (q := (y_Throwable_fillInStackTrace_1, 6)) (List.mem_of_getElem? (i := 2) rfl)
theorem wp_3 : Cond.selects "TableMachine$Tree" y_Tr_find y_Tr_find ∈ TB := tb_sel (q := (y_Tr_find, 14)) (List.mem_of_getElem? (i := 3) rfl)
theorem wp_4 : Cond.selects "TableMachine$Tree" y_Tr_childFor y_Tr_childFor ∈ TB := tb_sel (q := (y_Tr_childFor, 14)) (List.mem_of_getElem? (i := 4) rfl)
theorem wp_5 : Cond.selects "TableMachine$Tree" y_Tr_pass y_Tr_pass ∈ TB := tb_sel (q := (y_Tr_pass, 14)) (List.mem_of_getElem? (i := 5) rfl)
theorem wp_6 : Cond.selects "TableMachine$Tree" y_Tr_leaf y_Tr_leaf ∈ TB := tb_sel (q := (y_Tr_leaf, 14)) (List.mem_of_getElem? (i := 6) rfl)
theorem wp_7 : Cond.selects "TableMachine$Tree" y_Tr_size y_Tr_size ∈ TB := tb_sel (q := (y_Tr_size, 14)) (List.mem_of_getElem? (i := 7) rfl)
theorem wp_8 : Cond.selects "TableMachine$Tree" y_Tr_fill y_Tr_fill ∈ TB := tb_sel (q := (y_Tr_fill, 14)) (List.mem_of_getElem? (i := 8) rfl)
theorem wp_9 : Cond.selects "TableMachine$Tree" y_Tr_splitLeaf y_Tr_splitLeaf ∈ TB := tb_sel (q := (y_Tr_splitLeaf, 14)) (List.mem_of_getElem? (i := 9) rfl)
theorem wp_10 : Cond.selects "TableMachine$Tree" y_Tr_above y_Tr_above ∈ TB := tb_sel (q := (y_Tr_above, 14)) (List.mem_of_getElem? (i := 10) rfl)
theorem wp_11 : Cond.selects "TableMachine$Tree" y_Tr_raise y_Tr_raise ∈ TB := tb_sel (q := (y_Tr_raise, 14)) (List.mem_of_getElem? (i := 11) rfl)
theorem wp_12 : Cond.selects "TableMachine$Tree" y_Tr_become y_Tr_become ∈ TB := tb_sel (q := (y_Tr_become, 14)) (List.mem_of_getElem? (i := 12) rfl)
theorem wp_13 : Cond.selects "TableMachine$Tree" y_Tr_widen y_Tr_widen ∈ TB := tb_sel (q := (y_Tr_widen, 14)) (List.mem_of_getElem? (i := 13) rfl)
theorem wp_14 : Cond.selects "TableMachine$Tree" y_Tr_part y_Tr_part ∈ TB := tb_sel (q := (y_Tr_part, 14)) (List.mem_of_getElem? (i := 14) rfl)
theorem wp_15 : Cond.selects "TableMachine$Tree" y_Tr_prune y_Tr_prune ∈ TB := tb_sel (q := (y_Tr_prune, 14)) (List.mem_of_getElem? (i := 15) rfl)
theorem wp_16 : Cond.selects "TableMachine$Tree" y_Tr_without y_Tr_without ∈ TB := tb_sel (q := (y_Tr_without, 14)) (List.mem_of_getElem? (i := 16) rfl)
theorem wp_17 : Cond.selects "TableMachine$Tree" y_Tr_childAt y_Tr_childAt ∈ TB := tb_sel (q := (y_Tr_childAt, 14)) (List.mem_of_getElem? (i := 17) rfl)
theorem wp_18 : Cond.selects "TableMachine$Tree" y_Tr_lead y_Tr_lead ∈ TB := tb_sel (q := (y_Tr_lead, 14)) (List.mem_of_getElem? (i := 18) rfl)
theorem wp_19 : Cond.selects "TableMachine$Tree" y_Tr_nextLeaf y_Tr_nextLeaf ∈ TB := tb_sel (q := (y_Tr_nextLeaf, 14)) (List.mem_of_getElem? (i := 19) rfl)
theorem wp_20 : Cond.selects "TableMachine" y_TM_valueOf y_TM_valueOf ∈ TB := tb_sel (q := (y_TM_valueOf, 24)) (List.mem_of_getElem? (i := 20) rfl)
theorem wp_21 : Cond.selects "TableMachine" y_TM_emit y_TM_emit ∈ TB := tb_sel (q := (y_TM_emit, 24)) (List.mem_of_getElem? (i := 21) rfl)
theorem wp_22 : Cond.selects "TableMachine" y_TM_isSound y_TM_isSound ∈ TB := tb_sel (q := (y_TM_isSound, 24)) (List.mem_of_getElem? (i := 22) rfl)
theorem wp_23 : Cond.selects "TableMachine" y_TM_step y_TM_step ∈ TB := tb_sel (q := (y_TM_step, 24)) (List.mem_of_getElem? (i := 23) rfl)
theorem wp_24 : Cond.selects "TableMachine" y_TM_moves y_TM_moves ∈ TB := tb_sel (q := (y_TM_moves, 24)) (List.mem_of_getElem? (i := 24) rfl)
theorem wp_25 : Cond.selects "TableMachine" y_TM_column y_TM_column ∈ TB := tb_sel (q := (y_TM_column, 24)) (List.mem_of_getElem? (i := 25) rfl)
theorem wp_26 : Cond.selects "TableMachine" y_TM_comes y_TM_comes ∈ TB := tb_sel (q := (y_TM_comes, 24)) (List.mem_of_getElem? (i := 26) rfl)
theorem wp_27 : Cond.selects "TableMachine" y_TM_works y_TM_works ∈ TB := tb_sel (q := (y_TM_works, 24)) (List.mem_of_getElem? (i := 27) rfl)
theorem wp_28 : Cond.selects "TableMachine" y_TM_tell y_TM_tell ∈ TB := tb_sel (q := (y_TM_tell, 24)) (List.mem_of_getElem? (i := 28) rfl)
theorem wp_29 : Cond.selects "TableMachine" y_TM_opens y_TM_opens ∈ TB := tb_sel (q := (y_TM_opens, 24)) (List.mem_of_getElem? (i := 29) rfl)
theorem wp_30 : Cond.selects "TableMachine" y_TM_asksAll y_TM_asksAll ∈ TB := tb_sel (q := (y_TM_asksAll, 24)) (List.mem_of_getElem? (i := 30) rfl)
theorem wp_31 : Cond.selects "TableMachine" y_TM_fetch y_TM_fetch ∈ TB := tb_sel (q := (y_TM_fetch, 24)) (List.mem_of_getElem? (i := 31) rfl)
theorem wp_32 : Cond.selects "TableMachine" y_TM_orElse y_TM_orElse ∈ TB := tb_sel (q := (y_TM_orElse, 24)) (List.mem_of_getElem? (i := 32) rfl)
theorem wp_33 : Cond.selects "TableMachine" y_TM_tells y_TM_tells ∈ TB := tb_sel (q := (y_TM_tells, 24)) (List.mem_of_getElem? (i := 33) rfl)
theorem wp_34 : Cond.selects "TableMachine" y_TM_settle y_TM_settle ∈ TB := tb_sel (q := (y_TM_settle, 24)) (List.mem_of_getElem? (i := 34) rfl)
theorem wp_35 : Cond.selects "TableMachineModel" y_Md_isTable y_Md_isTable ∈ TB := tb_sel (q := (y_Md_isTable, 32)) (List.mem_of_getElem? (i := 35) rfl)
theorem wp_36 : Cond.selects "TableMachineModel" y_Md_rowOf y_Md_rowOf ∈ TB := tb_sel (q := (y_Md_rowOf, 32)) (List.mem_of_getElem? (i := 36) rfl)
theorem wp_37 : Cond.selects "TableMachineModel" y_Md_lay y_Md_lay ∈ TB := tb_sel (q := (y_Md_lay, 32)) (List.mem_of_getElem? (i := 37) rfl)
theorem wp_38 : Cond.selects "TableMachineModel" y_Md_take y_Md_take ∈ TB := tb_sel (q := (y_Md_take, 32)) (List.mem_of_getElem? (i := 38) rfl)
theorem wp_39 : Cond.selects "TableMachineModel" y_Md_rowFrom y_Md_rowFrom ∈ TB := tb_sel (q := (y_Md_rowFrom, 32)) (List.mem_of_getElem? (i := 39) rfl)
theorem wp_40 : Cond.selects "TableMachineModel" y_Md_asked y_Md_asked ∈ TB := tb_sel (q := (y_Md_asked, 32)) (List.mem_of_getElem? (i := 40) rfl)
theorem wp_41 : Cond.selects "TableMachineModel" y_Md_put y_Md_put ∈ TB := tb_sel (q := (y_Md_put, 32)) (List.mem_of_getElem? (i := 41) rfl)
theorem wp_42 : Cond.selects "TableMachineModel" y_Md_sound y_Md_sound ∈ TB := tb_sel (q := (y_Md_sound, 32)) (List.mem_of_getElem? (i := 42) rfl)
theorem wp_43 : Cond.selects "TableMachineModel" y_Md_keep y_Md_keep ∈ TB := tb_sel (q := (y_Md_keep, 32)) (List.mem_of_getElem? (i := 43) rfl)
theorem wp_44 : Cond.selects "TableMachineModel" y_Md_step y_Md_step ∈ TB := tb_sel (q := (y_Md_step, 32)) (List.mem_of_getElem? (i := 44) rfl)
theorem wp_45 : Cond.selects "TableMachineModel" y_Md_withCursor y_Md_withCursor ∈ TB := tb_sel (q := (y_Md_withCursor, 32)) (List.mem_of_getElem? (i := 45) rfl)
theorem wp_46 : Cond.selects "TableMachineModel" y_Md_firstRow y_Md_firstRow ∈ TB := tb_sel (q := (y_Md_firstRow, 32)) (List.mem_of_getElem? (i := 46) rfl)
theorem wp_47 : Cond.selects "TableMachineModel" y_Md_point y_Md_point ∈ TB := tb_sel (q := (y_Md_point, 32)) (List.mem_of_getElem? (i := 47) rfl)
theorem wp_48 : Cond.selects "TableMachineModel" y_Md_rowAt y_Md_rowAt ∈ TB := tb_sel (q := (y_Md_rowAt, 32)) (List.mem_of_getElem? (i := 48) rfl)
theorem wp_49 : Cond.selects "TableMachineModel" y_Md_without y_Md_without ∈ TB := tb_sel (q := (y_Md_without, 32)) (List.mem_of_getElem? (i := 49) rfl)
theorem wp_50 : Cond.selects "TableMachineModel" y_Md_compares y_Md_compares ∈ TB := tb_sel (q := (y_Md_compares, 32)) (List.mem_of_getElem? (i := 50) rfl)
theorem wp_51 : Cond.selects "TableMachineModel" y_Md_isColumn y_Md_isColumn ∈ TB := tb_sel (q := (y_Md_isColumn, 32)) (List.mem_of_getElem? (i := 51) rfl)
theorem wp_52 : Cond.selects "TableMachineModel" y_Md_tableOf y_Md_tableOf ∈ TB := tb_sel (q := (y_Md_tableOf, 32)) (List.mem_of_getElem? (i := 52) rfl)
theorem wp_53 : Cond.selects "TableMachineModel" y_Md_length y_Md_length ∈ TB := tb_sel (q := (y_Md_length, 32)) (List.mem_of_getElem? (i := 53) rfl)
theorem wp_54 : Cond.selects "TableMachineModel" y_Md_seeker y_Md_seeker ∈ TB := tb_sel (q := (y_Md_seeker, 32)) (List.mem_of_getElem? (i := 54) rfl)
theorem wp_55 : Cond.selects "TableMachineModel" y_Md_loop y_Md_loop ∈ TB := tb_sel (q := (y_Md_loop, 32)) (List.mem_of_getElem? (i := 55) rfl)
theorem wp_56 : Cond.selects "TableMachineModel" y_Md_read y_Md_read ∈ TB := tb_sel (q := (y_Md_read, 32)) (List.mem_of_getElem? (i := 56) rfl)
theorem wp_57 : Cond.selects "TableMachineModel" y_Md_outputsAndResult y_Md_outputsAndResult ∈ TB := tb_sel (q := (y_Md_outputsAndResult, 32)) (List.mem_of_getElem? (i := 57) rfl)
theorem q_Cd_init : (parseMethodDescriptor y_Cd_init.desc).map (fun d => d.parameters.length) = some 0 := by decide +kernel
theorem q_Cu_at : (parseMethodDescriptor y_Cu_at.desc).map (fun d => d.parameters.length) = some 0 := by decide +kernel
theorem q_Cu_clear : (parseMethodDescriptor y_Cu_clear.desc).map (fun d => d.parameters.length) = some 0 := by decide +kernel
theorem q_Cu_init : (parseMethodDescriptor y_Cu_init.desc).map (fun d => d.parameters.length) = some 0 := by decide +kernel
theorem q_Cu_take : (parseMethodDescriptor y_Cu_take.desc).map (fun d => d.parameters.length) = some 1 := by decide +kernel
theorem q_Enum_ordinal : (parseMethodDescriptor y_Enum_ordinal.desc).map (fun d => d.parameters.length) = some 0 := by decide +kernel
theorem q_Exception_init : (parseMethodDescriptor y_Exception_init.desc).map (fun d => d.parameters.length) = some 0 := by decide +kernel
theorem q_IAE_init : (parseMethodDescriptor y_IAE_init.desc).map (fun d => d.parameters.length) = some 0 := by decide +kernel
theorem q_IOOBE_init : (parseMethodDescriptor y_IOOBE_init.desc).map (fun d => d.parameters.length) = some 0 := by decide +kernel
theorem q_ISE_init : (parseMethodDescriptor y_ISE_init.desc).map (fun d => d.parameters.length) = some 0 := by decide +kernel
theorem q_In_goal : (parseMethodDescriptor y_In_goal.desc).map (fun d => d.parameters.length) = some 0 := by decide +kernel
theorem q_In_init : (parseMethodDescriptor y_In_init.desc).map (fun d => d.parameters.length) = some 0 := by decide +kernel
theorem q_Latin1_charAt : (parseMethodDescriptor y_Latin1_charAt.desc).map (fun d => d.parameters.length) = some 2 := by decide +kernel
theorem q_Lw_add : (parseMethodDescriptor y_Lw_add.desc).map (fun d => d.parameters.length) = some 6 := by decide +kernel
theorem q_Lw_code : (parseMethodDescriptor y_Lw_code.desc).map (fun d => d.parameters.length) = some 4 := by decide +kernel
theorem q_Lw_compile : (parseMethodDescriptor y_Lw_compile.desc).map (fun d => d.parameters.length) = some 2 := by decide +kernel
theorem q_Lw_delete : (parseMethodDescriptor y_Lw_delete.desc).map (fun d => d.parameters.length) = some 4 := by decide +kernel
theorem q_Lw_insert : (parseMethodDescriptor y_Lw_insert.desc).map (fun d => d.parameters.length) = some 4 := by decide +kernel
theorem q_Lw_isNull : (parseMethodDescriptor y_Lw_isNull.desc).map (fun d => d.parameters.length) = some 5 := by decide +kernel
theorem q_Lw_next : (parseMethodDescriptor y_Lw_next.desc).map (fun d => d.parameters.length) = some 5 := by decide +kernel
theorem q_Lw_result : (parseMethodDescriptor y_Lw_result.desc).map (fun d => d.parameters.length) = some 4 := by decide +kernel
theorem q_Lw_run : (parseMethodDescriptor y_Lw_run.desc).map (fun d => d.parameters.length) = some 3 := by decide +kernel
theorem q_Lw_table : (parseMethodDescriptor y_Lw_table.desc).map (fun d => d.parameters.length) = some 3 := by decide +kernel
theorem q_Lw_value : (parseMethodDescriptor y_Lw_value.desc).map (fun d => d.parameters.length) = some 5 := by decide +kernel
theorem q_Lw_wasNull : (parseMethodDescriptor y_Lw_wasNull.desc).map (fun d => d.parameters.length) = some 4 := by decide +kernel
theorem q_Md_add : (parseMethodDescriptor y_Md_add.desc).map (fun d => d.parameters.length) = some 4 := by decide +kernel
theorem q_Md_ask : (parseMethodDescriptor y_Md_ask.desc).map (fun d => d.parameters.length) = some 2 := by decide +kernel
theorem q_Md_asked : (parseMethodDescriptor y_Md_asked.desc).map (fun d => d.parameters.length) = some 3 := by decide +kernel
theorem q_Md_code : (parseMethodDescriptor y_Md_code.desc).map (fun d => d.parameters.length) = some 2 := by decide +kernel
theorem q_Md_compares : (parseMethodDescriptor y_Md_compares.desc).map (fun d => d.parameters.length) = some 3 := by decide +kernel
theorem q_Md_compile : (parseMethodDescriptor y_Md_compile.desc).map (fun d => d.parameters.length) = some 0 := by decide +kernel
theorem q_Md_condition : (parseMethodDescriptor y_Md_condition.desc).map (fun d => d.parameters.length) = some 4 := by decide +kernel
theorem q_Md_count : (parseMethodDescriptor y_Md_count.desc).map (fun d => d.parameters.length) = some 1 := by decide +kernel
theorem q_Md_delete : (parseMethodDescriptor y_Md_delete.desc).map (fun d => d.parameters.length) = some 2 := by decide +kernel
theorem q_Md_firstRow : (parseMethodDescriptor y_Md_firstRow.desc).map (fun d => d.parameters.length) = some 1 := by decide +kernel
theorem q_Md_fits : (parseMethodDescriptor y_Md_fits.desc).map (fun d => d.parameters.length) = some 4 := by decide +kernel
theorem q_Md_goal : (parseMethodDescriptor y_Md_goal.desc).map (fun d => d.parameters.length) = some 1 := by decide +kernel
theorem q_Md_in : (parseMethodDescriptor y_Md_in.desc).map (fun d => d.parameters.length) = some 2 := by decide +kernel
theorem q_Md_init : (parseMethodDescriptor y_Md_init.desc).map (fun d => d.parameters.length) = some 0 := by decide +kernel
theorem q_Md_insert : (parseMethodDescriptor y_Md_insert.desc).map (fun d => d.parameters.length) = some 2 := by decide +kernel
theorem q_Md_isColumn : (parseMethodDescriptor y_Md_isColumn.desc).map (fun d => d.parameters.length) = some 2 := by decide +kernel
theorem q_Md_isNull : (parseMethodDescriptor y_Md_isNull.desc).map (fun d => d.parameters.length) = some 3 := by decide +kernel
theorem q_Md_isTable : (parseMethodDescriptor y_Md_isTable.desc).map (fun d => d.parameters.length) = some 1 := by decide +kernel
theorem q_Md_join : (parseMethodDescriptor y_Md_join.desc).map (fun d => d.parameters.length) = some 2 := by decide +kernel
theorem q_Md_keep : (parseMethodDescriptor y_Md_keep.desc).map (fun d => d.parameters.length) = some 3 := by decide +kernel
theorem q_Md_lay : (parseMethodDescriptor y_Md_lay.desc).map (fun d => d.parameters.length) = some 5 := by decide +kernel
theorem q_Md_length : (parseMethodDescriptor y_Md_length.desc).map (fun d => d.parameters.length) = some 1 := by decide +kernel
theorem q_Md_loop : (parseMethodDescriptor y_Md_loop.desc).map (fun d => d.parameters.length) = some 3 := by decide +kernel
theorem q_Md_many : (parseMethodDescriptor y_Md_many.desc).map (fun d => d.parameters.length) = some 1 := by decide +kernel
theorem q_Md_needsOpen : (parseMethodDescriptor y_Md_needsOpen.desc).map (fun d => d.parameters.length) = some 1 := by decide +kernel
theorem q_Md_next : (parseMethodDescriptor y_Md_next.desc).map (fun d => d.parameters.length) = some 3 := by decide +kernel
theorem q_Md_output : (parseMethodDescriptor y_Md_output.desc).map (fun d => d.parameters.length) = some 2 := by decide +kernel
theorem q_Md_outputsAndResult : (parseMethodDescriptor y_Md_outputsAndResult.desc).map (fun d => d.parameters.length) = some 0 := by decide +kernel
theorem q_Md_point : (parseMethodDescriptor y_Md_point.desc).map (fun d => d.parameters.length) = some 2 := by decide +kernel
theorem q_Md_put : (parseMethodDescriptor y_Md_put.desc).map (fun d => d.parameters.length) = some 4 := by decide +kernel
theorem q_Md_read : (parseMethodDescriptor y_Md_read.desc).map (fun d => d.parameters.length) = some 3 := by decide +kernel
theorem q_Md_result : (parseMethodDescriptor y_Md_result.desc).map (fun d => d.parameters.length) = some 2 := by decide +kernel
theorem q_Md_rowAt : (parseMethodDescriptor y_Md_rowAt.desc).map (fun d => d.parameters.length) = some 1 := by decide +kernel
theorem q_Md_rowFrom : (parseMethodDescriptor y_Md_rowFrom.desc).map (fun d => d.parameters.length) = some 3 := by decide +kernel
theorem q_Md_rowOf : (parseMethodDescriptor y_Md_rowOf.desc).map (fun d => d.parameters.length) = some 2 := by decide +kernel
theorem q_Md_run : (parseMethodDescriptor y_Md_run.desc).map (fun d => d.parameters.length) = some 1 := by decide +kernel
theorem q_Md_seeker : (parseMethodDescriptor y_Md_seeker.desc).map (fun d => d.parameters.length) = some 1 := by decide +kernel
theorem q_Md_set : (parseMethodDescriptor y_Md_set.desc).map (fun d => d.parameters.length) = some 3 := by decide +kernel
theorem q_Md_sound : (parseMethodDescriptor y_Md_sound.desc).map (fun d => d.parameters.length) = some 0 := by decide +kernel
theorem q_Md_step : (parseMethodDescriptor y_Md_step.desc).map (fun d => d.parameters.length) = some 0 := by decide +kernel
theorem q_Md_table : (parseMethodDescriptor y_Md_table.desc).map (fun d => d.parameters.length) = some 1 := by decide +kernel
theorem q_Md_tableOf : (parseMethodDescriptor y_Md_tableOf.desc).map (fun d => d.parameters.length) = some 1 := by decide +kernel
theorem q_Md_take : (parseMethodDescriptor y_Md_take.desc).map (fun d => d.parameters.length) = some 1 := by decide +kernel
theorem q_Md_thrown : (parseMethodDescriptor y_Md_thrown.desc).map (fun d => d.parameters.length) = some 0 := by decide +kernel
theorem q_Md_value : (parseMethodDescriptor y_Md_value.desc).map (fun d => d.parameters.length) = some 3 := by decide +kernel
theorem q_Md_wasNull : (parseMethodDescriptor y_Md_wasNull.desc).map (fun d => d.parameters.length) = some 2 := by decide +kernel
theorem q_Md_wipe : (parseMethodDescriptor y_Md_wipe.desc).map (fun d => d.parameters.length) = some 0 := by decide +kernel
theorem q_Md_withCursor : (parseMethodDescriptor y_Md_withCursor.desc).map (fun d => d.parameters.length) = some 4 := by decide +kernel
theorem q_Md_without : (parseMethodDescriptor y_Md_without.desc).map (fun d => d.parameters.length) = some 4 := by decide +kernel
theorem q_NSEE_init : (parseMethodDescriptor y_NSEE_init.desc).map (fun d => d.parameters.length) = some 0 := by decide +kernel
theorem q_Object_init : (parseMethodDescriptor y_Object_init.desc).map (fun d => d.parameters.length) = some 0 := by decide +kernel
theorem q_Op_values : (parseMethodDescriptor y_Op_values.desc).map (fun d => d.parameters.length) = some 0 := by decide +kernel
theorem q_Pg_cells : (parseMethodDescriptor y_Pg_cells.desc).map (fun d => d.parameters.length) = some 1 := by decide +kernel
theorem q_Pg_fresh : (parseMethodDescriptor y_Pg_fresh.desc).map (fun d => d.parameters.length) = some 0 := by decide +kernel
theorem q_Pg_giveBack : (parseMethodDescriptor y_Pg_giveBack.desc).map (fun d => d.parameters.length) = some 1 := by decide +kernel
theorem q_Pg_head : (parseMethodDescriptor y_Pg_head.desc).map (fun d => d.parameters.length) = some 3 := by decide +kernel
theorem q_Pg_init : (parseMethodDescriptor y_Pg_init.desc).map (fun d => d.parameters.length) = some 0 := by decide +kernel
theorem q_Pg_isLeaf : (parseMethodDescriptor y_Pg_isLeaf.desc).map (fun d => d.parameters.length) = some 1 := by decide +kernel
theorem q_Pg_open : (parseMethodDescriptor y_Pg_open.desc).map (fun d => d.parameters.length) = some 1 := by decide +kernel
theorem q_Precond_checkIndex : (parseMethodDescriptor y_Precond_checkIndex.desc).map (fun d => d.parameters.length) = some 3 := by decide +kernel
theorem q_Rc_init : (parseMethodDescriptor y_Rc_init.desc).map (fun d => d.parameters.length) = some 0 := by decide +kernel
theorem q_Rc_read : (parseMethodDescriptor y_Rc_read.desc).map (fun d => d.parameters.length) = some 2 := by decide +kernel
theorem q_Rc_write : (parseMethodDescriptor y_Rc_write.desc).map (fun d => d.parameters.length) = some 2 := by decide +kernel
theorem q_RuntimeEx_init : (parseMethodDescriptor y_RuntimeEx_init.desc).map (fun d => d.parameters.length) = some 0 := by decide +kernel
theorem q_String_charAt : (parseMethodDescriptor y_String_charAt.desc).map (fun d => d.parameters.length) = some 1 := by decide +kernel
theorem q_String_checkIndex : (parseMethodDescriptor y_String_checkIndex.desc).map (fun d => d.parameters.length) = some 2 := by decide +kernel
theorem q_String_isLatin1 : (parseMethodDescriptor y_String_isLatin1.desc).map (fun d => d.parameters.length) = some 0 := by decide +kernel
theorem q_TM_add : (parseMethodDescriptor y_TM_add.desc).map (fun d => d.parameters.length) = some 4 := by decide +kernel
theorem q_TM_ask : (parseMethodDescriptor y_TM_ask.desc).map (fun d => d.parameters.length) = some 2 := by decide +kernel
theorem q_TM_asksAll : (parseMethodDescriptor y_TM_asksAll.desc).map (fun d => d.parameters.length) = some 1 := by decide +kernel
theorem q_TM_check : (parseMethodDescriptor y_TM_check.desc).map (fun d => d.parameters.length) = some 1 := by decide +kernel
theorem q_TM_code : (parseMethodDescriptor y_TM_code.desc).map (fun d => d.parameters.length) = some 2 := by decide +kernel
theorem q_TM_column : (parseMethodDescriptor y_TM_column.desc).map (fun d => d.parameters.length) = some 3 := by decide +kernel
theorem q_TM_comes : (parseMethodDescriptor y_TM_comes.desc).map (fun d => d.parameters.length) = some 2 := by decide +kernel
theorem q_TM_compares : (parseMethodDescriptor y_TM_compares.desc).map (fun d => d.parameters.length) = some 3 := by decide +kernel
theorem q_TM_compile : (parseMethodDescriptor y_TM_compile.desc).map (fun d => d.parameters.length) = some 0 := by decide +kernel
theorem q_TM_condition : (parseMethodDescriptor y_TM_condition.desc).map (fun d => d.parameters.length) = some 4 := by decide +kernel
theorem q_TM_count : (parseMethodDescriptor y_TM_count.desc).map (fun d => d.parameters.length) = some 1 := by decide +kernel
theorem q_TM_delete : (parseMethodDescriptor y_TM_delete.desc).map (fun d => d.parameters.length) = some 2 := by decide +kernel
theorem q_TM_demand : (parseMethodDescriptor y_TM_demand.desc).map (fun d => d.parameters.length) = some 1 := by decide +kernel
theorem q_TM_emit : (parseMethodDescriptor y_TM_emit.desc).map (fun d => d.parameters.length) = some 4 := by decide +kernel
theorem q_TM_fetch : (parseMethodDescriptor y_TM_fetch.desc).map (fun d => d.parameters.length) = some 3 := by decide +kernel
theorem q_TM_fits : (parseMethodDescriptor y_TM_fits.desc).map (fun d => d.parameters.length) = some 2 := by decide +kernel
theorem q_TM_init : (parseMethodDescriptor y_TM_init.desc).map (fun d => d.parameters.length) = some 0 := by decide +kernel
theorem q_TM_insert : (parseMethodDescriptor y_TM_insert.desc).map (fun d => d.parameters.length) = some 2 := by decide +kernel
theorem q_TM_isColumn : (parseMethodDescriptor y_TM_isColumn.desc).map (fun d => d.parameters.length) = some 2 := by decide +kernel
theorem q_TM_isNull : (parseMethodDescriptor y_TM_isNull.desc).map (fun d => d.parameters.length) = some 3 := by decide +kernel
theorem q_TM_isSound : (parseMethodDescriptor y_TM_isSound.desc).map (fun d => d.parameters.length) = some 0 := by decide +kernel
theorem q_TM_isTable : (parseMethodDescriptor y_TM_isTable.desc).map (fun d => d.parameters.length) = some 1 := by decide +kernel
theorem q_TM_join : (parseMethodDescriptor y_TM_join.desc).map (fun d => d.parameters.length) = some 2 := by decide +kernel
theorem q_TM_moves : (parseMethodDescriptor y_TM_moves.desc).map (fun d => d.parameters.length) = some 2 := by decide +kernel
theorem q_TM_needsCursor : (parseMethodDescriptor y_TM_needsCursor.desc).map (fun d => d.parameters.length) = some 1 := by decide +kernel
theorem q_TM_next : (parseMethodDescriptor y_TM_next.desc).map (fun d => d.parameters.length) = some 3 := by decide +kernel
theorem q_TM_opens : (parseMethodDescriptor y_TM_opens.desc).map (fun d => d.parameters.length) = some 1 := by decide +kernel
theorem q_TM_orElse : (parseMethodDescriptor y_TM_orElse.desc).map (fun d => d.parameters.length) = some 1 := by decide +kernel
theorem q_TM_output : (parseMethodDescriptor y_TM_output.desc).map (fun d => d.parameters.length) = some 2 := by decide +kernel
theorem q_TM_result : (parseMethodDescriptor y_TM_result.desc).map (fun d => d.parameters.length) = some 2 := by decide +kernel
theorem q_TM_run : (parseMethodDescriptor y_TM_run.desc).map (fun d => d.parameters.length) = some 1 := by decide +kernel
theorem q_TM_set : (parseMethodDescriptor y_TM_set.desc).map (fun d => d.parameters.length) = some 3 := by decide +kernel
theorem q_TM_settle : (parseMethodDescriptor y_TM_settle.desc).map (fun d => d.parameters.length) = some 1 := by decide +kernel
theorem q_TM_step : (parseMethodDescriptor y_TM_step.desc).map (fun d => d.parameters.length) = some 1 := by decide +kernel
theorem q_TM_sum : (parseMethodDescriptor y_TM_sum.desc).map (fun d => d.parameters.length) = some 3 := by decide +kernel
theorem q_TM_table : (parseMethodDescriptor y_TM_table.desc).map (fun d => d.parameters.length) = some 1 := by decide +kernel
theorem q_TM_tell : (parseMethodDescriptor y_TM_tell.desc).map (fun d => d.parameters.length) = some 2 := by decide +kernel
theorem q_TM_tells : (parseMethodDescriptor y_TM_tells.desc).map (fun d => d.parameters.length) = some 0 := by decide +kernel
theorem q_TM_there : (parseMethodDescriptor y_TM_there.desc).map (fun d => d.parameters.length) = some 1 := by decide +kernel
theorem q_TM_value : (parseMethodDescriptor y_TM_value.desc).map (fun d => d.parameters.length) = some 3 := by decide +kernel
theorem q_TM_valueOf : (parseMethodDescriptor y_TM_valueOf.desc).map (fun d => d.parameters.length) = some 3 := by decide +kernel
theorem q_TM_wasNull : (parseMethodDescriptor y_TM_wasNull.desc).map (fun d => d.parameters.length) = some 2 := by decide +kernel
theorem q_TM_wipe : (parseMethodDescriptor y_TM_wipe.desc).map (fun d => d.parameters.length) = some 0 := by decide +kernel
theorem q_TM_works : (parseMethodDescriptor y_TM_works.desc).map (fun d => d.parameters.length) = some 1 := by decide +kernel
theorem q_Throwable_fillInStackTrace : (parseMethodDescriptor y_Throwable_fillInStackTrace.desc).map (fun d => d.parameters.length) = some 0 := by decide +kernel
theorem q_Throwable_init : (parseMethodDescriptor y_Throwable_init.desc).map (fun d => d.parameters.length) = some 0 := by decide +kernel
theorem q_Tp_copy : (parseMethodDescriptor y_Tp_copy.desc).map (fun d => d.parameters.length) = some 3 := by decide +kernel
theorem q_Tp_init : (parseMethodDescriptor y_Tp_init.desc).map (fun d => d.parameters.length) = some 1 := by decide +kernel
theorem q_Tp_number : (parseMethodDescriptor y_Tp_number.desc).map (fun d => d.parameters.length) = some 1 := by decide +kernel
theorem q_Tp_one : (parseMethodDescriptor y_Tp_one.desc).map (fun d => d.parameters.length) = some 1 := by decide +kernel
theorem q_Tp_take : (parseMethodDescriptor y_Tp_take.desc).map (fun d => d.parameters.length) = some 0 := by decide +kernel
theorem q_Tp_takeNumber : (parseMethodDescriptor y_Tp_takeNumber.desc).map (fun d => d.parameters.length) = some 0 := by decide +kernel
theorem q_Tr_above : (parseMethodDescriptor y_Tr_above.desc).map (fun d => d.parameters.length) = some 2 := by decide +kernel
theorem q_Tr_become : (parseMethodDescriptor y_Tr_become.desc).map (fun d => d.parameters.length) = some 2 := by decide +kernel
theorem q_Tr_childAt : (parseMethodDescriptor y_Tr_childAt.desc).map (fun d => d.parameters.length) = some 2 := by decide +kernel
theorem q_Tr_childFor : (parseMethodDescriptor y_Tr_childFor.desc).map (fun d => d.parameters.length) = some 2 := by decide +kernel
theorem q_Tr_fill : (parseMethodDescriptor y_Tr_fill.desc).map (fun d => d.parameters.length) = some 5 := by decide +kernel
theorem q_Tr_find : (parseMethodDescriptor y_Tr_find.desc).map (fun d => d.parameters.length) = some 1 := by decide +kernel
theorem q_Tr_first : (parseMethodDescriptor y_Tr_first.desc).map (fun d => d.parameters.length) = some 0 := by decide +kernel
theorem q_Tr_has : (parseMethodDescriptor y_Tr_has.desc).map (fun d => d.parameters.length) = some 1 := by decide +kernel
theorem q_Tr_init : (parseMethodDescriptor y_Tr_init.desc).map (fun d => d.parameters.length) = some 2 := by decide +kernel
theorem q_Tr_key : (parseMethodDescriptor y_Tr_key.desc).map (fun d => d.parameters.length) = some 0 := by decide +kernel
theorem q_Tr_lead : (parseMethodDescriptor y_Tr_lead.desc).map (fun d => d.parameters.length) = some 3 := by decide +kernel
theorem q_Tr_leaf : (parseMethodDescriptor y_Tr_leaf.desc).map (fun d => d.parameters.length) = some 0 := by decide +kernel
theorem q_Tr_nextLeaf : (parseMethodDescriptor y_Tr_nextLeaf.desc).map (fun d => d.parameters.length) = some 0 := by decide +kernel
theorem q_Tr_part : (parseMethodDescriptor y_Tr_part.desc).map (fun d => d.parameters.length) = some 2 := by decide +kernel
theorem q_Tr_pass : (parseMethodDescriptor y_Tr_pass.desc).map (fun d => d.parameters.length) = some 2 := by decide +kernel
theorem q_Tr_place : (parseMethodDescriptor y_Tr_place.desc).map (fun d => d.parameters.length) = some 2 := by decide +kernel
theorem q_Tr_prune : (parseMethodDescriptor y_Tr_prune.desc).map (fun d => d.parameters.length) = some 0 := by decide +kernel
theorem q_Tr_raise : (parseMethodDescriptor y_Tr_raise.desc).map (fun d => d.parameters.length) = some 2 := by decide +kernel
theorem q_Tr_read : (parseMethodDescriptor y_Tr_read.desc).map (fun d => d.parameters.length) = some 2 := by decide +kernel
theorem q_Tr_remove : (parseMethodDescriptor y_Tr_remove.desc).map (fun d => d.parameters.length) = some 1 := by decide +kernel
theorem q_Tr_seek : (parseMethodDescriptor y_Tr_seek.desc).map (fun d => d.parameters.length) = some 2 := by decide +kernel
theorem q_Tr_size : (parseMethodDescriptor y_Tr_size.desc).map (fun d => d.parameters.length) = some 1 := by decide +kernel
theorem q_Tr_splitLeaf : (parseMethodDescriptor y_Tr_splitLeaf.desc).map (fun d => d.parameters.length) = some 2 := by decide +kernel
theorem q_Tr_widen : (parseMethodDescriptor y_Tr_widen.desc).map (fun d => d.parameters.length) = some 4 := by decide +kernel
theorem q_Tr_without : (parseMethodDescriptor y_Tr_without.desc).map (fun d => d.parameters.length) = some 2 := by decide +kernel
theorem q_UTF16_charAt : (parseMethodDescriptor y_UTF16_charAt.desc).map (fun d => d.parameters.length) = some 2 := by decide +kernel
theorem q_UTF16_checkIndex : (parseMethodDescriptor y_UTF16_checkIndex.desc).map (fun d => d.parameters.length) = some 2 := by decide +kernel
theorem q_UTF16_getChar : (parseMethodDescriptor y_UTF16_getChar.desc).map (fun d => d.parameters.length) = some 2 := by decide +kernel
theorem q_UTF16_length : (parseMethodDescriptor y_UTF16_length.desc).map (fun d => d.parameters.length) = some 1 := by decide +kernel
theorem q_Vl_init : (parseMethodDescriptor y_Vl_init.desc).map (fun d => d.parameters.length) = some 0 := by decide +kernel
theorem q_Vl_like : (parseMethodDescriptor y_Vl_like.desc).map (fun d => d.parameters.length) = some 1 := by decide +kernel
theorem q_Vl_none : (parseMethodDescriptor y_Vl_none.desc).map (fun d => d.parameters.length) = some 0 := by decide +kernel
theorem q_Vl_to : (parseMethodDescriptor y_Vl_to.desc).map (fun d => d.parameters.length) = some 1 := by decide +kernel
