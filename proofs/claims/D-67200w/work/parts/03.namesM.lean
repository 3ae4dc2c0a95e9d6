set_option maxRecDepth 100000
/-! CouncilStoreModel -/
def RX16 : String := "CouncilStoreModel"
def TX16 : u_T := fun k => match k with
  | 0 => ("CouncilStoreModel", "thrown", "I", false)
  | 1 => ("CouncilStoreModel", "input", "[B", true)
  | 2 => ("CouncilStoreModel", "first", "[B", true)
  | 3 => ("CouncilStoreModel", "second", "[B", true)
  | 4 => ("CouncilStoreModel", "inputSize", "I", false)
  | 5 => ("CouncilStoreModel", "firstSize", "I", false)
  | 6 => ("CouncilStoreModel", "secondSize", "I", false)
  | 7 => ("CouncilStoreModel", "arguments", "I", false)
  | 8 => ("CouncilStoreModel", "madeTerm", "[I", true)
  | 9 => ("CouncilStoreModel", "conditions", "[I", true)
  | 10 => ("CouncilStoreModel", "thens", "[I", true)
  | 11 => ("CouncilStoreModel", "elses", "[I", true)
  | 12 => ("CouncilStoreModel", "sort", "[I", true)
  | 13 => ("CouncilStoreModel", "how", "[I", true)
  | 14 => ("CouncilStoreModel", "number", "[I", true)
  | 15 => ("CouncilStoreModel", "keyAt", "[I", true)
  | 16 => ("CouncilStoreModel", "keyLong", "[I", true)
  | 17 => ("CouncilStoreModel", "valueAt", "[I", true)
  | 18 => ("CouncilStoreModel", "valueLong", "[I", true)
  | 19 => ("CouncilStoreModel", "bytes", "[B", true)
  | 20 => ("CouncilStoreModel", "made", "I", false)
  | 21 => ("CouncilStoreModel", "byteMany", "I", false)
  | 22 => ("CouncilStoreModel", "draftBytes", "I", false)
  | 23 => ("CouncilStoreModel", "draft", "[B", true)
  | 24 => ("CouncilStoreModel", "chainBefore", "[I", true)
  | 25 => ("CouncilStoreModel", "chainMade", "[I", true)
  | 26 => ("CouncilStoreModel", "chainIndex", "[I", true)
  | 27 => ("CouncilStoreModel", "chains", "I", false)
  | 28 => ("CouncilStoreModel", "firstApplied", "[I", true)
  | 29 => ("CouncilStoreModel", "nodes", "I", false)
  | 30 => ("CouncilStoreModel", "down", "[Z", true)
  | 31 => ("CouncilStoreModel", "term", "[I", true)
  | 32 => ("CouncilStoreModel", "vote", "[I", true)
  | 33 => ("CouncilStoreModel", "base", "[I", true)
  | 34 => ("CouncilStoreModel", "baseTerm", "[I", true)
  | 35 => ("CouncilStoreModel", "snap", "[I", true)
  | 36 => ("CouncilStoreModel", "last", "[I", true)
  | 37 => ("CouncilStoreModel", "log", "[[I", true)
  | 38 => ("CouncilStoreModel", "dTerm", "[I", true)
  | 39 => ("CouncilStoreModel", "dVote", "[I", true)
  | 40 => ("CouncilStoreModel", "dBase", "[I", true)
  | 41 => ("CouncilStoreModel", "dBaseTerm", "[I", true)
  | 42 => ("CouncilStoreModel", "dSnap", "[I", true)
  | 43 => ("CouncilStoreModel", "dLast", "[I", true)
  | 44 => ("CouncilStoreModel", "dLog", "[[I", true)
  | 45 => ("CouncilStoreModel", "role", "[I", true)
  | 46 => ("CouncilStoreModel", "leader", "[I", true)
  | 47 => ("CouncilStoreModel", "commit", "[I", true)
  | 48 => ("CouncilStoreModel", "chain", "[I", true)
  | 49 => ("CouncilStoreModel", "since", "[I", true)
  | 50 => ("CouncilStoreModel", "compacted", "[I", true)
  | 51 => ("CouncilStoreModel", "round", "[I", true)
  | 52 => ("CouncilStoreModel", "mine", "[I", true)
  | 53 => ("CouncilStoreModel", "next", "[[I", true)
  | 54 => ("CouncilStoreModel", "match", "[[I", true)
  | 55 => ("CouncilStoreModel", "confirmed", "[[I", true)
  | 56 => ("CouncilStoreModel", "granted", "[[Z", true)
  | 57 => ("CouncilStoreModel", "recNode", "[I", true)
  | 58 => ("CouncilStoreModel", "recSort", "[I", true)
  | 59 => ("CouncilStoreModel", "recA", "[I", true)
  | 60 => ("CouncilStoreModel", "recB", "[I", true)
  | 61 => ("CouncilStoreModel", "recC", "[I", true)
  | 62 => ("CouncilStoreModel", "records", "I", false)
  | 63 => ("CouncilStoreModel", "waiting", "[I", true)
  | 64 => ("CouncilStoreModel", "mSort", "[I", true)
  | 65 => ("CouncilStoreModel", "mFrom", "[I", true)
  | 66 => ("CouncilStoreModel", "mTo", "[I", true)
  | 67 => ("CouncilStoreModel", "mTerm", "[I", true)
  | 68 => ("CouncilStoreModel", "mA", "[I", true)
  | 69 => ("CouncilStoreModel", "mB", "[I", true)
  | 70 => ("CouncilStoreModel", "mMany", "[I", true)
  | 71 => ("CouncilStoreModel", "mRound", "[I", true)
  | 72 => ("CouncilStoreModel", "mCommit", "[I", true)
  | 73 => ("CouncilStoreModel", "mChain", "[I", true)
  | 74 => ("CouncilStoreModel", "mEntry", "[I", true)
  | 75 => ("CouncilStoreModel", "messages", "I", false)
  | 76 => ("CouncilStoreModel", "lost", "I", false)
  | 77 => ("CouncilStoreModel", "net", "[I", true)
  | 78 => ("CouncilStoreModel", "netMany", "I", false)
  | 79 => ("CouncilStoreModel", "out", "[I", true)
  | 80 => ("CouncilStoreModel", "outNode", "[I", true)
  | 81 => ("CouncilStoreModel", "outs", "I", false)
  | 82 => ("CouncilStoreModel", "readNode", "[I", true)
  | 83 => ("CouncilStoreModel", "readNumber", "[I", true)
  | 84 => ("CouncilStoreModel", "readAs", "[I", true)
  | 85 => ("CouncilStoreModel", "readRound", "[I", true)
  | 86 => ("CouncilStoreModel", "readKeyLong", "[I", true)
  | 87 => ("CouncilStoreModel", "readDone", "[Z", true)
  | 88 => ("CouncilStoreModel", "readIs", "[I", true)
  | 89 => ("CouncilStoreModel", "readChanged", "[I", true)
  | 90 => ("CouncilStoreModel", "readVersion", "[I", true)
  | 91 => ("CouncilStoreModel", "readRevision", "[I", true)
  | 92 => ("CouncilStoreModel", "readKey", "[B", true)
  | 93 => ("CouncilStoreModel", "reads", "I", false)
  | 94 => ("CouncilStoreModel", "readMany", "[I", true)
  | 95 => ("CouncilStoreModel", "leaderOf", "[I", true)
  | 96 => ("CouncilStoreModel", "never", "I", false)
  | 97 => ("CouncilStoreModel", "pKey", "[I", true)
  | 98 => ("CouncilStoreModel", "pKeyLong", "[I", true)
  | 99 => ("CouncilStoreModel", "pValue", "[I", true)
  | 100 => ("CouncilStoreModel", "pValueLong", "[I", true)
  | 101 => ("CouncilStoreModel", "pCreated", "[I", true)
  | 102 => ("CouncilStoreModel", "pChanged", "[I", true)
  | 103 => ("CouncilStoreModel", "pVersion", "[I", true)
  | 104 => ("CouncilStoreModel", "pLease", "[I", true)
  | 105 => ("CouncilStoreModel", "leases", "[Z", true)
  | 106 => ("CouncilStoreModel", "leasesWere", "[Z", true)
  | 107 => ("CouncilStoreModel", "pairs", "I", false)
  | 108 => ("CouncilStoreModel", "revision", "I", false)
  | 109 => ("CouncilStoreModel", "was", "[[I", true)
  | 110 => ("CouncilStoreModel", "wasPairs", "I", false)
  | 111 => ("CouncilStoreModel", "outcome", "I", false)
  | 112 => ("CouncilStoreModel", "deleted", "I", false)
  | 113 => ("CouncilStoreModel", "touched", "Z", false)
  | 114 => ("CouncilStoreModel", "way", "[I", true)
  | 115 => ("CouncilStoreModel", "greatest", "I", false)
  | 116 => ("CouncilStoreModel", "eKey", "[I", true)
  | 117 => ("CouncilStoreModel", "eKeyLong", "[I", true)
  | 118 => ("CouncilStoreModel", "eGone", "[Z", true)
  | 119 => ("CouncilStoreModel", "old", "[[I", true)
  | 120 => ("CouncilStoreModel", "oldPairs", "I", false)
  | _ => ("CouncilStoreModel", "events", "I", false)
def tyX16 : Nat → FieldType := fun k => match k with
  | 0 => .int
  | 1 => .array .byte
  | 2 => .array .byte
  | 3 => .array .byte
  | 4 => .int
  | 5 => .int
  | 6 => .int
  | 7 => .int
  | 8 => .array .int
  | 9 => .array .int
  | 10 => .array .int
  | 11 => .array .int
  | 12 => .array .int
  | 13 => .array .int
  | 14 => .array .int
  | 15 => .array .int
  | 16 => .array .int
  | 17 => .array .int
  | 18 => .array .int
  | 19 => .array .byte
  | 20 => .int
  | 21 => .int
  | 22 => .int
  | 23 => .array .byte
  | 24 => .array .int
  | 25 => .array .int
  | 26 => .array .int
  | 27 => .int
  | 28 => .array .int
  | 29 => .int
  | 30 => .array .boolean
  | 31 => .array .int
  | 32 => .array .int
  | 33 => .array .int
  | 34 => .array .int
  | 35 => .array .int
  | 36 => .array .int
  | 37 => .array (.array .int)
  | 38 => .array .int
  | 39 => .array .int
  | 40 => .array .int
  | 41 => .array .int
  | 42 => .array .int
  | 43 => .array .int
  | 44 => .array (.array .int)
  | 45 => .array .int
  | 46 => .array .int
  | 47 => .array .int
  | 48 => .array .int
  | 49 => .array .int
  | 50 => .array .int
  | 51 => .array .int
  | 52 => .array .int
  | 53 => .array (.array .int)
  | 54 => .array (.array .int)
  | 55 => .array (.array .int)
  | 56 => .array (.array .boolean)
  | 57 => .array .int
  | 58 => .array .int
  | 59 => .array .int
  | 60 => .array .int
  | 61 => .array .int
  | 62 => .int
  | 63 => .array .int
  | 64 => .array .int
  | 65 => .array .int
  | 66 => .array .int
  | 67 => .array .int
  | 68 => .array .int
  | 69 => .array .int
  | 70 => .array .int
  | 71 => .array .int
  | 72 => .array .int
  | 73 => .array .int
  | 74 => .array .int
  | 75 => .int
  | 76 => .int
  | 77 => .array .int
  | 78 => .int
  | 79 => .array .int
  | 80 => .array .int
  | 81 => .int
  | 82 => .array .int
  | 83 => .array .int
  | 84 => .array .int
  | 85 => .array .int
  | 86 => .array .int
  | 87 => .array .boolean
  | 88 => .array .int
  | 89 => .array .int
  | 90 => .array .int
  | 91 => .array .int
  | 92 => .array .byte
  | 93 => .int
  | 94 => .array .int
  | 95 => .array .int
  | 96 => .int
  | 97 => .array .int
  | 98 => .array .int
  | 99 => .array .int
  | 100 => .array .int
  | 101 => .array .int
  | 102 => .array .int
  | 103 => .array .int
  | 104 => .array .int
  | 105 => .array .boolean
  | 106 => .array .boolean
  | 107 => .int
  | 108 => .int
  | 109 => .array (.array .int)
  | 110 => .int
  | 111 => .int
  | 112 => .int
  | 113 => .boolean
  | 114 => .array .int
  | 115 => .int
  | 116 => .array .int
  | 117 => .array .int
  | 118 => .array .boolean
  | 119 => .array (.array .int)
  | 120 => .int
  | _ => .int
abbrev wsX160 : List Cond := u_ws RX16 TX16 122
theorem nmX16 : ∀ a, a < 122 → ∀ b, b < 122 → a ≠ b → (TX16 a).2.1 ≠ (TX16 b).2.1 := by decide +kernel
theorem tyX16_ok : ∀ k, k < 122 → parseFieldDescriptor (TX16 k).2.2.1 = some (tyX16 k) := by decide +kernel
abbrev cX16_init : ByteArray := prog_19_method_1_code
def yX16_init : MethodName := ⟨RX16, "<init>", "()V"⟩
abbrev cX16_thrown : ByteArray := prog_19_method_2_code
def yX16_thrown : MethodName := ⟨RX16, "thrown", "()I"⟩
abbrev cX16_nodes : ByteArray := prog_19_method_4_code
def yX16_nodes : MethodName := ⟨RX16, "nodes", "(I)V"⟩
abbrev cX16_clearDraft : ByteArray := prog_19_method_5_code
def yX16_clearDraft : MethodName := ⟨RX16, "clearDraft", "()V"⟩
abbrev cX16_begin : ByteArray := prog_19_method_6_code
def yX16_begin : MethodName := ⟨RX16, "begin", "(I)V"⟩
abbrev cX16_feed : ByteArray := prog_19_method_7_code
def yX16_feed : MethodName := ⟨RX16, "feed", "(IIIII)I"⟩
abbrev cX16_no : ByteArray := prog_19_method_3_code
def yX16_no : MethodName := ⟨RX16, "no", "(I)I"⟩
abbrev cX16_end : ByteArray := prog_19_method_8_code
def yX16_end : MethodName := ⟨RX16, "end", "(I)I"⟩
abbrev cX16_when : ByteArray := prog_19_method_13_code
def yX16_when : MethodName := ⟨RX16, "when", "(III)V"⟩
abbrev cX16_taken : ByteArray := prog_19_method_9_code
def yX16_taken : MethodName := ⟨RX16, "taken", "()I"⟩
abbrev cX16_isKey : ByteArray := prog_19_method_10_code
def yX16_isKey : MethodName := ⟨RX16, "isKey", "(I)Z"⟩
abbrev cX16_part : ByteArray := prog_19_method_12_code
def yX16_part : MethodName := ⟨RX16, "part", "(IIIIII)V"⟩
abbrev cX16_keep : ByteArray := prog_19_method_11_code
def yX16_keep : MethodName := ⟨RX16, "keep", "([BI)I"⟩
abbrev cX16_put : ByteArray := prog_19_method_15_code
def yX16_put : MethodName := ⟨RX16, "put", "(II)V"⟩
abbrev cX16_step : ByteArray := prog_19_method_14_code
def yX16_step : MethodName := ⟨RX16, "step", "(IIIII)V"⟩
abbrev cX16_erase : ByteArray := prog_19_method_16_code
def yX16_erase : MethodName := ⟨RX16, "erase", "(I)V"⟩
abbrev cX16_lease : ByteArray := prog_19_method_17_code
def yX16_lease : MethodName := ⟨RX16, "lease", "(IIZ)V"⟩
abbrev cX16_forget : ByteArray := prog_19_method_18_code
def yX16_forget : MethodName := ⟨RX16, "forget", "()V"⟩
abbrev cX16_propose : ByteArray := prog_19_method_62_code
def yX16_propose : MethodName := ⟨RX16, "propose", "(I)I"⟩
abbrev cX16_up : ByteArray := prog_19_method_61_code
def yX16_up : MethodName := ⟨RX16, "up", "(I)Z"⟩
abbrev cX16_fromDraft : ByteArray := prog_19_method_19_code
def yX16_fromDraft : MethodName := ⟨RX16, "fromDraft", "(I)I"⟩
abbrev cX16_add : ByteArray := prog_19_method_39_code
def yX16_add : MethodName := ⟨RX16, "add", "(III)V"⟩
abbrev cX16_record : ByteArray := prog_19_method_36_code
def yX16_record : MethodName := ⟨RX16, "record", "(IIIII)V"⟩
abbrev cX16_appendAll : ByteArray := prog_19_method_48_code
def yX16_appendAll : MethodName := ⟨RX16, "appendAll", "(I)V"⟩
abbrev cX16_append : ByteArray := prog_19_method_47_code
def yX16_append : MethodName := ⟨RX16, "append", "(II)V"⟩
abbrev cX16_message : ByteArray := prog_19_method_44_code
def yX16_message : MethodName := ⟨RX16, "message", "(III)I"⟩
abbrev cX16_send : ByteArray := prog_19_method_45_code
def yX16_send : MethodName := ⟨RX16, "send", "(I)V"⟩
abbrev cX16_toNet : ByteArray := prog_19_method_43_code
def yX16_toNet : MethodName := ⟨RX16, "toNet", "(I)Z"⟩
abbrev cX16_termAt : ByteArray := prog_19_method_38_code
def yX16_termAt : MethodName := ⟨RX16, "termAt", "(II)I"⟩
abbrev cX16_rise : ByteArray := prog_19_method_63_code
def yX16_rise : MethodName := ⟨RX16, "rise", "(I)V"⟩
abbrev cX16_vote : ByteArray := prog_19_method_37_code
def yX16_vote : MethodName := ⟨RX16, "vote", "(III)V"⟩
abbrev cX16_lead : ByteArray := prog_19_method_52_code
def yX16_lead : MethodName := ⟨RX16, "lead", "(I)V"⟩
abbrev cX16_empty : ByteArray := prog_19_method_20_code
def yX16_empty : MethodName := ⟨RX16, "empty", "(I)I"⟩
abbrev cX16_beat : ByteArray := prog_19_method_64_code
def yX16_beat : MethodName := ⟨RX16, "beat", "(I)V"⟩
abbrev cX16_sync : ByteArray := prog_19_method_65_code
def yX16_sync : MethodName := ⟨RX16, "sync", "(I)I"⟩
abbrev cX16_toDisk : ByteArray := prog_19_method_42_code
def yX16_toDisk : MethodName := ⟨RX16, "toDisk", "(II)V"⟩
abbrev cX16_onDisk : ByteArray := prog_19_method_41_code
def yX16_onDisk : MethodName := ⟨RX16, "onDisk", "(I)V"⟩
abbrev cX16_lookForCommit : ByteArray := prog_19_method_54_code
def yX16_lookForCommit : MethodName := ⟨RX16, "lookForCommit", "(I)V"⟩
abbrev cX16_applyTo : ByteArray := prog_19_method_51_code
def yX16_applyTo : MethodName := ⟨RX16, "applyTo", "(II)V"⟩
abbrev cX16_extend : ByteArray := prog_19_method_35_code
def yX16_extend : MethodName := ⟨RX16, "extend", "(II)I"⟩
abbrev cX16_crash : ByteArray := prog_19_method_66_code
def yX16_crash : MethodName := ⟨RX16, "crash", "(II)V"⟩
abbrev cX16_leave : ByteArray := prog_19_method_49_code
def yX16_leave : MethodName := ⟨RX16, "leave", "(II)V"⟩
abbrev cX16_start : ByteArray := prog_19_method_67_code
def yX16_start : MethodName := ⟨RX16, "start", "(I)V"⟩
abbrev cX16_deliver : ByteArray := prog_19_method_68_code
def yX16_deliver : MethodName := ⟨RX16, "deliver", "(IZ)V"⟩
abbrev cX16_grants : ByteArray := prog_19_method_53_code
def yX16_grants : MethodName := ⟨RX16, "grants", "(I)I"⟩
abbrev cX16_drop : ByteArray := prog_19_method_69_code
def yX16_drop : MethodName := ⟨RX16, "drop", "(I)V"⟩
abbrev cX16_newer : ByteArray := prog_19_method_50_code
def yX16_newer : MethodName := ⟨RX16, "newer", "(II)V"⟩
abbrev cX16_asked : ByteArray := prog_19_method_56_code
def yX16_asked : MethodName := ⟨RX16, "asked", "(II)V"⟩
abbrev cX16_answered : ByteArray := prog_19_method_58_code
def yX16_answered : MethodName := ⟨RX16, "answered", "(II)V"⟩
abbrev cX16_appended : ByteArray := prog_19_method_57_code
def yX16_appended : MethodName := ⟨RX16, "appended", "(II)V"⟩
abbrev cX16_taken_2 : ByteArray := prog_19_method_46_code
def yX16_taken_2 : MethodName := ⟨RX16, "taken", "(IIZII)V"⟩
abbrev cX16_tookIn : ByteArray := prog_19_method_59_code
def yX16_tookIn : MethodName := ⟨RX16, "tookIn", "(II)V"⟩
abbrev cX16_lookAtReads : ByteArray := prog_19_method_55_code
def yX16_lookAtReads : MethodName := ⟨RX16, "lookAtReads", "(I)V"⟩
abbrev cX16_now : ByteArray := prog_19_method_34_code
def yX16_now : MethodName := ⟨RX16, "now", "(I)V"⟩
abbrev cX16_store : ByteArray := prog_19_method_33_code
def yX16_store : MethodName := ⟨RX16, "store", "(III)V"⟩
abbrev cX16_remember : ByteArray := prog_19_method_25_code
def yX16_remember : MethodName := ⟨RX16, "remember", "()V"⟩
abbrev cX16_field : ByteArray := prog_19_method_24_code
def yX16_field : MethodName := ⟨RX16, "field", "(I)[I"⟩
abbrev cX16_apply : ByteArray := prog_19_method_32_code
def yX16_apply : MethodName := ⟨RX16, "apply", "(I)V"⟩
abbrev cX16_holds : ByteArray := prog_19_method_28_code
def yX16_holds : MethodName := ⟨RX16, "holds", "(I)Z"⟩
abbrev cX16_findPair : ByteArray := prog_19_method_22_code
def yX16_findPair : MethodName := ⟨RX16, "findPair", "([BII)I"⟩
abbrev cX16_compare : ByteArray := prog_19_method_21_code
def yX16_compare : MethodName := ⟨RX16, "compare", "([BII[BII)I"⟩
abbrev cX16_does : ByteArray := prog_19_method_29_code
def yX16_does : MethodName := ⟨RX16, "does", "(I)Z"⟩
abbrev cX16_puts : ByteArray := prog_19_method_31_code
def yX16_puts : MethodName := ⟨RX16, "puts", "(II)Z"⟩
abbrev cX16_inRange : ByteArray := prog_19_method_23_code
def yX16_inRange : MethodName := ⟨RX16, "inRange", "(I[BII[BII)Z"⟩
abbrev cX16_gone : ByteArray := prog_19_method_30_code
def yX16_gone : MethodName := ⟨RX16, "gone", "(I)V"⟩
abbrev cX16_remove : ByteArray := prog_19_method_27_code
def yX16_remove : MethodName := ⟨RX16, "remove", "(I)V"⟩
abbrev cX16_back : ByteArray := prog_19_method_26_code
def yX16_back : MethodName := ⟨RX16, "back", "()V"⟩
abbrev cX16_stated : ByteArray := prog_19_method_60_code
def yX16_stated : MethodName := ⟨RX16, "stated", "(II)V"⟩
abbrev cX16_snapshot : ByteArray := prog_19_method_40_code
def yX16_snapshot : MethodName := ⟨RX16, "snapshot", "(IIII)V"⟩
abbrev cX16_lose : ByteArray := prog_19_method_70_code
def yX16_lose : MethodName := ⟨RX16, "lose", "(I)V"⟩
abbrev cX16_snapshot_2 : ByteArray := prog_19_method_71_code
def yX16_snapshot_2 : MethodName := ⟨RX16, "snapshot", "(I)I"⟩
abbrev cX16_read : ByteArray := prog_19_method_73_code
def yX16_read : MethodName := ⟨RX16, "read", "(I)I"⟩
abbrev cX16_readsWaiting : ByteArray := prog_19_method_72_code
def yX16_readsWaiting : MethodName := ⟨RX16, "readsWaiting", "(I)I"⟩
abbrev cX16_answer : ByteArray := prog_19_method_74_code
def yX16_answer : MethodName := ⟨RX16, "answer", "(III)I"⟩
abbrev cX16_pair : ByteArray := prog_19_method_76_code
def yX16_pair : MethodName := ⟨RX16, "pair", "(III)I"⟩
abbrev cX16_at : ByteArray := prog_19_method_75_code
def yX16_at : MethodName := ⟨RX16, "at", "(IIII)I"⟩
abbrev cX16_range : ByteArray := prog_19_method_77_code
def yX16_range : MethodName := ⟨RX16, "range", "(IIIII)I"⟩
abbrev cX16_event : ByteArray := prog_19_method_81_code
def yX16_event : MethodName := ⟨RX16, "event", "(IIIII)I"⟩
abbrev cX16_history : ByteArray := prog_19_method_80_code
def yX16_history : MethodName := ⟨RX16, "history", "(II)V"⟩
abbrev cX16_event_2 : ByteArray := prog_19_method_79_code
def yX16_event_2 : MethodName := ⟨RX16, "event", "(IIZ)V"⟩
abbrev cX16_sameOld : ByteArray := prog_19_method_78_code
def yX16_sameOld : MethodName := ⟨RX16, "sameOld", "(II)Z"⟩
abbrev cX16_compact : ByteArray := prog_19_method_82_code
def yX16_compact : MethodName := ⟨RX16, "compact", "(II)V"⟩
abbrev cX16_outcome : ByteArray := prog_19_method_83_code
def yX16_outcome : MethodName := ⟨RX16, "outcome", "(III)I"⟩
abbrev cX16_message_2 : ByteArray := prog_19_method_84_code
def yX16_message_2 : MethodName := ⟨RX16, "message", "(II)I"⟩
abbrev cX16_told : ByteArray := prog_19_method_86_code
def yX16_told : MethodName := ⟨RX16, "told", "(II)I"⟩
abbrev cX16_toldDown : ByteArray := prog_19_method_85_code
def yX16_toldDown : MethodName := ⟨RX16, "toldDown", "(II)I"⟩
abbrev cX16_count : ByteArray := prog_19_method_87_code
def yX16_count : MethodName := ⟨RX16, "count", "(I)I"⟩
theorem q117 : (Jvm.Cond.initialized "CouncilStoreModel") ∈ lw_all := lw_g (lw_at lw_m1 17 rfl) rfl
theorem q1661 : (Jvm.Cond.instantiable "CouncilStoreModel" (122 : Nat)) ∈ lw_all := lw_g (lw_at lw_m7 121 rfl) rfl
theorem q1663 : (Jvm.Cond.instanceMethod ({ cls := "CouncilStoreModel", name := "<init>", desc := "()V" } : Jvm.MethodName)) ∈ lw_all := lw_g (lw_at lw_m7 123 rfl) rfl
theorem q1664 : (Jvm.Cond.code ({ cls := "CouncilStoreModel", name := "<init>", desc := "()V" } : Jvm.MethodName) prog_19_method_1_code (1 : Nat) (Option.none : Option Jvm.ClassFile.FieldType)) ∈ lw_all := lw_g (lw_at lw_m7 124 rfl) rfl
theorem q1665 : (Jvm.Cond.methodLink "CouncilStoreModel" (3 : Nat) ({ cls := "java/lang/Object", name := "<init>", desc := "()V" } : Jvm.MethodName)) ∈ lw_all := lw_g (lw_at lw_m7 125 rfl) rfl
theorem q1666 : (Jvm.Cond.constant "CouncilStoreModel" (53 : Nat) (44000 : Int32)) ∈ lw_all := lw_g (lw_at lw_m7 126 rfl) rfl
theorem q1667 : (Jvm.Cond.classLink "CouncilStoreModel" (98 : Nat) "[[I") ∈ lw_all := lw_g (lw_at lw_m7 127 rfl) rfl
theorem q1669 : (Jvm.Cond.classLink "CouncilStoreModel" (157 : Nat) "[[Z") ∈ lw_all := lw_g (lw_at lw_m7 129 rfl) rfl
theorem q1671 : (Jvm.Cond.constant "CouncilStoreModel" (162 : Nat) (33000 : Int32)) ∈ lw_all := lw_g (lw_at lw_m7 131 rfl) rfl
theorem q1672 : (Jvm.Cond.constant "CouncilStoreModel" (211 : Nat) (132000 : Int32)) ∈ lw_all := lw_g (lw_at lw_m7 132 rfl) rfl
theorem q1673 : (Jvm.Cond.constant "CouncilStoreModel" (254 : Nat) (134400 : Int32)) ∈ lw_all := lw_g (lw_at lw_m7 133 rfl) rfl
theorem q1674 : (Jvm.Cond.fieldLink "CouncilStoreModel" (312 : Nat) "CouncilStoreModel" "thrown" "I") ∈ lw_all := lw_g (lw_at lw_m7 134 rfl) rfl
theorem q1675 : (Jvm.Cond.fieldLink "CouncilStoreModel" (9 : Nat) "CouncilStoreModel" "input" "[B") ∈ lw_all := lw_g (lw_at lw_m7 135 rfl) rfl
theorem q1676 : (Jvm.Cond.fieldLink "CouncilStoreModel" (13 : Nat) "CouncilStoreModel" "first" "[B") ∈ lw_all := lw_g (lw_at lw_m7 136 rfl) rfl
theorem q1677 : (Jvm.Cond.fieldLink "CouncilStoreModel" (16 : Nat) "CouncilStoreModel" "second" "[B") ∈ lw_all := lw_g (lw_at lw_m7 137 rfl) rfl
theorem q1678 : (Jvm.Cond.fieldLink "CouncilStoreModel" (358 : Nat) "CouncilStoreModel" "inputSize" "I") ∈ lw_all := lw_g (lw_at lw_m7 138 rfl) rfl
theorem q1679 : (Jvm.Cond.fieldLink "CouncilStoreModel" (364 : Nat) "CouncilStoreModel" "firstSize" "I") ∈ lw_all := lw_g (lw_at lw_m7 139 rfl) rfl
theorem q1680 : (Jvm.Cond.fieldLink "CouncilStoreModel" (367 : Nat) "CouncilStoreModel" "secondSize" "I") ∈ lw_all := lw_g (lw_at lw_m7 140 rfl) rfl
theorem q1681 : (Jvm.Cond.fieldLink "CouncilStoreModel" (361 : Nat) "CouncilStoreModel" "arguments" "I") ∈ lw_all := lw_g (lw_at lw_m7 141 rfl) rfl
theorem q1682 : (Jvm.Cond.fieldLink "CouncilStoreModel" (19 : Nat) "CouncilStoreModel" "madeTerm" "[I") ∈ lw_all := lw_g (lw_at lw_m7 142 rfl) rfl
theorem q1683 : (Jvm.Cond.fieldLink "CouncilStoreModel" (23 : Nat) "CouncilStoreModel" "conditions" "[I") ∈ lw_all := lw_g (lw_at lw_m7 143 rfl) rfl
theorem q1684 : (Jvm.Cond.fieldLink "CouncilStoreModel" (26 : Nat) "CouncilStoreModel" "thens" "[I") ∈ lw_all := lw_g (lw_at lw_m7 144 rfl) rfl
theorem q1685 : (Jvm.Cond.fieldLink "CouncilStoreModel" (29 : Nat) "CouncilStoreModel" "elses" "[I") ∈ lw_all := lw_g (lw_at lw_m7 145 rfl) rfl
theorem q1686 : (Jvm.Cond.fieldLink "CouncilStoreModel" (32 : Nat) "CouncilStoreModel" "sort" "[I") ∈ lw_all := lw_g (lw_at lw_m7 146 rfl) rfl
theorem q1687 : (Jvm.Cond.fieldLink "CouncilStoreModel" (35 : Nat) "CouncilStoreModel" "how" "[I") ∈ lw_all := lw_g (lw_at lw_m7 147 rfl) rfl
theorem q1688 : (Jvm.Cond.fieldLink "CouncilStoreModel" (38 : Nat) "CouncilStoreModel" "number" "[I") ∈ lw_all := lw_g (lw_at lw_m7 148 rfl) rfl
theorem q1689 : (Jvm.Cond.fieldLink "CouncilStoreModel" (41 : Nat) "CouncilStoreModel" "keyAt" "[I") ∈ lw_all := lw_g (lw_at lw_m7 149 rfl) rfl
theorem q1690 : (Jvm.Cond.fieldLink "CouncilStoreModel" (44 : Nat) "CouncilStoreModel" "keyLong" "[I") ∈ lw_all := lw_g (lw_at lw_m7 150 rfl) rfl
theorem q1691 : (Jvm.Cond.fieldLink "CouncilStoreModel" (47 : Nat) "CouncilStoreModel" "valueAt" "[I") ∈ lw_all := lw_g (lw_at lw_m7 151 rfl) rfl
theorem q1692 : (Jvm.Cond.fieldLink "CouncilStoreModel" (50 : Nat) "CouncilStoreModel" "valueLong" "[I") ∈ lw_all := lw_g (lw_at lw_m7 152 rfl) rfl
theorem q1693 : (Jvm.Cond.fieldLink "CouncilStoreModel" (54 : Nat) "CouncilStoreModel" "bytes" "[B") ∈ lw_all := lw_g (lw_at lw_m7 153 rfl) rfl
theorem q1694 : (Jvm.Cond.fieldLink "CouncilStoreModel" (318 : Nat) "CouncilStoreModel" "made" "I") ∈ lw_all := lw_g (lw_at lw_m7 154 rfl) rfl
theorem q1695 : (Jvm.Cond.fieldLink "CouncilStoreModel" (321 : Nat) "CouncilStoreModel" "byteMany" "I") ∈ lw_all := lw_g (lw_at lw_m7 155 rfl) rfl
theorem q1696 : (Jvm.Cond.fieldLink "CouncilStoreModel" (355 : Nat) "CouncilStoreModel" "draftBytes" "I") ∈ lw_all := lw_g (lw_at lw_m7 156 rfl) rfl
theorem q1697 : (Jvm.Cond.fieldLink "CouncilStoreModel" (57 : Nat) "CouncilStoreModel" "draft" "[B") ∈ lw_all := lw_g (lw_at lw_m7 157 rfl) rfl
theorem q1698 : (Jvm.Cond.fieldLink "CouncilStoreModel" (60 : Nat) "CouncilStoreModel" "chainBefore" "[I") ∈ lw_all := lw_g (lw_at lw_m7 158 rfl) rfl
theorem q1699 : (Jvm.Cond.fieldLink "CouncilStoreModel" (63 : Nat) "CouncilStoreModel" "chainMade" "[I") ∈ lw_all := lw_g (lw_at lw_m7 159 rfl) rfl
theorem q1700 : (Jvm.Cond.fieldLink "CouncilStoreModel" (66 : Nat) "CouncilStoreModel" "chainIndex" "[I") ∈ lw_all := lw_g (lw_at lw_m7 160 rfl) rfl
theorem q1701 : (Jvm.Cond.fieldLink "CouncilStoreModel" (69 : Nat) "CouncilStoreModel" "chains" "I") ∈ lw_all := lw_g (lw_at lw_m7 161 rfl) rfl
theorem q1702 : (Jvm.Cond.fieldLink "CouncilStoreModel" (73 : Nat) "CouncilStoreModel" "firstApplied" "[I") ∈ lw_all := lw_g (lw_at lw_m7 162 rfl) rfl
theorem q1703 : (Jvm.Cond.fieldLink "CouncilStoreModel" (315 : Nat) "CouncilStoreModel" "nodes" "I") ∈ lw_all := lw_g (lw_at lw_m7 163 rfl) rfl
theorem q1704 : (Jvm.Cond.fieldLink "CouncilStoreModel" (76 : Nat) "CouncilStoreModel" "down" "[Z") ∈ lw_all := lw_g (lw_at lw_m7 164 rfl) rfl
theorem q1705 : (Jvm.Cond.fieldLink "CouncilStoreModel" (80 : Nat) "CouncilStoreModel" "term" "[I") ∈ lw_all := lw_g (lw_at lw_m7 165 rfl) rfl
theorem q1706 : (Jvm.Cond.fieldLink "CouncilStoreModel" (83 : Nat) "CouncilStoreModel" "vote" "[I") ∈ lw_all := lw_g (lw_at lw_m7 166 rfl) rfl
theorem q1707 : (Jvm.Cond.fieldLink "CouncilStoreModel" (86 : Nat) "CouncilStoreModel" "base" "[I") ∈ lw_all := lw_g (lw_at lw_m7 167 rfl) rfl
theorem q1708 : (Jvm.Cond.fieldLink "CouncilStoreModel" (89 : Nat) "CouncilStoreModel" "baseTerm" "[I") ∈ lw_all := lw_g (lw_at lw_m7 168 rfl) rfl
theorem q1709 : (Jvm.Cond.fieldLink "CouncilStoreModel" (92 : Nat) "CouncilStoreModel" "snap" "[I") ∈ lw_all := lw_g (lw_at lw_m7 169 rfl) rfl
theorem q1710 : (Jvm.Cond.fieldLink "CouncilStoreModel" (95 : Nat) "CouncilStoreModel" "last" "[I") ∈ lw_all := lw_g (lw_at lw_m7 170 rfl) rfl
theorem q1711 : (Jvm.Cond.fieldLink "CouncilStoreModel" (100 : Nat) "CouncilStoreModel" "log" "[[I") ∈ lw_all := lw_g (lw_at lw_m7 171 rfl) rfl
theorem q1712 : (Jvm.Cond.fieldLink "CouncilStoreModel" (103 : Nat) "CouncilStoreModel" "dTerm" "[I") ∈ lw_all := lw_g (lw_at lw_m7 172 rfl) rfl
theorem q1713 : (Jvm.Cond.fieldLink "CouncilStoreModel" (106 : Nat) "CouncilStoreModel" "dVote" "[I") ∈ lw_all := lw_g (lw_at lw_m7 173 rfl) rfl
theorem q1714 : (Jvm.Cond.fieldLink "CouncilStoreModel" (109 : Nat) "CouncilStoreModel" "dBase" "[I") ∈ lw_all := lw_g (lw_at lw_m7 174 rfl) rfl
theorem q1715 : (Jvm.Cond.fieldLink "CouncilStoreModel" (112 : Nat) "CouncilStoreModel" "dBaseTerm" "[I") ∈ lw_all := lw_g (lw_at lw_m7 175 rfl) rfl
theorem q1716 : (Jvm.Cond.fieldLink "CouncilStoreModel" (115 : Nat) "CouncilStoreModel" "dSnap" "[I") ∈ lw_all := lw_g (lw_at lw_m7 176 rfl) rfl
theorem q1717 : (Jvm.Cond.fieldLink "CouncilStoreModel" (118 : Nat) "CouncilStoreModel" "dLast" "[I") ∈ lw_all := lw_g (lw_at lw_m7 177 rfl) rfl
theorem q1718 : (Jvm.Cond.fieldLink "CouncilStoreModel" (121 : Nat) "CouncilStoreModel" "dLog" "[[I") ∈ lw_all := lw_g (lw_at lw_m7 178 rfl) rfl
theorem q1719 : (Jvm.Cond.fieldLink "CouncilStoreModel" (124 : Nat) "CouncilStoreModel" "role" "[I") ∈ lw_all := lw_g (lw_at lw_m7 179 rfl) rfl
theorem q1720 : (Jvm.Cond.fieldLink "CouncilStoreModel" (127 : Nat) "CouncilStoreModel" "leader" "[I") ∈ lw_all := lw_g (lw_at lw_m7 180 rfl) rfl
theorem q1721 : (Jvm.Cond.fieldLink "CouncilStoreModel" (130 : Nat) "CouncilStoreModel" "commit" "[I") ∈ lw_all := lw_g (lw_at lw_m7 181 rfl) rfl
theorem q1722 : (Jvm.Cond.fieldLink "CouncilStoreModel" (133 : Nat) "CouncilStoreModel" "chain" "[I") ∈ lw_all := lw_g (lw_at lw_m7 182 rfl) rfl
theorem q1723 : (Jvm.Cond.fieldLink "CouncilStoreModel" (136 : Nat) "CouncilStoreModel" "since" "[I") ∈ lw_all := lw_g (lw_at lw_m7 183 rfl) rfl
theorem q1724 : (Jvm.Cond.fieldLink "CouncilStoreModel" (139 : Nat) "CouncilStoreModel" "compacted" "[I") ∈ lw_all := lw_g (lw_at lw_m7 184 rfl) rfl
theorem q1725 : (Jvm.Cond.fieldLink "CouncilStoreModel" (142 : Nat) "CouncilStoreModel" "round" "[I") ∈ lw_all := lw_g (lw_at lw_m7 185 rfl) rfl
theorem q1726 : (Jvm.Cond.fieldLink "CouncilStoreModel" (145 : Nat) "CouncilStoreModel" "mine" "[I") ∈ lw_all := lw_g (lw_at lw_m7 186 rfl) rfl
theorem q1727 : (Jvm.Cond.fieldLink "CouncilStoreModel" (148 : Nat) "CouncilStoreModel" "next" "[[I") ∈ lw_all := lw_g (lw_at lw_m7 187 rfl) rfl
theorem q1728 : (Jvm.Cond.fieldLink "CouncilStoreModel" (151 : Nat) "CouncilStoreModel" "match" "[[I") ∈ lw_all := lw_g (lw_at lw_m7 188 rfl) rfl
theorem q1729 : (Jvm.Cond.fieldLink "CouncilStoreModel" (154 : Nat) "CouncilStoreModel" "confirmed" "[[I") ∈ lw_all := lw_g (lw_at lw_m7 189 rfl) rfl
theorem q1730 : (Jvm.Cond.fieldLink "CouncilStoreModel" (159 : Nat) "CouncilStoreModel" "granted" "[[Z") ∈ lw_all := lw_g (lw_at lw_m7 190 rfl) rfl
theorem q1731 : (Jvm.Cond.fieldLink "CouncilStoreModel" (163 : Nat) "CouncilStoreModel" "recNode" "[I") ∈ lw_all := lw_g (lw_at lw_m7 191 rfl) rfl
theorem q1732 : (Jvm.Cond.fieldLink "CouncilStoreModel" (166 : Nat) "CouncilStoreModel" "recSort" "[I") ∈ lw_all := lw_g (lw_at lw_m7 192 rfl) rfl
theorem q1733 : (Jvm.Cond.fieldLink "CouncilStoreModel" (169 : Nat) "CouncilStoreModel" "recA" "[I") ∈ lw_all := lw_g (lw_at lw_m7 193 rfl) rfl
theorem q1734 : (Jvm.Cond.fieldLink "CouncilStoreModel" (172 : Nat) "CouncilStoreModel" "recB" "[I") ∈ lw_all := lw_g (lw_at lw_m7 194 rfl) rfl
theorem q1735 : (Jvm.Cond.fieldLink "CouncilStoreModel" (175 : Nat) "CouncilStoreModel" "recC" "[I") ∈ lw_all := lw_g (lw_at lw_m7 195 rfl) rfl
theorem q1736 : (Jvm.Cond.fieldLink "CouncilStoreModel" (324 : Nat) "CouncilStoreModel" "records" "I") ∈ lw_all := lw_g (lw_at lw_m7 196 rfl) rfl
theorem q1737 : (Jvm.Cond.fieldLink "CouncilStoreModel" (178 : Nat) "CouncilStoreModel" "waiting" "[I") ∈ lw_all := lw_g (lw_at lw_m7 197 rfl) rfl
theorem q1738 : (Jvm.Cond.fieldLink "CouncilStoreModel" (181 : Nat) "CouncilStoreModel" "mSort" "[I") ∈ lw_all := lw_g (lw_at lw_m7 198 rfl) rfl
theorem q1739 : (Jvm.Cond.fieldLink "CouncilStoreModel" (184 : Nat) "CouncilStoreModel" "mFrom" "[I") ∈ lw_all := lw_g (lw_at lw_m7 199 rfl) rfl
theorem q1740 : (Jvm.Cond.fieldLink "CouncilStoreModel" (187 : Nat) "CouncilStoreModel" "mTo" "[I") ∈ lw_all := lw_g (lw_at lw_m7 200 rfl) rfl
theorem q1741 : (Jvm.Cond.fieldLink "CouncilStoreModel" (190 : Nat) "CouncilStoreModel" "mTerm" "[I") ∈ lw_all := lw_g (lw_at lw_m7 201 rfl) rfl
theorem q1742 : (Jvm.Cond.fieldLink "CouncilStoreModel" (193 : Nat) "CouncilStoreModel" "mA" "[I") ∈ lw_all := lw_g (lw_at lw_m7 202 rfl) rfl
theorem q1743 : (Jvm.Cond.fieldLink "CouncilStoreModel" (196 : Nat) "CouncilStoreModel" "mB" "[I") ∈ lw_all := lw_g (lw_at lw_m7 203 rfl) rfl
theorem q1744 : (Jvm.Cond.fieldLink "CouncilStoreModel" (199 : Nat) "CouncilStoreModel" "mMany" "[I") ∈ lw_all := lw_g (lw_at lw_m7 204 rfl) rfl
theorem q1745 : (Jvm.Cond.fieldLink "CouncilStoreModel" (202 : Nat) "CouncilStoreModel" "mRound" "[I") ∈ lw_all := lw_g (lw_at lw_m7 205 rfl) rfl
theorem q1746 : (Jvm.Cond.fieldLink "CouncilStoreModel" (205 : Nat) "CouncilStoreModel" "mCommit" "[I") ∈ lw_all := lw_g (lw_at lw_m7 206 rfl) rfl
theorem q1747 : (Jvm.Cond.fieldLink "CouncilStoreModel" (208 : Nat) "CouncilStoreModel" "mChain" "[I") ∈ lw_all := lw_g (lw_at lw_m7 207 rfl) rfl
theorem q1748 : (Jvm.Cond.fieldLink "CouncilStoreModel" (212 : Nat) "CouncilStoreModel" "mEntry" "[I") ∈ lw_all := lw_g (lw_at lw_m7 208 rfl) rfl
theorem q1749 : (Jvm.Cond.fieldLink "CouncilStoreModel" (327 : Nat) "CouncilStoreModel" "messages" "I") ∈ lw_all := lw_g (lw_at lw_m7 209 rfl) rfl
theorem q1750 : (Jvm.Cond.fieldLink "CouncilStoreModel" (330 : Nat) "CouncilStoreModel" "lost" "I") ∈ lw_all := lw_g (lw_at lw_m7 210 rfl) rfl
theorem q1751 : (Jvm.Cond.fieldLink "CouncilStoreModel" (215 : Nat) "CouncilStoreModel" "net" "[I") ∈ lw_all := lw_g (lw_at lw_m7 211 rfl) rfl
theorem q1752 : (Jvm.Cond.fieldLink "CouncilStoreModel" (333 : Nat) "CouncilStoreModel" "netMany" "I") ∈ lw_all := lw_g (lw_at lw_m7 212 rfl) rfl
theorem q1753 : (Jvm.Cond.fieldLink "CouncilStoreModel" (218 : Nat) "CouncilStoreModel" "out" "[I") ∈ lw_all := lw_g (lw_at lw_m7 213 rfl) rfl
theorem q1754 : (Jvm.Cond.fieldLink "CouncilStoreModel" (221 : Nat) "CouncilStoreModel" "outNode" "[I") ∈ lw_all := lw_g (lw_at lw_m7 214 rfl) rfl
theorem q1755 : (Jvm.Cond.fieldLink "CouncilStoreModel" (336 : Nat) "CouncilStoreModel" "outs" "I") ∈ lw_all := lw_g (lw_at lw_m7 215 rfl) rfl
theorem q1756 : (Jvm.Cond.fieldLink "CouncilStoreModel" (224 : Nat) "CouncilStoreModel" "readNode" "[I") ∈ lw_all := lw_g (lw_at lw_m7 216 rfl) rfl
theorem q1757 : (Jvm.Cond.fieldLink "CouncilStoreModel" (227 : Nat) "CouncilStoreModel" "readNumber" "[I") ∈ lw_all := lw_g (lw_at lw_m7 217 rfl) rfl
theorem q1758 : (Jvm.Cond.fieldLink "CouncilStoreModel" (230 : Nat) "CouncilStoreModel" "readAs" "[I") ∈ lw_all := lw_g (lw_at lw_m7 218 rfl) rfl
theorem q1759 : (Jvm.Cond.fieldLink "CouncilStoreModel" (233 : Nat) "CouncilStoreModel" "readRound" "[I") ∈ lw_all := lw_g (lw_at lw_m7 219 rfl) rfl
theorem q1760 : (Jvm.Cond.fieldLink "CouncilStoreModel" (236 : Nat) "CouncilStoreModel" "readKeyLong" "[I") ∈ lw_all := lw_g (lw_at lw_m7 220 rfl) rfl
theorem q1761 : (Jvm.Cond.fieldLink "CouncilStoreModel" (239 : Nat) "CouncilStoreModel" "readDone" "[Z") ∈ lw_all := lw_g (lw_at lw_m7 221 rfl) rfl
theorem q1762 : (Jvm.Cond.fieldLink "CouncilStoreModel" (242 : Nat) "CouncilStoreModel" "readIs" "[I") ∈ lw_all := lw_g (lw_at lw_m7 222 rfl) rfl
theorem q1763 : (Jvm.Cond.fieldLink "CouncilStoreModel" (245 : Nat) "CouncilStoreModel" "readChanged" "[I") ∈ lw_all := lw_g (lw_at lw_m7 223 rfl) rfl
theorem q1764 : (Jvm.Cond.fieldLink "CouncilStoreModel" (248 : Nat) "CouncilStoreModel" "readVersion" "[I") ∈ lw_all := lw_g (lw_at lw_m7 224 rfl) rfl
theorem q1765 : (Jvm.Cond.fieldLink "CouncilStoreModel" (251 : Nat) "CouncilStoreModel" "readRevision" "[I") ∈ lw_all := lw_g (lw_at lw_m7 225 rfl) rfl
theorem q1766 : (Jvm.Cond.fieldLink "CouncilStoreModel" (255 : Nat) "CouncilStoreModel" "readKey" "[B") ∈ lw_all := lw_g (lw_at lw_m7 226 rfl) rfl
theorem q1767 : (Jvm.Cond.fieldLink "CouncilStoreModel" (339 : Nat) "CouncilStoreModel" "reads" "I") ∈ lw_all := lw_g (lw_at lw_m7 227 rfl) rfl
theorem q1768 : (Jvm.Cond.fieldLink "CouncilStoreModel" (258 : Nat) "CouncilStoreModel" "readMany" "[I") ∈ lw_all := lw_g (lw_at lw_m7 228 rfl) rfl
theorem q1769 : (Jvm.Cond.fieldLink "CouncilStoreModel" (261 : Nat) "CouncilStoreModel" "leaderOf" "[I") ∈ lw_all := lw_g (lw_at lw_m7 229 rfl) rfl
theorem q1770 : (Jvm.Cond.fieldLink "CouncilStoreModel" (342 : Nat) "CouncilStoreModel" "never" "I") ∈ lw_all := lw_g (lw_at lw_m7 230 rfl) rfl
theorem q1771 : (Jvm.Cond.fieldLink "CouncilStoreModel" (264 : Nat) "CouncilStoreModel" "pKey" "[I") ∈ lw_all := lw_g (lw_at lw_m7 231 rfl) rfl
theorem q1772 : (Jvm.Cond.fieldLink "CouncilStoreModel" (267 : Nat) "CouncilStoreModel" "pKeyLong" "[I") ∈ lw_all := lw_g (lw_at lw_m7 232 rfl) rfl
theorem q1773 : (Jvm.Cond.fieldLink "CouncilStoreModel" (270 : Nat) "CouncilStoreModel" "pValue" "[I") ∈ lw_all := lw_g (lw_at lw_m7 233 rfl) rfl
theorem q1774 : (Jvm.Cond.fieldLink "CouncilStoreModel" (273 : Nat) "CouncilStoreModel" "pValueLong" "[I") ∈ lw_all := lw_g (lw_at lw_m7 234 rfl) rfl
theorem q1775 : (Jvm.Cond.fieldLink "CouncilStoreModel" (276 : Nat) "CouncilStoreModel" "pCreated" "[I") ∈ lw_all := lw_g (lw_at lw_m7 235 rfl) rfl
theorem q1776 : (Jvm.Cond.fieldLink "CouncilStoreModel" (279 : Nat) "CouncilStoreModel" "pChanged" "[I") ∈ lw_all := lw_g (lw_at lw_m7 236 rfl) rfl
theorem q1777 : (Jvm.Cond.fieldLink "CouncilStoreModel" (282 : Nat) "CouncilStoreModel" "pVersion" "[I") ∈ lw_all := lw_g (lw_at lw_m7 237 rfl) rfl
theorem q1778 : (Jvm.Cond.fieldLink "CouncilStoreModel" (285 : Nat) "CouncilStoreModel" "pLease" "[I") ∈ lw_all := lw_g (lw_at lw_m7 238 rfl) rfl
theorem q1779 : (Jvm.Cond.fieldLink "CouncilStoreModel" (288 : Nat) "CouncilStoreModel" "leases" "[Z") ∈ lw_all := lw_g (lw_at lw_m7 239 rfl) rfl
theorem q1780 : (Jvm.Cond.fieldLink "CouncilStoreModel" (291 : Nat) "CouncilStoreModel" "leasesWere" "[Z") ∈ lw_all := lw_g (lw_at lw_m8 0 rfl) rfl
theorem q1781 : (Jvm.Cond.fieldLink "CouncilStoreModel" (394 : Nat) "CouncilStoreModel" "pairs" "I") ∈ lw_all := lw_g (lw_at lw_m8 1 rfl) rfl
theorem q1782 : (Jvm.Cond.fieldLink "CouncilStoreModel" (433 : Nat) "CouncilStoreModel" "revision" "I") ∈ lw_all := lw_g (lw_at lw_m8 2 rfl) rfl
theorem q1783 : (Jvm.Cond.fieldLink "CouncilStoreModel" (294 : Nat) "CouncilStoreModel" "was" "[[I") ∈ lw_all := lw_g (lw_at lw_m8 3 rfl) rfl
theorem q1784 : (Jvm.Cond.fieldLink "CouncilStoreModel" (405 : Nat) "CouncilStoreModel" "wasPairs" "I") ∈ lw_all := lw_g (lw_at lw_m8 4 rfl) rfl
theorem q1785 : (Jvm.Cond.fieldLink "CouncilStoreModel" (442 : Nat) "CouncilStoreModel" "outcome" "I") ∈ lw_all := lw_g (lw_at lw_m8 5 rfl) rfl
theorem q1786 : (Jvm.Cond.fieldLink "CouncilStoreModel" (430 : Nat) "CouncilStoreModel" "deleted" "I") ∈ lw_all := lw_g (lw_at lw_m8 6 rfl) rfl
theorem q1787 : (Jvm.Cond.fieldLink "CouncilStoreModel" (412 : Nat) "CouncilStoreModel" "touched" "Z") ∈ lw_all := lw_g (lw_at lw_m8 7 rfl) rfl
theorem q1788 : (Jvm.Cond.fieldLink "CouncilStoreModel" (297 : Nat) "CouncilStoreModel" "way" "[I") ∈ lw_all := lw_g (lw_at lw_m8 8 rfl) rfl
theorem q1789 : (Jvm.Cond.fieldLink "CouncilStoreModel" (345 : Nat) "CouncilStoreModel" "greatest" "I") ∈ lw_all := lw_g (lw_at lw_m8 9 rfl) rfl
theorem q1790 : (Jvm.Cond.fieldLink "CouncilStoreModel" (300 : Nat) "CouncilStoreModel" "eKey" "[I") ∈ lw_all := lw_g (lw_at lw_m8 10 rfl) rfl
theorem q1791 : (Jvm.Cond.fieldLink "CouncilStoreModel" (303 : Nat) "CouncilStoreModel" "eKeyLong" "[I") ∈ lw_all := lw_g (lw_at lw_m8 11 rfl) rfl
theorem q1792 : (Jvm.Cond.fieldLink "CouncilStoreModel" (306 : Nat) "CouncilStoreModel" "eGone" "[Z") ∈ lw_all := lw_g (lw_at lw_m8 12 rfl) rfl
theorem q1793 : (Jvm.Cond.fieldLink "CouncilStoreModel" (309 : Nat) "CouncilStoreModel" "old" "[[I") ∈ lw_all := lw_g (lw_at lw_m8 13 rfl) rfl
theorem q1794 : (Jvm.Cond.fieldLink "CouncilStoreModel" (573 : Nat) "CouncilStoreModel" "oldPairs" "I") ∈ lw_all := lw_g (lw_at lw_m8 14 rfl) rfl
theorem q1795 : (Jvm.Cond.fieldLink "CouncilStoreModel" (570 : Nat) "CouncilStoreModel" "events" "I") ∈ lw_all := lw_g (lw_at lw_m8 15 rfl) rfl
theorem q1796 : (Jvm.Cond.lays "CouncilStoreModel" "CouncilStoreModel" "thrown" "I") ∈ lw_all := lw_g (lw_at lw_m8 16 rfl) rfl
theorem q1797 : (Jvm.Cond.soleField "CouncilStoreModel" "thrown") ∈ lw_all := lw_g (lw_at lw_m8 17 rfl) rfl
theorem q1798 : (Jvm.Cond.laysFinal "CouncilStoreModel" "CouncilStoreModel" "input" "[B") ∈ lw_all := lw_g (lw_at lw_m8 18 rfl) rfl
theorem q1799 : (Jvm.Cond.soleField "CouncilStoreModel" "input") ∈ lw_all := lw_g (lw_at lw_m8 19 rfl) rfl
theorem q1800 : (Jvm.Cond.laysFinal "CouncilStoreModel" "CouncilStoreModel" "first" "[B") ∈ lw_all := lw_g (lw_at lw_m8 20 rfl) rfl
theorem q1801 : (Jvm.Cond.soleField "CouncilStoreModel" "first") ∈ lw_all := lw_g (lw_at lw_m8 21 rfl) rfl
theorem q1802 : (Jvm.Cond.laysFinal "CouncilStoreModel" "CouncilStoreModel" "second" "[B") ∈ lw_all := lw_g (lw_at lw_m8 22 rfl) rfl
theorem q1803 : (Jvm.Cond.soleField "CouncilStoreModel" "second") ∈ lw_all := lw_g (lw_at lw_m8 23 rfl) rfl
theorem q1804 : (Jvm.Cond.lays "CouncilStoreModel" "CouncilStoreModel" "inputSize" "I") ∈ lw_all := lw_g (lw_at lw_m8 24 rfl) rfl
theorem q1805 : (Jvm.Cond.soleField "CouncilStoreModel" "inputSize") ∈ lw_all := lw_g (lw_at lw_m8 25 rfl) rfl
theorem q1806 : (Jvm.Cond.lays "CouncilStoreModel" "CouncilStoreModel" "firstSize" "I") ∈ lw_all := lw_g (lw_at lw_m8 26 rfl) rfl
theorem q1807 : (Jvm.Cond.soleField "CouncilStoreModel" "firstSize") ∈ lw_all := lw_g (lw_at lw_m8 27 rfl) rfl
theorem q1808 : (Jvm.Cond.lays "CouncilStoreModel" "CouncilStoreModel" "secondSize" "I") ∈ lw_all := lw_g (lw_at lw_m8 28 rfl) rfl
theorem q1809 : (Jvm.Cond.soleField "CouncilStoreModel" "secondSize") ∈ lw_all := lw_g (lw_at lw_m8 29 rfl) rfl
theorem q1810 : (Jvm.Cond.lays "CouncilStoreModel" "CouncilStoreModel" "arguments" "I") ∈ lw_all := lw_g (lw_at lw_m8 30 rfl) rfl
theorem q1811 : (Jvm.Cond.soleField "CouncilStoreModel" "arguments") ∈ lw_all := lw_g (lw_at lw_m8 31 rfl) rfl
theorem q1812 : (Jvm.Cond.laysFinal "CouncilStoreModel" "CouncilStoreModel" "madeTerm" "[I") ∈ lw_all := lw_g (lw_at lw_m8 32 rfl) rfl
theorem q1813 : (Jvm.Cond.soleField "CouncilStoreModel" "madeTerm") ∈ lw_all := lw_g (lw_at lw_m8 33 rfl) rfl
theorem q1814 : (Jvm.Cond.laysFinal "CouncilStoreModel" "CouncilStoreModel" "conditions" "[I") ∈ lw_all := lw_g (lw_at lw_m8 34 rfl) rfl
theorem q1815 : (Jvm.Cond.soleField "CouncilStoreModel" "conditions") ∈ lw_all := lw_g (lw_at lw_m8 35 rfl) rfl
theorem q1816 : (Jvm.Cond.laysFinal "CouncilStoreModel" "CouncilStoreModel" "thens" "[I") ∈ lw_all := lw_g (lw_at lw_m8 36 rfl) rfl
theorem q1817 : (Jvm.Cond.soleField "CouncilStoreModel" "thens") ∈ lw_all := lw_g (lw_at lw_m8 37 rfl) rfl
theorem q1818 : (Jvm.Cond.laysFinal "CouncilStoreModel" "CouncilStoreModel" "elses" "[I") ∈ lw_all := lw_g (lw_at lw_m8 38 rfl) rfl
theorem q1819 : (Jvm.Cond.soleField "CouncilStoreModel" "elses") ∈ lw_all := lw_g (lw_at lw_m8 39 rfl) rfl
theorem q1820 : (Jvm.Cond.laysFinal "CouncilStoreModel" "CouncilStoreModel" "sort" "[I") ∈ lw_all := lw_g (lw_at lw_m8 40 rfl) rfl
theorem q1821 : (Jvm.Cond.soleField "CouncilStoreModel" "sort") ∈ lw_all := lw_g (lw_at lw_m8 41 rfl) rfl
theorem q1822 : (Jvm.Cond.laysFinal "CouncilStoreModel" "CouncilStoreModel" "how" "[I") ∈ lw_all := lw_g (lw_at lw_m8 42 rfl) rfl
theorem q1823 : (Jvm.Cond.soleField "CouncilStoreModel" "how") ∈ lw_all := lw_g (lw_at lw_m8 43 rfl) rfl
theorem q1824 : (Jvm.Cond.laysFinal "CouncilStoreModel" "CouncilStoreModel" "number" "[I") ∈ lw_all := lw_g (lw_at lw_m8 44 rfl) rfl
theorem q1825 : (Jvm.Cond.soleField "CouncilStoreModel" "number") ∈ lw_all := lw_g (lw_at lw_m8 45 rfl) rfl
theorem q1826 : (Jvm.Cond.laysFinal "CouncilStoreModel" "CouncilStoreModel" "keyAt" "[I") ∈ lw_all := lw_g (lw_at lw_m8 46 rfl) rfl
theorem q1827 : (Jvm.Cond.soleField "CouncilStoreModel" "keyAt") ∈ lw_all := lw_g (lw_at lw_m8 47 rfl) rfl
theorem q1828 : (Jvm.Cond.laysFinal "CouncilStoreModel" "CouncilStoreModel" "keyLong" "[I") ∈ lw_all := lw_g (lw_at lw_m8 48 rfl) rfl
theorem q1829 : (Jvm.Cond.soleField "CouncilStoreModel" "keyLong") ∈ lw_all := lw_g (lw_at lw_m8 49 rfl) rfl
theorem q1830 : (Jvm.Cond.laysFinal "CouncilStoreModel" "CouncilStoreModel" "valueAt" "[I") ∈ lw_all := lw_g (lw_at lw_m8 50 rfl) rfl
theorem q1831 : (Jvm.Cond.soleField "CouncilStoreModel" "valueAt") ∈ lw_all := lw_g (lw_at lw_m8 51 rfl) rfl
theorem q1832 : (Jvm.Cond.laysFinal "CouncilStoreModel" "CouncilStoreModel" "valueLong" "[I") ∈ lw_all := lw_g (lw_at lw_m8 52 rfl) rfl
theorem q1833 : (Jvm.Cond.soleField "CouncilStoreModel" "valueLong") ∈ lw_all := lw_g (lw_at lw_m8 53 rfl) rfl
theorem q1834 : (Jvm.Cond.laysFinal "CouncilStoreModel" "CouncilStoreModel" "bytes" "[B") ∈ lw_all := lw_g (lw_at lw_m8 54 rfl) rfl
theorem q1835 : (Jvm.Cond.soleField "CouncilStoreModel" "bytes") ∈ lw_all := lw_g (lw_at lw_m8 55 rfl) rfl
theorem q1836 : (Jvm.Cond.lays "CouncilStoreModel" "CouncilStoreModel" "made" "I") ∈ lw_all := lw_g (lw_at lw_m8 56 rfl) rfl
theorem q1837 : (Jvm.Cond.soleField "CouncilStoreModel" "made") ∈ lw_all := lw_g (lw_at lw_m8 57 rfl) rfl
theorem q1838 : (Jvm.Cond.lays "CouncilStoreModel" "CouncilStoreModel" "byteMany" "I") ∈ lw_all := lw_g (lw_at lw_m8 58 rfl) rfl
theorem q1839 : (Jvm.Cond.soleField "CouncilStoreModel" "byteMany") ∈ lw_all := lw_g (lw_at lw_m8 59 rfl) rfl
theorem q1840 : (Jvm.Cond.lays "CouncilStoreModel" "CouncilStoreModel" "draftBytes" "I") ∈ lw_all := lw_g (lw_at lw_m8 60 rfl) rfl
theorem q1841 : (Jvm.Cond.soleField "CouncilStoreModel" "draftBytes") ∈ lw_all := lw_g (lw_at lw_m8 61 rfl) rfl
theorem q1842 : (Jvm.Cond.laysFinal "CouncilStoreModel" "CouncilStoreModel" "draft" "[B") ∈ lw_all := lw_g (lw_at lw_m8 62 rfl) rfl
theorem q1843 : (Jvm.Cond.soleField "CouncilStoreModel" "draft") ∈ lw_all := lw_g (lw_at lw_m8 63 rfl) rfl
theorem q1844 : (Jvm.Cond.laysFinal "CouncilStoreModel" "CouncilStoreModel" "chainBefore" "[I") ∈ lw_all := lw_g (lw_at lw_m8 64 rfl) rfl
theorem q1845 : (Jvm.Cond.soleField "CouncilStoreModel" "chainBefore") ∈ lw_all := lw_g (lw_at lw_m8 65 rfl) rfl
theorem q1846 : (Jvm.Cond.laysFinal "CouncilStoreModel" "CouncilStoreModel" "chainMade" "[I") ∈ lw_all := lw_g (lw_at lw_m8 66 rfl) rfl
theorem q1847 : (Jvm.Cond.soleField "CouncilStoreModel" "chainMade") ∈ lw_all := lw_g (lw_at lw_m8 67 rfl) rfl
theorem q1848 : (Jvm.Cond.laysFinal "CouncilStoreModel" "CouncilStoreModel" "chainIndex" "[I") ∈ lw_all := lw_g (lw_at lw_m8 68 rfl) rfl
theorem q1849 : (Jvm.Cond.soleField "CouncilStoreModel" "chainIndex") ∈ lw_all := lw_g (lw_at lw_m8 69 rfl) rfl
theorem q1850 : (Jvm.Cond.lays "CouncilStoreModel" "CouncilStoreModel" "chains" "I") ∈ lw_all := lw_g (lw_at lw_m8 70 rfl) rfl
theorem q1851 : (Jvm.Cond.soleField "CouncilStoreModel" "chains") ∈ lw_all := lw_g (lw_at lw_m8 71 rfl) rfl
theorem q1852 : (Jvm.Cond.laysFinal "CouncilStoreModel" "CouncilStoreModel" "firstApplied" "[I") ∈ lw_all := lw_g (lw_at lw_m8 72 rfl) rfl
theorem q1853 : (Jvm.Cond.soleField "CouncilStoreModel" "firstApplied") ∈ lw_all := lw_g (lw_at lw_m8 73 rfl) rfl
theorem q1854 : (Jvm.Cond.lays "CouncilStoreModel" "CouncilStoreModel" "nodes" "I") ∈ lw_all := lw_g (lw_at lw_m8 74 rfl) rfl
theorem q1855 : (Jvm.Cond.soleField "CouncilStoreModel" "nodes") ∈ lw_all := lw_g (lw_at lw_m8 75 rfl) rfl
theorem q1856 : (Jvm.Cond.laysFinal "CouncilStoreModel" "CouncilStoreModel" "down" "[Z") ∈ lw_all := lw_g (lw_at lw_m8 76 rfl) rfl
theorem q1857 : (Jvm.Cond.soleField "CouncilStoreModel" "down") ∈ lw_all := lw_g (lw_at lw_m8 77 rfl) rfl
theorem q1858 : (Jvm.Cond.laysFinal "CouncilStoreModel" "CouncilStoreModel" "term" "[I") ∈ lw_all := lw_g (lw_at lw_m8 78 rfl) rfl
theorem q1859 : (Jvm.Cond.soleField "CouncilStoreModel" "term") ∈ lw_all := lw_g (lw_at lw_m8 79 rfl) rfl
theorem q1860 : (Jvm.Cond.laysFinal "CouncilStoreModel" "CouncilStoreModel" "vote" "[I") ∈ lw_all := lw_g (lw_at lw_m8 80 rfl) rfl
theorem q1861 : (Jvm.Cond.soleField "CouncilStoreModel" "vote") ∈ lw_all := lw_g (lw_at lw_m8 81 rfl) rfl
theorem q1862 : (Jvm.Cond.laysFinal "CouncilStoreModel" "CouncilStoreModel" "base" "[I") ∈ lw_all := lw_g (lw_at lw_m8 82 rfl) rfl
theorem q1863 : (Jvm.Cond.soleField "CouncilStoreModel" "base") ∈ lw_all := lw_g (lw_at lw_m8 83 rfl) rfl
theorem q1864 : (Jvm.Cond.laysFinal "CouncilStoreModel" "CouncilStoreModel" "baseTerm" "[I") ∈ lw_all := lw_g (lw_at lw_m8 84 rfl) rfl
theorem q1865 : (Jvm.Cond.soleField "CouncilStoreModel" "baseTerm") ∈ lw_all := lw_g (lw_at lw_m8 85 rfl) rfl
theorem q1866 : (Jvm.Cond.laysFinal "CouncilStoreModel" "CouncilStoreModel" "snap" "[I") ∈ lw_all := lw_g (lw_at lw_m8 86 rfl) rfl
theorem q1867 : (Jvm.Cond.soleField "CouncilStoreModel" "snap") ∈ lw_all := lw_g (lw_at lw_m8 87 rfl) rfl
theorem q1868 : (Jvm.Cond.laysFinal "CouncilStoreModel" "CouncilStoreModel" "last" "[I") ∈ lw_all := lw_g (lw_at lw_m8 88 rfl) rfl
theorem q1869 : (Jvm.Cond.soleField "CouncilStoreModel" "last") ∈ lw_all := lw_g (lw_at lw_m8 89 rfl) rfl
theorem q1870 : (Jvm.Cond.laysFinal "CouncilStoreModel" "CouncilStoreModel" "log" "[[I") ∈ lw_all := lw_g (lw_at lw_m8 90 rfl) rfl
theorem q1871 : (Jvm.Cond.soleField "CouncilStoreModel" "log") ∈ lw_all := lw_g (lw_at lw_m8 91 rfl) rfl
theorem q1872 : (Jvm.Cond.laysFinal "CouncilStoreModel" "CouncilStoreModel" "dTerm" "[I") ∈ lw_all := lw_g (lw_at lw_m8 92 rfl) rfl
theorem q1873 : (Jvm.Cond.soleField "CouncilStoreModel" "dTerm") ∈ lw_all := lw_g (lw_at lw_m8 93 rfl) rfl
theorem q1874 : (Jvm.Cond.laysFinal "CouncilStoreModel" "CouncilStoreModel" "dVote" "[I") ∈ lw_all := lw_g (lw_at lw_m8 94 rfl) rfl
theorem q1875 : (Jvm.Cond.soleField "CouncilStoreModel" "dVote") ∈ lw_all := lw_g (lw_at lw_m8 95 rfl) rfl
theorem q1876 : (Jvm.Cond.laysFinal "CouncilStoreModel" "CouncilStoreModel" "dBase" "[I") ∈ lw_all := lw_g (lw_at lw_m8 96 rfl) rfl
theorem q1877 : (Jvm.Cond.soleField "CouncilStoreModel" "dBase") ∈ lw_all := lw_g (lw_at lw_m8 97 rfl) rfl
theorem q1878 : (Jvm.Cond.laysFinal "CouncilStoreModel" "CouncilStoreModel" "dBaseTerm" "[I") ∈ lw_all := lw_g (lw_at lw_m8 98 rfl) rfl
theorem q1879 : (Jvm.Cond.soleField "CouncilStoreModel" "dBaseTerm") ∈ lw_all := lw_g (lw_at lw_m8 99 rfl) rfl
theorem q1880 : (Jvm.Cond.laysFinal "CouncilStoreModel" "CouncilStoreModel" "dSnap" "[I") ∈ lw_all := lw_g (lw_at lw_m8 100 rfl) rfl
theorem q1881 : (Jvm.Cond.soleField "CouncilStoreModel" "dSnap") ∈ lw_all := lw_g (lw_at lw_m8 101 rfl) rfl
theorem q1882 : (Jvm.Cond.laysFinal "CouncilStoreModel" "CouncilStoreModel" "dLast" "[I") ∈ lw_all := lw_g (lw_at lw_m8 102 rfl) rfl
theorem q1883 : (Jvm.Cond.soleField "CouncilStoreModel" "dLast") ∈ lw_all := lw_g (lw_at lw_m8 103 rfl) rfl
theorem q1884 : (Jvm.Cond.laysFinal "CouncilStoreModel" "CouncilStoreModel" "dLog" "[[I") ∈ lw_all := lw_g (lw_at lw_m8 104 rfl) rfl
theorem q1885 : (Jvm.Cond.soleField "CouncilStoreModel" "dLog") ∈ lw_all := lw_g (lw_at lw_m8 105 rfl) rfl
theorem q1886 : (Jvm.Cond.laysFinal "CouncilStoreModel" "CouncilStoreModel" "role" "[I") ∈ lw_all := lw_g (lw_at lw_m8 106 rfl) rfl
theorem q1887 : (Jvm.Cond.soleField "CouncilStoreModel" "role") ∈ lw_all := lw_g (lw_at lw_m8 107 rfl) rfl
theorem q1888 : (Jvm.Cond.laysFinal "CouncilStoreModel" "CouncilStoreModel" "leader" "[I") ∈ lw_all := lw_g (lw_at lw_m8 108 rfl) rfl
theorem q1889 : (Jvm.Cond.soleField "CouncilStoreModel" "leader") ∈ lw_all := lw_g (lw_at lw_m8 109 rfl) rfl
theorem q1890 : (Jvm.Cond.laysFinal "CouncilStoreModel" "CouncilStoreModel" "commit" "[I") ∈ lw_all := lw_g (lw_at lw_m8 110 rfl) rfl
theorem q1891 : (Jvm.Cond.soleField "CouncilStoreModel" "commit") ∈ lw_all := lw_g (lw_at lw_m8 111 rfl) rfl
theorem q1892 : (Jvm.Cond.laysFinal "CouncilStoreModel" "CouncilStoreModel" "chain" "[I") ∈ lw_all := lw_g (lw_at lw_m8 112 rfl) rfl
theorem q1893 : (Jvm.Cond.soleField "CouncilStoreModel" "chain") ∈ lw_all := lw_g (lw_at lw_m8 113 rfl) rfl
theorem q1894 : (Jvm.Cond.laysFinal "CouncilStoreModel" "CouncilStoreModel" "since" "[I") ∈ lw_all := lw_g (lw_at lw_m8 114 rfl) rfl
theorem q1895 : (Jvm.Cond.soleField "CouncilStoreModel" "since") ∈ lw_all := lw_g (lw_at lw_m8 115 rfl) rfl
theorem q1896 : (Jvm.Cond.laysFinal "CouncilStoreModel" "CouncilStoreModel" "compacted" "[I") ∈ lw_all := lw_g (lw_at lw_m8 116 rfl) rfl
theorem q1897 : (Jvm.Cond.soleField "CouncilStoreModel" "compacted") ∈ lw_all := lw_g (lw_at lw_m8 117 rfl) rfl
theorem q1898 : (Jvm.Cond.laysFinal "CouncilStoreModel" "CouncilStoreModel" "round" "[I") ∈ lw_all := lw_g (lw_at lw_m8 118 rfl) rfl
theorem q1899 : (Jvm.Cond.soleField "CouncilStoreModel" "round") ∈ lw_all := lw_g (lw_at lw_m8 119 rfl) rfl
theorem q1900 : (Jvm.Cond.laysFinal "CouncilStoreModel" "CouncilStoreModel" "mine" "[I") ∈ lw_all := lw_g (lw_at lw_m8 120 rfl) rfl
theorem q1901 : (Jvm.Cond.soleField "CouncilStoreModel" "mine") ∈ lw_all := lw_g (lw_at lw_m8 121 rfl) rfl
theorem q1902 : (Jvm.Cond.laysFinal "CouncilStoreModel" "CouncilStoreModel" "next" "[[I") ∈ lw_all := lw_g (lw_at lw_m8 122 rfl) rfl
theorem q1903 : (Jvm.Cond.soleField "CouncilStoreModel" "next") ∈ lw_all := lw_g (lw_at lw_m8 123 rfl) rfl
theorem q1904 : (Jvm.Cond.laysFinal "CouncilStoreModel" "CouncilStoreModel" "match" "[[I") ∈ lw_all := lw_g (lw_at lw_m8 124 rfl) rfl
theorem q1905 : (Jvm.Cond.soleField "CouncilStoreModel" "match") ∈ lw_all := lw_g (lw_at lw_m8 125 rfl) rfl
theorem q1906 : (Jvm.Cond.laysFinal "CouncilStoreModel" "CouncilStoreModel" "confirmed" "[[I") ∈ lw_all := lw_g (lw_at lw_m8 126 rfl) rfl
theorem q1907 : (Jvm.Cond.soleField "CouncilStoreModel" "confirmed") ∈ lw_all := lw_g (lw_at lw_m8 127 rfl) rfl
theorem q1908 : (Jvm.Cond.laysFinal "CouncilStoreModel" "CouncilStoreModel" "granted" "[[Z") ∈ lw_all := lw_g (lw_at lw_m8 128 rfl) rfl
theorem q1909 : (Jvm.Cond.soleField "CouncilStoreModel" "granted") ∈ lw_all := lw_g (lw_at lw_m8 129 rfl) rfl
theorem q1910 : (Jvm.Cond.laysFinal "CouncilStoreModel" "CouncilStoreModel" "recNode" "[I") ∈ lw_all := lw_g (lw_at lw_m8 130 rfl) rfl
theorem q1911 : (Jvm.Cond.soleField "CouncilStoreModel" "recNode") ∈ lw_all := lw_g (lw_at lw_m8 131 rfl) rfl
theorem q1912 : (Jvm.Cond.laysFinal "CouncilStoreModel" "CouncilStoreModel" "recSort" "[I") ∈ lw_all := lw_g (lw_at lw_m8 132 rfl) rfl
theorem q1913 : (Jvm.Cond.soleField "CouncilStoreModel" "recSort") ∈ lw_all := lw_g (lw_at lw_m8 133 rfl) rfl
theorem q1914 : (Jvm.Cond.laysFinal "CouncilStoreModel" "CouncilStoreModel" "recA" "[I") ∈ lw_all := lw_g (lw_at lw_m8 134 rfl) rfl
theorem q1915 : (Jvm.Cond.soleField "CouncilStoreModel" "recA") ∈ lw_all := lw_g (lw_at lw_m8 135 rfl) rfl
theorem q1916 : (Jvm.Cond.laysFinal "CouncilStoreModel" "CouncilStoreModel" "recB" "[I") ∈ lw_all := lw_g (lw_at lw_m8 136 rfl) rfl
theorem q1917 : (Jvm.Cond.soleField "CouncilStoreModel" "recB") ∈ lw_all := lw_g (lw_at lw_m8 137 rfl) rfl
theorem q1918 : (Jvm.Cond.laysFinal "CouncilStoreModel" "CouncilStoreModel" "recC" "[I") ∈ lw_all := lw_g (lw_at lw_m8 138 rfl) rfl
theorem q1919 : (Jvm.Cond.soleField "CouncilStoreModel" "recC") ∈ lw_all := lw_g (lw_at lw_m8 139 rfl) rfl
theorem q1920 : (Jvm.Cond.lays "CouncilStoreModel" "CouncilStoreModel" "records" "I") ∈ lw_all := lw_g (lw_at lw_m8 140 rfl) rfl
theorem q1921 : (Jvm.Cond.soleField "CouncilStoreModel" "records") ∈ lw_all := lw_g (lw_at lw_m8 141 rfl) rfl
theorem q1922 : (Jvm.Cond.laysFinal "CouncilStoreModel" "CouncilStoreModel" "waiting" "[I") ∈ lw_all := lw_g (lw_at lw_m8 142 rfl) rfl
theorem q1923 : (Jvm.Cond.soleField "CouncilStoreModel" "waiting") ∈ lw_all := lw_g (lw_at lw_m8 143 rfl) rfl
theorem q1924 : (Jvm.Cond.laysFinal "CouncilStoreModel" "CouncilStoreModel" "mSort" "[I") ∈ lw_all := lw_g (lw_at lw_m8 144 rfl) rfl
theorem q1925 : (Jvm.Cond.soleField "CouncilStoreModel" "mSort") ∈ lw_all := lw_g (lw_at lw_m8 145 rfl) rfl
theorem q1926 : (Jvm.Cond.laysFinal "CouncilStoreModel" "CouncilStoreModel" "mFrom" "[I") ∈ lw_all := lw_g (lw_at lw_m8 146 rfl) rfl
theorem q1927 : (Jvm.Cond.soleField "CouncilStoreModel" "mFrom") ∈ lw_all := lw_g (lw_at lw_m8 147 rfl) rfl
theorem q1928 : (Jvm.Cond.laysFinal "CouncilStoreModel" "CouncilStoreModel" "mTo" "[I") ∈ lw_all := lw_g (lw_at lw_m8 148 rfl) rfl
theorem q1929 : (Jvm.Cond.soleField "CouncilStoreModel" "mTo") ∈ lw_all := lw_g (lw_at lw_m8 149 rfl) rfl
theorem q1930 : (Jvm.Cond.laysFinal "CouncilStoreModel" "CouncilStoreModel" "mTerm" "[I") ∈ lw_all := lw_g (lw_at lw_m8 150 rfl) rfl
theorem q1931 : (Jvm.Cond.soleField "CouncilStoreModel" "mTerm") ∈ lw_all := lw_g (lw_at lw_m8 151 rfl) rfl
theorem q1932 : (Jvm.Cond.laysFinal "CouncilStoreModel" "CouncilStoreModel" "mA" "[I") ∈ lw_all := lw_g (lw_at lw_m8 152 rfl) rfl
theorem q1933 : (Jvm.Cond.soleField "CouncilStoreModel" "mA") ∈ lw_all := lw_g (lw_at lw_m8 153 rfl) rfl
theorem q1934 : (Jvm.Cond.laysFinal "CouncilStoreModel" "CouncilStoreModel" "mB" "[I") ∈ lw_all := lw_g (lw_at lw_m8 154 rfl) rfl
theorem q1935 : (Jvm.Cond.soleField "CouncilStoreModel" "mB") ∈ lw_all := lw_g (lw_at lw_m8 155 rfl) rfl
theorem q1936 : (Jvm.Cond.laysFinal "CouncilStoreModel" "CouncilStoreModel" "mMany" "[I") ∈ lw_all := lw_g (lw_at lw_m8 156 rfl) rfl
theorem q1937 : (Jvm.Cond.soleField "CouncilStoreModel" "mMany") ∈ lw_all := lw_g (lw_at lw_m8 157 rfl) rfl
theorem q1938 : (Jvm.Cond.laysFinal "CouncilStoreModel" "CouncilStoreModel" "mRound" "[I") ∈ lw_all := lw_g (lw_at lw_m8 158 rfl) rfl
theorem q1939 : (Jvm.Cond.soleField "CouncilStoreModel" "mRound") ∈ lw_all := lw_g (lw_at lw_m8 159 rfl) rfl
theorem q1940 : (Jvm.Cond.laysFinal "CouncilStoreModel" "CouncilStoreModel" "mCommit" "[I") ∈ lw_all := lw_g (lw_at lw_m8 160 rfl) rfl
theorem q1941 : (Jvm.Cond.soleField "CouncilStoreModel" "mCommit") ∈ lw_all := lw_g (lw_at lw_m8 161 rfl) rfl
theorem q1942 : (Jvm.Cond.laysFinal "CouncilStoreModel" "CouncilStoreModel" "mChain" "[I") ∈ lw_all := lw_g (lw_at lw_m8 162 rfl) rfl
theorem q1943 : (Jvm.Cond.soleField "CouncilStoreModel" "mChain") ∈ lw_all := lw_g (lw_at lw_m8 163 rfl) rfl
theorem q1944 : (Jvm.Cond.laysFinal "CouncilStoreModel" "CouncilStoreModel" "mEntry" "[I") ∈ lw_all := lw_g (lw_at lw_m8 164 rfl) rfl
theorem q1945 : (Jvm.Cond.soleField "CouncilStoreModel" "mEntry") ∈ lw_all := lw_g (lw_at lw_m8 165 rfl) rfl
theorem q1946 : (Jvm.Cond.lays "CouncilStoreModel" "CouncilStoreModel" "messages" "I") ∈ lw_all := lw_g (lw_at lw_m8 166 rfl) rfl
theorem q1947 : (Jvm.Cond.soleField "CouncilStoreModel" "messages") ∈ lw_all := lw_g (lw_at lw_m8 167 rfl) rfl
theorem q1948 : (Jvm.Cond.lays "CouncilStoreModel" "CouncilStoreModel" "lost" "I") ∈ lw_all := lw_g (lw_at lw_m8 168 rfl) rfl
theorem q1949 : (Jvm.Cond.soleField "CouncilStoreModel" "lost") ∈ lw_all := lw_g (lw_at lw_m8 169 rfl) rfl
theorem q1950 : (Jvm.Cond.laysFinal "CouncilStoreModel" "CouncilStoreModel" "net" "[I") ∈ lw_all := lw_g (lw_at lw_m8 170 rfl) rfl
theorem q1951 : (Jvm.Cond.soleField "CouncilStoreModel" "net") ∈ lw_all := lw_g (lw_at lw_m8 171 rfl) rfl
theorem q1952 : (Jvm.Cond.lays "CouncilStoreModel" "CouncilStoreModel" "netMany" "I") ∈ lw_all := lw_g (lw_at lw_m8 172 rfl) rfl
theorem q1953 : (Jvm.Cond.soleField "CouncilStoreModel" "netMany") ∈ lw_all := lw_g (lw_at lw_m8 173 rfl) rfl
theorem q1954 : (Jvm.Cond.laysFinal "CouncilStoreModel" "CouncilStoreModel" "out" "[I") ∈ lw_all := lw_g (lw_at lw_m8 174 rfl) rfl
theorem q1955 : (Jvm.Cond.soleField "CouncilStoreModel" "out") ∈ lw_all := lw_g (lw_at lw_m8 175 rfl) rfl
theorem q1956 : (Jvm.Cond.laysFinal "CouncilStoreModel" "CouncilStoreModel" "outNode" "[I") ∈ lw_all := lw_g (lw_at lw_m8 176 rfl) rfl
theorem q1957 : (Jvm.Cond.soleField "CouncilStoreModel" "outNode") ∈ lw_all := lw_g (lw_at lw_m8 177 rfl) rfl
theorem q1958 : (Jvm.Cond.lays "CouncilStoreModel" "CouncilStoreModel" "outs" "I") ∈ lw_all := lw_g (lw_at lw_m8 178 rfl) rfl
theorem q1959 : (Jvm.Cond.soleField "CouncilStoreModel" "outs") ∈ lw_all := lw_g (lw_at lw_m8 179 rfl) rfl
theorem q1960 : (Jvm.Cond.laysFinal "CouncilStoreModel" "CouncilStoreModel" "readNode" "[I") ∈ lw_all := lw_g (lw_at lw_m8 180 rfl) rfl
theorem q1961 : (Jvm.Cond.soleField "CouncilStoreModel" "readNode") ∈ lw_all := lw_g (lw_at lw_m8 181 rfl) rfl
theorem q1962 : (Jvm.Cond.laysFinal "CouncilStoreModel" "CouncilStoreModel" "readNumber" "[I") ∈ lw_all := lw_g (lw_at lw_m8 182 rfl) rfl
theorem q1963 : (Jvm.Cond.soleField "CouncilStoreModel" "readNumber") ∈ lw_all := lw_g (lw_at lw_m8 183 rfl) rfl
theorem q1964 : (Jvm.Cond.laysFinal "CouncilStoreModel" "CouncilStoreModel" "readAs" "[I") ∈ lw_all := lw_g (lw_at lw_m8 184 rfl) rfl
theorem q1965 : (Jvm.Cond.soleField "CouncilStoreModel" "readAs") ∈ lw_all := lw_g (lw_at lw_m8 185 rfl) rfl
theorem q1966 : (Jvm.Cond.laysFinal "CouncilStoreModel" "CouncilStoreModel" "readRound" "[I") ∈ lw_all := lw_g (lw_at lw_m8 186 rfl) rfl
theorem q1967 : (Jvm.Cond.soleField "CouncilStoreModel" "readRound") ∈ lw_all := lw_g (lw_at lw_m8 187 rfl) rfl
theorem q1968 : (Jvm.Cond.laysFinal "CouncilStoreModel" "CouncilStoreModel" "readKeyLong" "[I") ∈ lw_all := lw_g (lw_at lw_m8 188 rfl) rfl
theorem q1969 : (Jvm.Cond.soleField "CouncilStoreModel" "readKeyLong") ∈ lw_all := lw_g (lw_at lw_m8 189 rfl) rfl
theorem q1970 : (Jvm.Cond.laysFinal "CouncilStoreModel" "CouncilStoreModel" "readDone" "[Z") ∈ lw_all := lw_g (lw_at lw_m8 190 rfl) rfl
theorem q1971 : (Jvm.Cond.soleField "CouncilStoreModel" "readDone") ∈ lw_all := lw_g (lw_at lw_m8 191 rfl) rfl
theorem q1972 : (Jvm.Cond.laysFinal "CouncilStoreModel" "CouncilStoreModel" "readIs" "[I") ∈ lw_all := lw_g (lw_at lw_m8 192 rfl) rfl
theorem q1973 : (Jvm.Cond.soleField "CouncilStoreModel" "readIs") ∈ lw_all := lw_g (lw_at lw_m8 193 rfl) rfl
theorem q1974 : (Jvm.Cond.laysFinal "CouncilStoreModel" "CouncilStoreModel" "readChanged" "[I") ∈ lw_all := lw_g (lw_at lw_m8 194 rfl) rfl
theorem q1975 : (Jvm.Cond.soleField "CouncilStoreModel" "readChanged") ∈ lw_all := lw_g (lw_at lw_m8 195 rfl) rfl
theorem q1976 : (Jvm.Cond.laysFinal "CouncilStoreModel" "CouncilStoreModel" "readVersion" "[I") ∈ lw_all := lw_g (lw_at lw_m8 196 rfl) rfl
theorem q1977 : (Jvm.Cond.soleField "CouncilStoreModel" "readVersion") ∈ lw_all := lw_g (lw_at lw_m8 197 rfl) rfl
theorem q1978 : (Jvm.Cond.laysFinal "CouncilStoreModel" "CouncilStoreModel" "readRevision" "[I") ∈ lw_all := lw_g (lw_at lw_m8 198 rfl) rfl
theorem q1979 : (Jvm.Cond.soleField "CouncilStoreModel" "readRevision") ∈ lw_all := lw_g (lw_at lw_m8 199 rfl) rfl
theorem q1980 : (Jvm.Cond.laysFinal "CouncilStoreModel" "CouncilStoreModel" "readKey" "[B") ∈ lw_all := lw_g (lw_at lw_m8 200 rfl) rfl
theorem q1981 : (Jvm.Cond.soleField "CouncilStoreModel" "readKey") ∈ lw_all := lw_g (lw_at lw_m8 201 rfl) rfl
theorem q1982 : (Jvm.Cond.lays "CouncilStoreModel" "CouncilStoreModel" "reads" "I") ∈ lw_all := lw_g (lw_at lw_m8 202 rfl) rfl
theorem q1983 : (Jvm.Cond.soleField "CouncilStoreModel" "reads") ∈ lw_all := lw_g (lw_at lw_m8 203 rfl) rfl
theorem q1984 : (Jvm.Cond.laysFinal "CouncilStoreModel" "CouncilStoreModel" "readMany" "[I") ∈ lw_all := lw_g (lw_at lw_m8 204 rfl) rfl
theorem q1985 : (Jvm.Cond.soleField "CouncilStoreModel" "readMany") ∈ lw_all := lw_g (lw_at lw_m8 205 rfl) rfl
theorem q1986 : (Jvm.Cond.laysFinal "CouncilStoreModel" "CouncilStoreModel" "leaderOf" "[I") ∈ lw_all := lw_g (lw_at lw_m8 206 rfl) rfl
theorem q1987 : (Jvm.Cond.soleField "CouncilStoreModel" "leaderOf") ∈ lw_all := lw_g (lw_at lw_m8 207 rfl) rfl
theorem q1988 : (Jvm.Cond.lays "CouncilStoreModel" "CouncilStoreModel" "never" "I") ∈ lw_all := lw_g (lw_at lw_m8 208 rfl) rfl
theorem q1989 : (Jvm.Cond.soleField "CouncilStoreModel" "never") ∈ lw_all := lw_g (lw_at lw_m8 209 rfl) rfl
theorem q1990 : (Jvm.Cond.laysFinal "CouncilStoreModel" "CouncilStoreModel" "pKey" "[I") ∈ lw_all := lw_g (lw_at lw_m8 210 rfl) rfl
theorem q1991 : (Jvm.Cond.soleField "CouncilStoreModel" "pKey") ∈ lw_all := lw_g (lw_at lw_m8 211 rfl) rfl
theorem q1992 : (Jvm.Cond.laysFinal "CouncilStoreModel" "CouncilStoreModel" "pKeyLong" "[I") ∈ lw_all := lw_g (lw_at lw_m8 212 rfl) rfl
theorem q1993 : (Jvm.Cond.soleField "CouncilStoreModel" "pKeyLong") ∈ lw_all := lw_g (lw_at lw_m8 213 rfl) rfl
theorem q1994 : (Jvm.Cond.laysFinal "CouncilStoreModel" "CouncilStoreModel" "pValue" "[I") ∈ lw_all := lw_g (lw_at lw_m8 214 rfl) rfl
theorem q1995 : (Jvm.Cond.soleField "CouncilStoreModel" "pValue") ∈ lw_all := lw_g (lw_at lw_m8 215 rfl) rfl
theorem q1996 : (Jvm.Cond.laysFinal "CouncilStoreModel" "CouncilStoreModel" "pValueLong" "[I") ∈ lw_all := lw_g (lw_at lw_m8 216 rfl) rfl
theorem q1997 : (Jvm.Cond.soleField "CouncilStoreModel" "pValueLong") ∈ lw_all := lw_g (lw_at lw_m8 217 rfl) rfl
theorem q1998 : (Jvm.Cond.laysFinal "CouncilStoreModel" "CouncilStoreModel" "pCreated" "[I") ∈ lw_all := lw_g (lw_at lw_m8 218 rfl) rfl
theorem q1999 : (Jvm.Cond.soleField "CouncilStoreModel" "pCreated") ∈ lw_all := lw_g (lw_at lw_m8 219 rfl) rfl
theorem q2000 : (Jvm.Cond.laysFinal "CouncilStoreModel" "CouncilStoreModel" "pChanged" "[I") ∈ lw_all := lw_g (lw_at lw_m8 220 rfl) rfl
theorem q2001 : (Jvm.Cond.soleField "CouncilStoreModel" "pChanged") ∈ lw_all := lw_g (lw_at lw_m8 221 rfl) rfl
theorem q2002 : (Jvm.Cond.laysFinal "CouncilStoreModel" "CouncilStoreModel" "pVersion" "[I") ∈ lw_all := lw_g (lw_at lw_m8 222 rfl) rfl
theorem q2003 : (Jvm.Cond.soleField "CouncilStoreModel" "pVersion") ∈ lw_all := lw_g (lw_at lw_m8 223 rfl) rfl
theorem q2004 : (Jvm.Cond.laysFinal "CouncilStoreModel" "CouncilStoreModel" "pLease" "[I") ∈ lw_all := lw_g (lw_at lw_m8 224 rfl) rfl
theorem q2005 : (Jvm.Cond.soleField "CouncilStoreModel" "pLease") ∈ lw_all := lw_g (lw_at lw_m8 225 rfl) rfl
theorem q2006 : (Jvm.Cond.laysFinal "CouncilStoreModel" "CouncilStoreModel" "leases" "[Z") ∈ lw_all := lw_g (lw_at lw_m8 226 rfl) rfl
theorem q2007 : (Jvm.Cond.soleField "CouncilStoreModel" "leases") ∈ lw_all := lw_g (lw_at lw_m8 227 rfl) rfl
theorem q2008 : (Jvm.Cond.laysFinal "CouncilStoreModel" "CouncilStoreModel" "leasesWere" "[Z") ∈ lw_all := lw_g (lw_at lw_m8 228 rfl) rfl
theorem q2009 : (Jvm.Cond.soleField "CouncilStoreModel" "leasesWere") ∈ lw_all := lw_g (lw_at lw_m8 229 rfl) rfl
theorem q2010 : (Jvm.Cond.lays "CouncilStoreModel" "CouncilStoreModel" "pairs" "I") ∈ lw_all := lw_g (lw_at lw_m8 230 rfl) rfl
theorem q2011 : (Jvm.Cond.soleField "CouncilStoreModel" "pairs") ∈ lw_all := lw_g (lw_at lw_m8 231 rfl) rfl
theorem q2012 : (Jvm.Cond.lays "CouncilStoreModel" "CouncilStoreModel" "revision" "I") ∈ lw_all := lw_g (lw_at lw_m8 232 rfl) rfl
theorem q2013 : (Jvm.Cond.soleField "CouncilStoreModel" "revision") ∈ lw_all := lw_g (lw_at lw_m8 233 rfl) rfl
theorem q2014 : (Jvm.Cond.laysFinal "CouncilStoreModel" "CouncilStoreModel" "was" "[[I") ∈ lw_all := lw_g (lw_at lw_m8 234 rfl) rfl
theorem q2015 : (Jvm.Cond.soleField "CouncilStoreModel" "was") ∈ lw_all := lw_g (lw_at lw_m8 235 rfl) rfl
theorem q2016 : (Jvm.Cond.lays "CouncilStoreModel" "CouncilStoreModel" "wasPairs" "I") ∈ lw_all := lw_g (lw_at lw_m8 236 rfl) rfl
theorem q2017 : (Jvm.Cond.soleField "CouncilStoreModel" "wasPairs") ∈ lw_all := lw_g (lw_at lw_m8 237 rfl) rfl
theorem q2018 : (Jvm.Cond.lays "CouncilStoreModel" "CouncilStoreModel" "outcome" "I") ∈ lw_all := lw_g (lw_at lw_m8 238 rfl) rfl
theorem q2019 : (Jvm.Cond.soleField "CouncilStoreModel" "outcome") ∈ lw_all := lw_g (lw_at lw_m8 239 rfl) rfl
theorem q2020 : (Jvm.Cond.lays "CouncilStoreModel" "CouncilStoreModel" "deleted" "I") ∈ lw_all := lw_g (lw_at lw_m9 0 rfl) rfl
theorem q2021 : (Jvm.Cond.soleField "CouncilStoreModel" "deleted") ∈ lw_all := lw_g (lw_at lw_m9 1 rfl) rfl
theorem q2022 : (Jvm.Cond.lays "CouncilStoreModel" "CouncilStoreModel" "touched" "Z") ∈ lw_all := lw_g (lw_at lw_m9 2 rfl) rfl
theorem q2023 : (Jvm.Cond.soleField "CouncilStoreModel" "touched") ∈ lw_all := lw_g (lw_at lw_m9 3 rfl) rfl
theorem q2024 : (Jvm.Cond.laysFinal "CouncilStoreModel" "CouncilStoreModel" "way" "[I") ∈ lw_all := lw_g (lw_at lw_m9 4 rfl) rfl
theorem q2025 : (Jvm.Cond.soleField "CouncilStoreModel" "way") ∈ lw_all := lw_g (lw_at lw_m9 5 rfl) rfl
theorem q2026 : (Jvm.Cond.lays "CouncilStoreModel" "CouncilStoreModel" "greatest" "I") ∈ lw_all := lw_g (lw_at lw_m9 6 rfl) rfl
theorem q2027 : (Jvm.Cond.soleField "CouncilStoreModel" "greatest") ∈ lw_all := lw_g (lw_at lw_m9 7 rfl) rfl
theorem q2028 : (Jvm.Cond.laysFinal "CouncilStoreModel" "CouncilStoreModel" "eKey" "[I") ∈ lw_all := lw_g (lw_at lw_m9 8 rfl) rfl
theorem q2029 : (Jvm.Cond.soleField "CouncilStoreModel" "eKey") ∈ lw_all := lw_g (lw_at lw_m9 9 rfl) rfl
theorem q2030 : (Jvm.Cond.laysFinal "CouncilStoreModel" "CouncilStoreModel" "eKeyLong" "[I") ∈ lw_all := lw_g (lw_at lw_m9 10 rfl) rfl
theorem q2031 : (Jvm.Cond.soleField "CouncilStoreModel" "eKeyLong") ∈ lw_all := lw_g (lw_at lw_m9 11 rfl) rfl
theorem q2032 : (Jvm.Cond.laysFinal "CouncilStoreModel" "CouncilStoreModel" "eGone" "[Z") ∈ lw_all := lw_g (lw_at lw_m9 12 rfl) rfl
theorem q2033 : (Jvm.Cond.soleField "CouncilStoreModel" "eGone") ∈ lw_all := lw_g (lw_at lw_m9 13 rfl) rfl
theorem q2034 : (Jvm.Cond.laysFinal "CouncilStoreModel" "CouncilStoreModel" "old" "[[I") ∈ lw_all := lw_g (lw_at lw_m9 14 rfl) rfl
theorem q2035 : (Jvm.Cond.soleField "CouncilStoreModel" "old") ∈ lw_all := lw_g (lw_at lw_m9 15 rfl) rfl
theorem q2036 : (Jvm.Cond.lays "CouncilStoreModel" "CouncilStoreModel" "oldPairs" "I") ∈ lw_all := lw_g (lw_at lw_m9 16 rfl) rfl
theorem q2037 : (Jvm.Cond.soleField "CouncilStoreModel" "oldPairs") ∈ lw_all := lw_g (lw_at lw_m9 17 rfl) rfl
theorem q2038 : (Jvm.Cond.lays "CouncilStoreModel" "CouncilStoreModel" "events" "I") ∈ lw_all := lw_g (lw_at lw_m9 18 rfl) rfl
theorem q2039 : (Jvm.Cond.soleField "CouncilStoreModel" "events") ∈ lw_all := lw_g (lw_at lw_m9 19 rfl) rfl
theorem q2040 : (Jvm.Cond.superclass "CouncilStoreModel" "java/lang/Object") ∈ lw_all := lw_g (lw_at lw_m9 20 rfl) rfl
theorem q2043 : (Jvm.Cond.instanceMethod ({ cls := "CouncilStoreModel", name := "thrown", desc := "()I" } : Jvm.MethodName)) ∈ lw_all := lw_g (lw_at lw_m9 23 rfl) rfl
theorem q2044 : (Jvm.Cond.selects "CouncilStoreModel" ({ cls := "CouncilStoreModel", name := "thrown", desc := "()I" } : Jvm.MethodName) ({ cls := "CouncilStoreModel", name := "thrown", desc := "()I" } : Jvm.MethodName)) ∈ lw_all := lw_g (lw_at lw_m9 24 rfl) rfl
theorem q2045 : (Jvm.Cond.code ({ cls := "CouncilStoreModel", name := "thrown", desc := "()I" } : Jvm.MethodName) prog_19_method_2_code (1 : Nat) (Option.some Jvm.ClassFile.FieldType.int)) ∈ lw_all := lw_g (lw_at lw_m9 25 rfl) rfl
theorem q2047 : (Jvm.Cond.instanceMethod ({ cls := "CouncilStoreModel", name := "nodes", desc := "(I)V" } : Jvm.MethodName)) ∈ lw_all := lw_g (lw_at lw_m9 27 rfl) rfl
theorem q2048 : (Jvm.Cond.selects "CouncilStoreModel" ({ cls := "CouncilStoreModel", name := "nodes", desc := "(I)V" } : Jvm.MethodName) ({ cls := "CouncilStoreModel", name := "nodes", desc := "(I)V" } : Jvm.MethodName)) ∈ lw_all := lw_g (lw_at lw_m9 28 rfl) rfl
theorem q2049 : (Jvm.Cond.code ({ cls := "CouncilStoreModel", name := "nodes", desc := "(I)V" } : Jvm.MethodName) prog_19_method_4_code (3 : Nat) (Option.none : Option Jvm.ClassFile.FieldType)) ∈ lw_all := lw_g (lw_at lw_m9 29 rfl) rfl
theorem q2050 : (Jvm.Cond.methodLink "CouncilStoreModel" (348 : Nat) ({ cls := "CouncilStoreModel", name := "clearDraft", desc := "()V" } : Jvm.MethodName)) ∈ lw_all := lw_g (lw_at lw_m9 30 rfl) rfl
theorem q2051 : (Jvm.Cond.privateMethod ({ cls := "CouncilStoreModel", name := "clearDraft", desc := "()V" } : Jvm.MethodName)) ∈ lw_tbl := lw_at lw_m9 31 rfl
theorem q2052 : (Jvm.Cond.instanceMethod ({ cls := "CouncilStoreModel", name := "clearDraft", desc := "()V" } : Jvm.MethodName)) ∈ lw_all := lw_g (lw_at lw_m9 32 rfl) rfl
theorem q2053 : (Jvm.Cond.code ({ cls := "CouncilStoreModel", name := "clearDraft", desc := "()V" } : Jvm.MethodName) prog_19_method_5_code (1 : Nat) (Option.none : Option Jvm.ClassFile.FieldType)) ∈ lw_all := lw_g (lw_at lw_m9 33 rfl) rfl
theorem q2054 : (Jvm.Cond.methodLink "CouncilStoreModel" (351 : Nat) ({ cls := "CouncilStoreModel", name := "begin", desc := "(I)V" } : Jvm.MethodName)) ∈ lw_all := lw_g (lw_at lw_m9 34 rfl) rfl
theorem q2055 : (Jvm.Cond.privateMethod ({ cls := "CouncilStoreModel", name := "begin", desc := "(I)V" } : Jvm.MethodName)) ∈ lw_tbl := lw_at lw_m9 35 rfl
theorem q2056 : (Jvm.Cond.instanceMethod ({ cls := "CouncilStoreModel", name := "begin", desc := "(I)V" } : Jvm.MethodName)) ∈ lw_all := lw_g (lw_at lw_m9 36 rfl) rfl
theorem q2057 : (Jvm.Cond.code ({ cls := "CouncilStoreModel", name := "begin", desc := "(I)V" } : Jvm.MethodName) prog_19_method_6_code (3 : Nat) (Option.none : Option Jvm.ClassFile.FieldType)) ∈ lw_all := lw_g (lw_at lw_m9 37 rfl) rfl
theorem q2059 : (Jvm.Cond.instanceMethod ({ cls := "CouncilStoreModel", name := "feed", desc := "(IIIII)I" } : Jvm.MethodName)) ∈ lw_all := lw_g (lw_at lw_m9 39 rfl) rfl
theorem q2060 : (Jvm.Cond.selects "CouncilStoreModel" ({ cls := "CouncilStoreModel", name := "feed", desc := "(IIIII)I" } : Jvm.MethodName) ({ cls := "CouncilStoreModel", name := "feed", desc := "(IIIII)I" } : Jvm.MethodName)) ∈ lw_all := lw_g (lw_at lw_m9 40 rfl) rfl
theorem q2061 : (Jvm.Cond.code ({ cls := "CouncilStoreModel", name := "feed", desc := "(IIIII)I" } : Jvm.MethodName) prog_19_method_7_code (7 : Nat) (Option.some Jvm.ClassFile.FieldType.int)) ∈ lw_all := lw_g (lw_at lw_m9 41 rfl) rfl
theorem q2062 : (Jvm.Cond.methodLink "CouncilStoreModel" (370 : Nat) ({ cls := "CouncilStoreModel", name := "no", desc := "(I)I" } : Jvm.MethodName)) ∈ lw_all := lw_g (lw_at lw_m9 42 rfl) rfl
theorem q2063 : (Jvm.Cond.privateMethod ({ cls := "CouncilStoreModel", name := "no", desc := "(I)I" } : Jvm.MethodName)) ∈ lw_tbl := lw_at lw_m9 43 rfl
theorem q2064 : (Jvm.Cond.instanceMethod ({ cls := "CouncilStoreModel", name := "no", desc := "(I)I" } : Jvm.MethodName)) ∈ lw_all := lw_g (lw_at lw_m9 44 rfl) rfl
theorem q2065 : (Jvm.Cond.code ({ cls := "CouncilStoreModel", name := "no", desc := "(I)I" } : Jvm.MethodName) prog_19_method_3_code (2 : Nat) (Option.some Jvm.ClassFile.FieldType.int)) ∈ lw_all := lw_g (lw_at lw_m9 45 rfl) rfl
theorem q2067 : (Jvm.Cond.instanceMethod ({ cls := "CouncilStoreModel", name := "end", desc := "(I)I" } : Jvm.MethodName)) ∈ lw_all := lw_g (lw_at lw_m9 47 rfl) rfl
theorem q2068 : (Jvm.Cond.selects "CouncilStoreModel" ({ cls := "CouncilStoreModel", name := "end", desc := "(I)I" } : Jvm.MethodName) ({ cls := "CouncilStoreModel", name := "end", desc := "(I)I" } : Jvm.MethodName)) ∈ lw_all := lw_g (lw_at lw_m9 48 rfl) rfl
theorem q2069 : (Jvm.Cond.code ({ cls := "CouncilStoreModel", name := "end", desc := "(I)I" } : Jvm.MethodName) prog_19_method_8_code (4 : Nat) (Option.some Jvm.ClassFile.FieldType.int)) ∈ lw_all := lw_g (lw_at lw_m9 49 rfl) rfl
theorem q2071 : (Jvm.Cond.instanceMethod ({ cls := "CouncilStoreModel", name := "when", desc := "(III)V" } : Jvm.MethodName)) ∈ lw_all := lw_g (lw_at lw_m9 51 rfl) rfl
theorem q2072 : (Jvm.Cond.selects "CouncilStoreModel" ({ cls := "CouncilStoreModel", name := "when", desc := "(III)V" } : Jvm.MethodName) ({ cls := "CouncilStoreModel", name := "when", desc := "(III)V" } : Jvm.MethodName)) ∈ lw_all := lw_g (lw_at lw_m9 52 rfl) rfl
theorem q2073 : (Jvm.Cond.code ({ cls := "CouncilStoreModel", name := "when", desc := "(III)V" } : Jvm.MethodName) prog_19_method_13_code (5 : Nat) (Option.none : Option Jvm.ClassFile.FieldType)) ∈ lw_all := lw_g (lw_at lw_m9 53 rfl) rfl
theorem q2074 : (Jvm.Cond.methodLink "CouncilStoreModel" (378 : Nat) ({ cls := "CouncilStoreModel", name := "taken", desc := "()I" } : Jvm.MethodName)) ∈ lw_all := lw_g (lw_at lw_m9 54 rfl) rfl
theorem q2075 : (Jvm.Cond.privateMethod ({ cls := "CouncilStoreModel", name := "taken", desc := "()I" } : Jvm.MethodName)) ∈ lw_tbl := lw_at lw_m9 55 rfl
theorem q2076 : (Jvm.Cond.instanceMethod ({ cls := "CouncilStoreModel", name := "taken", desc := "()I" } : Jvm.MethodName)) ∈ lw_all := lw_g (lw_at lw_m9 56 rfl) rfl
theorem q2077 : (Jvm.Cond.code ({ cls := "CouncilStoreModel", name := "taken", desc := "()I" } : Jvm.MethodName) prog_19_method_9_code (2 : Nat) (Option.some Jvm.ClassFile.FieldType.int)) ∈ lw_all := lw_g (lw_at lw_m9 57 rfl) rfl
theorem q2078 : (Jvm.Cond.methodLink "CouncilStoreModel" (382 : Nat) ({ cls := "CouncilStoreModel", name := "isKey", desc := "(I)Z" } : Jvm.MethodName)) ∈ lw_all := lw_g (lw_at lw_m9 58 rfl) rfl
theorem q2079 : (Jvm.Cond.static ({ cls := "CouncilStoreModel", name := "isKey", desc := "(I)Z" } : Jvm.MethodName)) ∈ lw_all := lw_g (lw_at lw_m9 59 rfl) rfl
theorem q2080 : (Jvm.Cond.code ({ cls := "CouncilStoreModel", name := "isKey", desc := "(I)Z" } : Jvm.MethodName) prog_19_method_10_code (1 : Nat) (Option.some Jvm.ClassFile.FieldType.boolean)) ∈ lw_all := lw_g (lw_at lw_m9 60 rfl) rfl
theorem q2081 : (Jvm.Cond.methodLink "CouncilStoreModel" (386 : Nat) ({ cls := "CouncilStoreModel", name := "part", desc := "(IIIIII)V" } : Jvm.MethodName)) ∈ lw_all := lw_g (lw_at lw_m9 61 rfl) rfl
theorem q2082 : (Jvm.Cond.privateMethod ({ cls := "CouncilStoreModel", name := "part", desc := "(IIIIII)V" } : Jvm.MethodName)) ∈ lw_tbl := lw_at lw_m9 62 rfl
theorem q2083 : (Jvm.Cond.instanceMethod ({ cls := "CouncilStoreModel", name := "part", desc := "(IIIIII)V" } : Jvm.MethodName)) ∈ lw_all := lw_g (lw_at lw_m9 63 rfl) rfl
theorem q2084 : (Jvm.Cond.code ({ cls := "CouncilStoreModel", name := "part", desc := "(IIIIII)V" } : Jvm.MethodName) prog_19_method_12_code (7 : Nat) (Option.none : Option Jvm.ClassFile.FieldType)) ∈ lw_all := lw_g (lw_at lw_m9 64 rfl) rfl
theorem q2085 : (Jvm.Cond.methodLink "CouncilStoreModel" (374 : Nat) ({ cls := "CouncilStoreModel", name := "keep", desc := "([BI)I" } : Jvm.MethodName)) ∈ lw_all := lw_g (lw_at lw_m9 65 rfl) rfl
theorem q2086 : (Jvm.Cond.privateMethod ({ cls := "CouncilStoreModel", name := "keep", desc := "([BI)I" } : Jvm.MethodName)) ∈ lw_tbl := lw_at lw_m9 66 rfl
theorem q2087 : (Jvm.Cond.instanceMethod ({ cls := "CouncilStoreModel", name := "keep", desc := "([BI)I" } : Jvm.MethodName)) ∈ lw_all := lw_g (lw_at lw_m9 67 rfl) rfl
theorem q2088 : (Jvm.Cond.code ({ cls := "CouncilStoreModel", name := "keep", desc := "([BI)I" } : Jvm.MethodName) prog_19_method_11_code (4 : Nat) (Option.some Jvm.ClassFile.FieldType.int)) ∈ lw_all := lw_g (lw_at lw_m9 68 rfl) rfl
theorem q2090 : (Jvm.Cond.instanceMethod ({ cls := "CouncilStoreModel", name := "put", desc := "(II)V" } : Jvm.MethodName)) ∈ lw_all := lw_g (lw_at lw_m9 70 rfl) rfl
theorem q2091 : (Jvm.Cond.selects "CouncilStoreModel" ({ cls := "CouncilStoreModel", name := "put", desc := "(II)V" } : Jvm.MethodName) ({ cls := "CouncilStoreModel", name := "put", desc := "(II)V" } : Jvm.MethodName)) ∈ lw_all := lw_g (lw_at lw_m9 71 rfl) rfl
theorem q2092 : (Jvm.Cond.code ({ cls := "CouncilStoreModel", name := "put", desc := "(II)V" } : Jvm.MethodName) prog_19_method_15_code (4 : Nat) (Option.none : Option Jvm.ClassFile.FieldType)) ∈ lw_all := lw_g (lw_at lw_m9 72 rfl) rfl
theorem q2093 : (Jvm.Cond.methodLink "CouncilStoreModel" (390 : Nat) ({ cls := "CouncilStoreModel", name := "step", desc := "(IIIII)V" } : Jvm.MethodName)) ∈ lw_all := lw_g (lw_at lw_m9 73 rfl) rfl
theorem q2094 : (Jvm.Cond.privateMethod ({ cls := "CouncilStoreModel", name := "step", desc := "(IIIII)V" } : Jvm.MethodName)) ∈ lw_tbl := lw_at lw_m9 74 rfl
theorem q2095 : (Jvm.Cond.instanceMethod ({ cls := "CouncilStoreModel", name := "step", desc := "(IIIII)V" } : Jvm.MethodName)) ∈ lw_all := lw_g (lw_at lw_m9 75 rfl) rfl
theorem q2096 : (Jvm.Cond.code ({ cls := "CouncilStoreModel", name := "step", desc := "(IIIII)V" } : Jvm.MethodName) prog_19_method_14_code (7 : Nat) (Option.none : Option Jvm.ClassFile.FieldType)) ∈ lw_all := lw_g (lw_at lw_m9 76 rfl) rfl
theorem q2098 : (Jvm.Cond.instanceMethod ({ cls := "CouncilStoreModel", name := "erase", desc := "(I)V" } : Jvm.MethodName)) ∈ lw_all := lw_g (lw_at lw_m9 78 rfl) rfl
theorem q2099 : (Jvm.Cond.selects "CouncilStoreModel" ({ cls := "CouncilStoreModel", name := "erase", desc := "(I)V" } : Jvm.MethodName) ({ cls := "CouncilStoreModel", name := "erase", desc := "(I)V" } : Jvm.MethodName)) ∈ lw_all := lw_g (lw_at lw_m9 79 rfl) rfl
theorem q2100 : (Jvm.Cond.code ({ cls := "CouncilStoreModel", name := "erase", desc := "(I)V" } : Jvm.MethodName) prog_19_method_16_code (3 : Nat) (Option.none : Option Jvm.ClassFile.FieldType)) ∈ lw_all := lw_g (lw_at lw_m9 80 rfl) rfl
theorem q2102 : (Jvm.Cond.instanceMethod ({ cls := "CouncilStoreModel", name := "lease", desc := "(IIZ)V" } : Jvm.MethodName)) ∈ lw_all := lw_g (lw_at lw_m9 82 rfl) rfl
theorem q2103 : (Jvm.Cond.selects "CouncilStoreModel" ({ cls := "CouncilStoreModel", name := "lease", desc := "(IIZ)V" } : Jvm.MethodName) ({ cls := "CouncilStoreModel", name := "lease", desc := "(IIZ)V" } : Jvm.MethodName)) ∈ lw_all := lw_g (lw_at lw_m9 83 rfl) rfl
theorem q2104 : (Jvm.Cond.code ({ cls := "CouncilStoreModel", name := "lease", desc := "(IIZ)V" } : Jvm.MethodName) prog_19_method_17_code (5 : Nat) (Option.none : Option Jvm.ClassFile.FieldType)) ∈ lw_all := lw_g (lw_at lw_m9 84 rfl) rfl
theorem q2106 : (Jvm.Cond.instanceMethod ({ cls := "CouncilStoreModel", name := "forget", desc := "()V" } : Jvm.MethodName)) ∈ lw_all := lw_g (lw_at lw_m9 86 rfl) rfl
theorem q2107 : (Jvm.Cond.selects "CouncilStoreModel" ({ cls := "CouncilStoreModel", name := "forget", desc := "()V" } : Jvm.MethodName) ({ cls := "CouncilStoreModel", name := "forget", desc := "()V" } : Jvm.MethodName)) ∈ lw_all := lw_g (lw_at lw_m9 87 rfl) rfl
theorem q2108 : (Jvm.Cond.code ({ cls := "CouncilStoreModel", name := "forget", desc := "()V" } : Jvm.MethodName) prog_19_method_18_code (1 : Nat) (Option.none : Option Jvm.ClassFile.FieldType)) ∈ lw_all := lw_g (lw_at lw_m9 88 rfl) rfl
theorem q2110 : (Jvm.Cond.instanceMethod ({ cls := "CouncilStoreModel", name := "propose", desc := "(I)I" } : Jvm.MethodName)) ∈ lw_all := lw_g (lw_at lw_m9 90 rfl) rfl
theorem q2111 : (Jvm.Cond.selects "CouncilStoreModel" ({ cls := "CouncilStoreModel", name := "propose", desc := "(I)I" } : Jvm.MethodName) ({ cls := "CouncilStoreModel", name := "propose", desc := "(I)I" } : Jvm.MethodName)) ∈ lw_all := lw_g (lw_at lw_m9 91 rfl) rfl
theorem q2112 : (Jvm.Cond.code ({ cls := "CouncilStoreModel", name := "propose", desc := "(I)I" } : Jvm.MethodName) prog_19_method_62_code (2 : Nat) (Option.some Jvm.ClassFile.FieldType.int)) ∈ lw_all := lw_g (lw_at lw_m9 92 rfl) rfl
theorem q2113 : (Jvm.Cond.methodLink "CouncilStoreModel" (532 : Nat) ({ cls := "CouncilStoreModel", name := "up", desc := "(I)Z" } : Jvm.MethodName)) ∈ lw_all := lw_g (lw_at lw_m9 93 rfl) rfl
theorem q2114 : (Jvm.Cond.privateMethod ({ cls := "CouncilStoreModel", name := "up", desc := "(I)Z" } : Jvm.MethodName)) ∈ lw_tbl := lw_at lw_m9 94 rfl
theorem q2115 : (Jvm.Cond.instanceMethod ({ cls := "CouncilStoreModel", name := "up", desc := "(I)Z" } : Jvm.MethodName)) ∈ lw_all := lw_g (lw_at lw_m9 95 rfl) rfl
theorem q2116 : (Jvm.Cond.code ({ cls := "CouncilStoreModel", name := "up", desc := "(I)Z" } : Jvm.MethodName) prog_19_method_61_code (2 : Nat) (Option.some Jvm.ClassFile.FieldType.boolean)) ∈ lw_all := lw_g (lw_at lw_m9 96 rfl) rfl
theorem q2117 : (Jvm.Cond.constant "CouncilStoreModel" (535 : Nat) (40000 : Int32)) ∈ lw_all := lw_g (lw_at lw_m9 97 rfl) rfl
theorem q2118 : (Jvm.Cond.methodLink "CouncilStoreModel" (536 : Nat) ({ cls := "CouncilStoreModel", name := "fromDraft", desc := "(I)I" } : Jvm.MethodName)) ∈ lw_all := lw_g (lw_at lw_m9 98 rfl) rfl
theorem q2119 : (Jvm.Cond.privateMethod ({ cls := "CouncilStoreModel", name := "fromDraft", desc := "(I)I" } : Jvm.MethodName)) ∈ lw_tbl := lw_at lw_m9 99 rfl
theorem q2120 : (Jvm.Cond.instanceMethod ({ cls := "CouncilStoreModel", name := "fromDraft", desc := "(I)I" } : Jvm.MethodName)) ∈ lw_all := lw_g (lw_at lw_m9 100 rfl) rfl
theorem q2121 : (Jvm.Cond.code ({ cls := "CouncilStoreModel", name := "fromDraft", desc := "(I)I" } : Jvm.MethodName) prog_19_method_19_code (6 : Nat) (Option.some Jvm.ClassFile.FieldType.int)) ∈ lw_all := lw_g (lw_at lw_m9 101 rfl) rfl
theorem q2122 : (Jvm.Cond.methodLink "CouncilStoreModel" (498 : Nat) ({ cls := "CouncilStoreModel", name := "add", desc := "(III)V" } : Jvm.MethodName)) ∈ lw_all := lw_g (lw_at lw_m9 102 rfl) rfl
theorem q2123 : (Jvm.Cond.privateMethod ({ cls := "CouncilStoreModel", name := "add", desc := "(III)V" } : Jvm.MethodName)) ∈ lw_tbl := lw_at lw_m9 103 rfl
theorem q2124 : (Jvm.Cond.instanceMethod ({ cls := "CouncilStoreModel", name := "add", desc := "(III)V" } : Jvm.MethodName)) ∈ lw_all := lw_g (lw_at lw_m9 104 rfl) rfl
theorem q2125 : (Jvm.Cond.code ({ cls := "CouncilStoreModel", name := "add", desc := "(III)V" } : Jvm.MethodName) prog_19_method_39_code (4 : Nat) (Option.none : Option Jvm.ClassFile.FieldType)) ∈ lw_all := lw_g (lw_at lw_m9 105 rfl) rfl
theorem q2126 : (Jvm.Cond.methodLink "CouncilStoreModel" (458 : Nat) ({ cls := "CouncilStoreModel", name := "record", desc := "(IIIII)V" } : Jvm.MethodName)) ∈ lw_all := lw_g (lw_at lw_m9 106 rfl) rfl
theorem q2127 : (Jvm.Cond.privateMethod ({ cls := "CouncilStoreModel", name := "record", desc := "(IIIII)V" } : Jvm.MethodName)) ∈ lw_tbl := lw_at lw_m9 107 rfl
theorem q2128 : (Jvm.Cond.instanceMethod ({ cls := "CouncilStoreModel", name := "record", desc := "(IIIII)V" } : Jvm.MethodName)) ∈ lw_all := lw_g (lw_at lw_m9 108 rfl) rfl
theorem q2129 : (Jvm.Cond.code ({ cls := "CouncilStoreModel", name := "record", desc := "(IIIII)V" } : Jvm.MethodName) prog_19_method_36_code (6 : Nat) (Option.none : Option Jvm.ClassFile.FieldType)) ∈ lw_all := lw_g (lw_at lw_m9 109 rfl) rfl
theorem q2130 : (Jvm.Cond.methodLink "CouncilStoreModel" (501 : Nat) ({ cls := "CouncilStoreModel", name := "appendAll", desc := "(I)V" } : Jvm.MethodName)) ∈ lw_all := lw_g (lw_at lw_m9 110 rfl) rfl
theorem q2131 : (Jvm.Cond.privateMethod ({ cls := "CouncilStoreModel", name := "appendAll", desc := "(I)V" } : Jvm.MethodName)) ∈ lw_tbl := lw_at lw_m9 111 rfl
theorem q2132 : (Jvm.Cond.instanceMethod ({ cls := "CouncilStoreModel", name := "appendAll", desc := "(I)V" } : Jvm.MethodName)) ∈ lw_all := lw_g (lw_at lw_m9 112 rfl) rfl
theorem q2133 : (Jvm.Cond.code ({ cls := "CouncilStoreModel", name := "appendAll", desc := "(I)V" } : Jvm.MethodName) prog_19_method_48_code (3 : Nat) (Option.none : Option Jvm.ClassFile.FieldType)) ∈ lw_all := lw_g (lw_at lw_m9 113 rfl) rfl
theorem q2134 : (Jvm.Cond.methodLink "CouncilStoreModel" (478 : Nat) ({ cls := "CouncilStoreModel", name := "append", desc := "(II)V" } : Jvm.MethodName)) ∈ lw_all := lw_g (lw_at lw_m9 114 rfl) rfl
theorem q2135 : (Jvm.Cond.privateMethod ({ cls := "CouncilStoreModel", name := "append", desc := "(II)V" } : Jvm.MethodName)) ∈ lw_tbl := lw_at lw_m9 115 rfl
theorem q2136 : (Jvm.Cond.instanceMethod ({ cls := "CouncilStoreModel", name := "append", desc := "(II)V" } : Jvm.MethodName)) ∈ lw_all := lw_g (lw_at lw_m9 116 rfl) rfl
theorem q2137 : (Jvm.Cond.code ({ cls := "CouncilStoreModel", name := "append", desc := "(II)V" } : Jvm.MethodName) prog_19_method_47_code (6 : Nat) (Option.none : Option Jvm.ClassFile.FieldType)) ∈ lw_all := lw_g (lw_at lw_m9 117 rfl) rfl
theorem q2138 : (Jvm.Cond.methodLink "CouncilStoreModel" (471 : Nat) ({ cls := "CouncilStoreModel", name := "message", desc := "(III)I" } : Jvm.MethodName)) ∈ lw_all := lw_g (lw_at lw_m9 118 rfl) rfl
theorem q2139 : (Jvm.Cond.privateMethod ({ cls := "CouncilStoreModel", name := "message", desc := "(III)I" } : Jvm.MethodName)) ∈ lw_tbl := lw_at lw_m9 119 rfl
theorem q2140 : (Jvm.Cond.instanceMethod ({ cls := "CouncilStoreModel", name := "message", desc := "(III)I" } : Jvm.MethodName)) ∈ lw_all := lw_g (lw_at lw_m9 120 rfl) rfl
theorem q2141 : (Jvm.Cond.code ({ cls := "CouncilStoreModel", name := "message", desc := "(III)I" } : Jvm.MethodName) prog_19_method_44_code (5 : Nat) (Option.some Jvm.ClassFile.FieldType.int)) ∈ lw_all := lw_g (lw_at lw_m9 121 rfl) rfl
theorem q2142 : (Jvm.Cond.methodLink "CouncilStoreModel" (475 : Nat) ({ cls := "CouncilStoreModel", name := "send", desc := "(I)V" } : Jvm.MethodName)) ∈ lw_all := lw_g (lw_at lw_m9 122 rfl) rfl
theorem q2143 : (Jvm.Cond.privateMethod ({ cls := "CouncilStoreModel", name := "send", desc := "(I)V" } : Jvm.MethodName)) ∈ lw_tbl := lw_at lw_m9 123 rfl
theorem q2144 : (Jvm.Cond.instanceMethod ({ cls := "CouncilStoreModel", name := "send", desc := "(I)V" } : Jvm.MethodName)) ∈ lw_all := lw_g (lw_at lw_m9 124 rfl) rfl
theorem q2145 : (Jvm.Cond.code ({ cls := "CouncilStoreModel", name := "send", desc := "(I)V" } : Jvm.MethodName) prog_19_method_45_code (4 : Nat) (Option.none : Option Jvm.ClassFile.FieldType)) ∈ lw_all := lw_g (lw_at lw_m9 125 rfl) rfl
theorem q2146 : (Jvm.Cond.methodLink "CouncilStoreModel" (468 : Nat) ({ cls := "CouncilStoreModel", name := "toNet", desc := "(I)Z" } : Jvm.MethodName)) ∈ lw_all := lw_g (lw_at lw_m9 126 rfl) rfl
theorem q2147 : (Jvm.Cond.privateMethod ({ cls := "CouncilStoreModel", name := "toNet", desc := "(I)Z" } : Jvm.MethodName)) ∈ lw_tbl := lw_at lw_m9 127 rfl
theorem q2148 : (Jvm.Cond.instanceMethod ({ cls := "CouncilStoreModel", name := "toNet", desc := "(I)Z" } : Jvm.MethodName)) ∈ lw_all := lw_g (lw_at lw_m9 128 rfl) rfl
theorem q2149 : (Jvm.Cond.code ({ cls := "CouncilStoreModel", name := "toNet", desc := "(I)Z" } : Jvm.MethodName) prog_19_method_43_code (2 : Nat) (Option.some Jvm.ClassFile.FieldType.boolean)) ∈ lw_all := lw_g (lw_at lw_m9 129 rfl) rfl
theorem q2150 : (Jvm.Cond.methodLink "CouncilStoreModel" (461 : Nat) ({ cls := "CouncilStoreModel", name := "termAt", desc := "(II)I" } : Jvm.MethodName)) ∈ lw_all := lw_g (lw_at lw_m9 130 rfl) rfl
theorem q2151 : (Jvm.Cond.privateMethod ({ cls := "CouncilStoreModel", name := "termAt", desc := "(II)I" } : Jvm.MethodName)) ∈ lw_tbl := lw_at lw_m9 131 rfl
theorem q2152 : (Jvm.Cond.instanceMethod ({ cls := "CouncilStoreModel", name := "termAt", desc := "(II)I" } : Jvm.MethodName)) ∈ lw_all := lw_g (lw_at lw_m9 132 rfl) rfl
theorem q2153 : (Jvm.Cond.code ({ cls := "CouncilStoreModel", name := "termAt", desc := "(II)I" } : Jvm.MethodName) prog_19_method_38_code (3 : Nat) (Option.some Jvm.ClassFile.FieldType.int)) ∈ lw_all := lw_g (lw_at lw_m9 133 rfl) rfl
theorem q2155 : (Jvm.Cond.instanceMethod ({ cls := "CouncilStoreModel", name := "rise", desc := "(I)V" } : Jvm.MethodName)) ∈ lw_all := lw_g (lw_at lw_m9 135 rfl) rfl
theorem q2156 : (Jvm.Cond.selects "CouncilStoreModel" ({ cls := "CouncilStoreModel", name := "rise", desc := "(I)V" } : Jvm.MethodName) ({ cls := "CouncilStoreModel", name := "rise", desc := "(I)V" } : Jvm.MethodName)) ∈ lw_all := lw_g (lw_at lw_m9 136 rfl) rfl
theorem q2157 : (Jvm.Cond.code ({ cls := "CouncilStoreModel", name := "rise", desc := "(I)V" } : Jvm.MethodName) prog_19_method_63_code (4 : Nat) (Option.none : Option Jvm.ClassFile.FieldType)) ∈ lw_all := lw_g (lw_at lw_m9 137 rfl) rfl
theorem q2158 : (Jvm.Cond.methodLink "CouncilStoreModel" (482 : Nat) ({ cls := "CouncilStoreModel", name := "vote", desc := "(III)V" } : Jvm.MethodName)) ∈ lw_all := lw_g (lw_at lw_m9 138 rfl) rfl
theorem q2159 : (Jvm.Cond.privateMethod ({ cls := "CouncilStoreModel", name := "vote", desc := "(III)V" } : Jvm.MethodName)) ∈ lw_tbl := lw_at lw_m9 139 rfl
theorem q2160 : (Jvm.Cond.instanceMethod ({ cls := "CouncilStoreModel", name := "vote", desc := "(III)V" } : Jvm.MethodName)) ∈ lw_all := lw_g (lw_at lw_m9 140 rfl) rfl
theorem q2161 : (Jvm.Cond.code ({ cls := "CouncilStoreModel", name := "vote", desc := "(III)V" } : Jvm.MethodName) prog_19_method_37_code (4 : Nat) (Option.none : Option Jvm.ClassFile.FieldType)) ∈ lw_all := lw_g (lw_at lw_m9 141 rfl) rfl
theorem q2162 : (Jvm.Cond.methodLink "CouncilStoreModel" (519 : Nat) ({ cls := "CouncilStoreModel", name := "lead", desc := "(I)V" } : Jvm.MethodName)) ∈ lw_all := lw_g (lw_at lw_m9 142 rfl) rfl
theorem q2163 : (Jvm.Cond.privateMethod ({ cls := "CouncilStoreModel", name := "lead", desc := "(I)V" } : Jvm.MethodName)) ∈ lw_tbl := lw_at lw_m9 143 rfl
theorem q2164 : (Jvm.Cond.instanceMethod ({ cls := "CouncilStoreModel", name := "lead", desc := "(I)V" } : Jvm.MethodName)) ∈ lw_all := lw_g (lw_at lw_m9 144 rfl) rfl
theorem q2165 : (Jvm.Cond.code ({ cls := "CouncilStoreModel", name := "lead", desc := "(I)V" } : Jvm.MethodName) prog_19_method_52_code (3 : Nat) (Option.none : Option Jvm.ClassFile.FieldType)) ∈ lw_all := lw_g (lw_at lw_m9 145 rfl) rfl
theorem q2166 : (Jvm.Cond.methodLink "CouncilStoreModel" (495 : Nat) ({ cls := "CouncilStoreModel", name := "empty", desc := "(I)I" } : Jvm.MethodName)) ∈ lw_all := lw_g (lw_at lw_m9 146 rfl) rfl
theorem q2167 : (Jvm.Cond.privateMethod ({ cls := "CouncilStoreModel", name := "empty", desc := "(I)I" } : Jvm.MethodName)) ∈ lw_tbl := lw_at lw_m9 147 rfl
theorem q2168 : (Jvm.Cond.instanceMethod ({ cls := "CouncilStoreModel", name := "empty", desc := "(I)I" } : Jvm.MethodName)) ∈ lw_all := lw_g (lw_at lw_m9 148 rfl) rfl
theorem q2169 : (Jvm.Cond.code ({ cls := "CouncilStoreModel", name := "empty", desc := "(I)I" } : Jvm.MethodName) prog_19_method_20_code (3 : Nat) (Option.some Jvm.ClassFile.FieldType.int)) ∈ lw_all := lw_g (lw_at lw_m9 149 rfl) rfl
theorem q2171 : (Jvm.Cond.instanceMethod ({ cls := "CouncilStoreModel", name := "beat", desc := "(I)V" } : Jvm.MethodName)) ∈ lw_all := lw_g (lw_at lw_m9 151 rfl) rfl
theorem q2172 : (Jvm.Cond.selects "CouncilStoreModel" ({ cls := "CouncilStoreModel", name := "beat", desc := "(I)V" } : Jvm.MethodName) ({ cls := "CouncilStoreModel", name := "beat", desc := "(I)V" } : Jvm.MethodName)) ∈ lw_all := lw_g (lw_at lw_m9 152 rfl) rfl
theorem q2173 : (Jvm.Cond.code ({ cls := "CouncilStoreModel", name := "beat", desc := "(I)V" } : Jvm.MethodName) prog_19_method_64_code (2 : Nat) (Option.none : Option Jvm.ClassFile.FieldType)) ∈ lw_all := lw_g (lw_at lw_m9 153 rfl) rfl
theorem q2175 : (Jvm.Cond.instanceMethod ({ cls := "CouncilStoreModel", name := "sync", desc := "(I)I" } : Jvm.MethodName)) ∈ lw_all := lw_g (lw_at lw_m9 155 rfl) rfl
theorem q2176 : (Jvm.Cond.selects "CouncilStoreModel" ({ cls := "CouncilStoreModel", name := "sync", desc := "(I)I" } : Jvm.MethodName) ({ cls := "CouncilStoreModel", name := "sync", desc := "(I)I" } : Jvm.MethodName)) ∈ lw_all := lw_g (lw_at lw_m9 156 rfl) rfl
theorem q2177 : (Jvm.Cond.code ({ cls := "CouncilStoreModel", name := "sync", desc := "(I)I" } : Jvm.MethodName) prog_19_method_65_code (5 : Nat) (Option.some Jvm.ClassFile.FieldType.int)) ∈ lw_all := lw_g (lw_at lw_m9 157 rfl) rfl
theorem q2178 : (Jvm.Cond.methodLink "CouncilStoreModel" (539 : Nat) ({ cls := "CouncilStoreModel", name := "toDisk", desc := "(II)V" } : Jvm.MethodName)) ∈ lw_all := lw_g (lw_at lw_m9 158 rfl) rfl
theorem q2179 : (Jvm.Cond.privateMethod ({ cls := "CouncilStoreModel", name := "toDisk", desc := "(II)V" } : Jvm.MethodName)) ∈ lw_tbl := lw_at lw_m9 159 rfl
theorem q2180 : (Jvm.Cond.instanceMethod ({ cls := "CouncilStoreModel", name := "toDisk", desc := "(II)V" } : Jvm.MethodName)) ∈ lw_all := lw_g (lw_at lw_m9 160 rfl) rfl
theorem q2181 : (Jvm.Cond.code ({ cls := "CouncilStoreModel", name := "toDisk", desc := "(II)V" } : Jvm.MethodName) prog_19_method_42_code (6 : Nat) (Option.none : Option Jvm.ClassFile.FieldType)) ∈ lw_all := lw_g (lw_at lw_m9 161 rfl) rfl
theorem q2182 : (Jvm.Cond.methodLink "CouncilStoreModel" (465 : Nat) ({ cls := "CouncilStoreModel", name := "onDisk", desc := "(I)V" } : Jvm.MethodName)) ∈ lw_all := lw_g (lw_at lw_m9 162 rfl) rfl
theorem q2183 : (Jvm.Cond.privateMethod ({ cls := "CouncilStoreModel", name := "onDisk", desc := "(I)V" } : Jvm.MethodName)) ∈ lw_tbl := lw_at lw_m9 163 rfl
theorem q2184 : (Jvm.Cond.instanceMethod ({ cls := "CouncilStoreModel", name := "onDisk", desc := "(I)V" } : Jvm.MethodName)) ∈ lw_all := lw_g (lw_at lw_m9 164 rfl) rfl
theorem q2185 : (Jvm.Cond.code ({ cls := "CouncilStoreModel", name := "onDisk", desc := "(I)V" } : Jvm.MethodName) prog_19_method_41_code (5 : Nat) (Option.none : Option Jvm.ClassFile.FieldType)) ∈ lw_all := lw_g (lw_at lw_m9 165 rfl) rfl
theorem q2186 : (Jvm.Cond.methodLink "CouncilStoreModel" (522 : Nat) ({ cls := "CouncilStoreModel", name := "lookForCommit", desc := "(I)V" } : Jvm.MethodName)) ∈ lw_all := lw_g (lw_at lw_m9 166 rfl) rfl
theorem q2187 : (Jvm.Cond.privateMethod ({ cls := "CouncilStoreModel", name := "lookForCommit", desc := "(I)V" } : Jvm.MethodName)) ∈ lw_tbl := lw_at lw_m9 167 rfl
theorem q2188 : (Jvm.Cond.instanceMethod ({ cls := "CouncilStoreModel", name := "lookForCommit", desc := "(I)V" } : Jvm.MethodName)) ∈ lw_all := lw_g (lw_at lw_m9 168 rfl) rfl
theorem q2189 : (Jvm.Cond.code ({ cls := "CouncilStoreModel", name := "lookForCommit", desc := "(I)V" } : Jvm.MethodName) prog_19_method_54_code (5 : Nat) (Option.none : Option Jvm.ClassFile.FieldType)) ∈ lw_all := lw_g (lw_at lw_m9 169 rfl) rfl
theorem q2190 : (Jvm.Cond.methodLink "CouncilStoreModel" (504 : Nat) ({ cls := "CouncilStoreModel", name := "applyTo", desc := "(II)V" } : Jvm.MethodName)) ∈ lw_all := lw_g (lw_at lw_m9 170 rfl) rfl
theorem q2191 : (Jvm.Cond.privateMethod ({ cls := "CouncilStoreModel", name := "applyTo", desc := "(II)V" } : Jvm.MethodName)) ∈ lw_tbl := lw_at lw_m9 171 rfl
theorem q2192 : (Jvm.Cond.instanceMethod ({ cls := "CouncilStoreModel", name := "applyTo", desc := "(II)V" } : Jvm.MethodName)) ∈ lw_all := lw_g (lw_at lw_m9 172 rfl) rfl
theorem q2193 : (Jvm.Cond.code ({ cls := "CouncilStoreModel", name := "applyTo", desc := "(II)V" } : Jvm.MethodName) prog_19_method_51_code (5 : Nat) (Option.none : Option Jvm.ClassFile.FieldType)) ∈ lw_all := lw_g (lw_at lw_m9 173 rfl) rfl
theorem q2194 : (Jvm.Cond.methodLink "CouncilStoreModel" (487 : Nat) ({ cls := "CouncilStoreModel", name := "extend", desc := "(II)I" } : Jvm.MethodName)) ∈ lw_all := lw_g (lw_at lw_m9 174 rfl) rfl
theorem q2195 : (Jvm.Cond.privateMethod ({ cls := "CouncilStoreModel", name := "extend", desc := "(II)I" } : Jvm.MethodName)) ∈ lw_tbl := lw_at lw_m9 175 rfl
theorem q2196 : (Jvm.Cond.instanceMethod ({ cls := "CouncilStoreModel", name := "extend", desc := "(II)I" } : Jvm.MethodName)) ∈ lw_all := lw_g (lw_at lw_m9 176 rfl) rfl
theorem q2197 : (Jvm.Cond.code ({ cls := "CouncilStoreModel", name := "extend", desc := "(II)I" } : Jvm.MethodName) prog_19_method_35_code (4 : Nat) (Option.some Jvm.ClassFile.FieldType.int)) ∈ lw_all := lw_g (lw_at lw_m9 177 rfl) rfl
theorem q2198 : (Jvm.Cond.methodLink "CouncilStoreModel" (490 : Nat) ({ cls := "java/lang/Math", name := "max", desc := "(II)I" } : Jvm.MethodName)) ∈ lw_all := lw_g (lw_at lw_m9 178 rfl) rfl
theorem q2202 : (Jvm.Cond.instanceMethod ({ cls := "CouncilStoreModel", name := "crash", desc := "(II)V" } : Jvm.MethodName)) ∈ lw_all := lw_g (lw_at lw_m9 182 rfl) rfl
theorem q2203 : (Jvm.Cond.selects "CouncilStoreModel" ({ cls := "CouncilStoreModel", name := "crash", desc := "(II)V" } : Jvm.MethodName) ({ cls := "CouncilStoreModel", name := "crash", desc := "(II)V" } : Jvm.MethodName)) ∈ lw_all := lw_g (lw_at lw_m9 183 rfl) rfl
theorem q2204 : (Jvm.Cond.code ({ cls := "CouncilStoreModel", name := "crash", desc := "(II)V" } : Jvm.MethodName) prog_19_method_66_code (5 : Nat) (Option.none : Option Jvm.ClassFile.FieldType)) ∈ lw_all := lw_g (lw_at lw_m9 184 rfl) rfl
theorem q2205 : (Jvm.Cond.methodLink "CouncilStoreModel" (484 : Nat) ({ cls := "CouncilStoreModel", name := "leave", desc := "(II)V" } : Jvm.MethodName)) ∈ lw_all := lw_g (lw_at lw_m9 185 rfl) rfl
theorem q2206 : (Jvm.Cond.privateMethod ({ cls := "CouncilStoreModel", name := "leave", desc := "(II)V" } : Jvm.MethodName)) ∈ lw_tbl := lw_at lw_m9 186 rfl
theorem q2207 : (Jvm.Cond.instanceMethod ({ cls := "CouncilStoreModel", name := "leave", desc := "(II)V" } : Jvm.MethodName)) ∈ lw_all := lw_g (lw_at lw_m9 187 rfl) rfl
theorem q2208 : (Jvm.Cond.code ({ cls := "CouncilStoreModel", name := "leave", desc := "(II)V" } : Jvm.MethodName) prog_19_method_49_code (4 : Nat) (Option.none : Option Jvm.ClassFile.FieldType)) ∈ lw_all := lw_g (lw_at lw_m9 188 rfl) rfl
theorem q2210 : (Jvm.Cond.instanceMethod ({ cls := "CouncilStoreModel", name := "start", desc := "(I)V" } : Jvm.MethodName)) ∈ lw_all := lw_g (lw_at lw_m9 190 rfl) rfl
theorem q2211 : (Jvm.Cond.selects "CouncilStoreModel" ({ cls := "CouncilStoreModel", name := "start", desc := "(I)V" } : Jvm.MethodName) ({ cls := "CouncilStoreModel", name := "start", desc := "(I)V" } : Jvm.MethodName)) ∈ lw_all := lw_g (lw_at lw_m9 191 rfl) rfl
theorem q2212 : (Jvm.Cond.code ({ cls := "CouncilStoreModel", name := "start", desc := "(I)V" } : Jvm.MethodName) prog_19_method_67_code (2 : Nat) (Option.none : Option Jvm.ClassFile.FieldType)) ∈ lw_all := lw_g (lw_at lw_m9 192 rfl) rfl
theorem q2214 : (Jvm.Cond.instanceMethod ({ cls := "CouncilStoreModel", name := "deliver", desc := "(IZ)V" } : Jvm.MethodName)) ∈ lw_all := lw_g (lw_at lw_m9 194 rfl) rfl
theorem q2215 : (Jvm.Cond.selects "CouncilStoreModel" ({ cls := "CouncilStoreModel", name := "deliver", desc := "(IZ)V" } : Jvm.MethodName) ({ cls := "CouncilStoreModel", name := "deliver", desc := "(IZ)V" } : Jvm.MethodName)) ∈ lw_all := lw_g (lw_at lw_m9 195 rfl) rfl
theorem q2216 : (Jvm.Cond.code ({ cls := "CouncilStoreModel", name := "deliver", desc := "(IZ)V" } : Jvm.MethodName) prog_19_method_68_code (6 : Nat) (Option.none : Option Jvm.ClassFile.FieldType)) ∈ lw_all := lw_g (lw_at lw_m9 196 rfl) rfl
theorem q2217 : (Jvm.Cond.methodLink "CouncilStoreModel" (516 : Nat) ({ cls := "CouncilStoreModel", name := "grants", desc := "(I)I" } : Jvm.MethodName)) ∈ lw_all := lw_g (lw_at lw_m9 197 rfl) rfl
theorem q2218 : (Jvm.Cond.privateMethod ({ cls := "CouncilStoreModel", name := "grants", desc := "(I)I" } : Jvm.MethodName)) ∈ lw_tbl := lw_at lw_m9 198 rfl
theorem q2219 : (Jvm.Cond.instanceMethod ({ cls := "CouncilStoreModel", name := "grants", desc := "(I)I" } : Jvm.MethodName)) ∈ lw_all := lw_g (lw_at lw_m9 199 rfl) rfl
theorem q2220 : (Jvm.Cond.code ({ cls := "CouncilStoreModel", name := "grants", desc := "(I)I" } : Jvm.MethodName) prog_19_method_53_code (4 : Nat) (Option.some Jvm.ClassFile.FieldType.int)) ∈ lw_all := lw_g (lw_at lw_m9 200 rfl) rfl
theorem q2221 : (Jvm.Cond.methodLink "CouncilStoreModel" (542 : Nat) ({ cls := "CouncilStoreModel", name := "drop", desc := "(I)V" } : Jvm.MethodName)) ∈ lw_all := lw_g (lw_at lw_m9 201 rfl) rfl
theorem q2222 : (Jvm.Cond.privateMethod ({ cls := "CouncilStoreModel", name := "drop", desc := "(I)V" } : Jvm.MethodName)) ∈ lw_tbl := lw_at lw_m9 202 rfl
theorem q2223 : (Jvm.Cond.instanceMethod ({ cls := "CouncilStoreModel", name := "drop", desc := "(I)V" } : Jvm.MethodName)) ∈ lw_all := lw_g (lw_at lw_m9 203 rfl) rfl
theorem q2224 : (Jvm.Cond.code ({ cls := "CouncilStoreModel", name := "drop", desc := "(I)V" } : Jvm.MethodName) prog_19_method_69_code (3 : Nat) (Option.none : Option Jvm.ClassFile.FieldType)) ∈ lw_all := lw_g (lw_at lw_m9 204 rfl) rfl
theorem q2225 : (Jvm.Cond.methodLink "CouncilStoreModel" (545 : Nat) ({ cls := "CouncilStoreModel", name := "newer", desc := "(II)V" } : Jvm.MethodName)) ∈ lw_all := lw_g (lw_at lw_m9 205 rfl) rfl
theorem q2226 : (Jvm.Cond.privateMethod ({ cls := "CouncilStoreModel", name := "newer", desc := "(II)V" } : Jvm.MethodName)) ∈ lw_tbl := lw_at lw_m9 206 rfl
theorem q2227 : (Jvm.Cond.instanceMethod ({ cls := "CouncilStoreModel", name := "newer", desc := "(II)V" } : Jvm.MethodName)) ∈ lw_all := lw_g (lw_at lw_m9 207 rfl) rfl
theorem q2228 : (Jvm.Cond.code ({ cls := "CouncilStoreModel", name := "newer", desc := "(II)V" } : Jvm.MethodName) prog_19_method_50_code (3 : Nat) (Option.none : Option Jvm.ClassFile.FieldType)) ∈ lw_all := lw_g (lw_at lw_m9 208 rfl) rfl
theorem q2229 : (Jvm.Cond.methodLink "CouncilStoreModel" (548 : Nat) ({ cls := "CouncilStoreModel", name := "asked", desc := "(II)V" } : Jvm.MethodName)) ∈ lw_all := lw_g (lw_at lw_m9 209 rfl) rfl
theorem q2230 : (Jvm.Cond.privateMethod ({ cls := "CouncilStoreModel", name := "asked", desc := "(II)V" } : Jvm.MethodName)) ∈ lw_tbl := lw_at lw_m9 210 rfl
theorem q2231 : (Jvm.Cond.instanceMethod ({ cls := "CouncilStoreModel", name := "asked", desc := "(II)V" } : Jvm.MethodName)) ∈ lw_all := lw_g (lw_at lw_m9 211 rfl) rfl
theorem q2232 : (Jvm.Cond.code ({ cls := "CouncilStoreModel", name := "asked", desc := "(II)V" } : Jvm.MethodName) prog_19_method_56_code (6 : Nat) (Option.none : Option Jvm.ClassFile.FieldType)) ∈ lw_all := lw_g (lw_at lw_m9 212 rfl) rfl
theorem q2233 : (Jvm.Cond.methodLink "CouncilStoreModel" (551 : Nat) ({ cls := "CouncilStoreModel", name := "answered", desc := "(II)V" } : Jvm.MethodName)) ∈ lw_all := lw_g (lw_at lw_m9 213 rfl) rfl
theorem q2234 : (Jvm.Cond.privateMethod ({ cls := "CouncilStoreModel", name := "answered", desc := "(II)V" } : Jvm.MethodName)) ∈ lw_tbl := lw_at lw_m9 214 rfl
theorem q2235 : (Jvm.Cond.instanceMethod ({ cls := "CouncilStoreModel", name := "answered", desc := "(II)V" } : Jvm.MethodName)) ∈ lw_all := lw_g (lw_at lw_m9 215 rfl) rfl
theorem q2236 : (Jvm.Cond.code ({ cls := "CouncilStoreModel", name := "answered", desc := "(II)V" } : Jvm.MethodName) prog_19_method_58_code (3 : Nat) (Option.none : Option Jvm.ClassFile.FieldType)) ∈ lw_all := lw_g (lw_at lw_m9 216 rfl) rfl
theorem q2237 : (Jvm.Cond.methodLink "CouncilStoreModel" (554 : Nat) ({ cls := "CouncilStoreModel", name := "appended", desc := "(II)V" } : Jvm.MethodName)) ∈ lw_all := lw_g (lw_at lw_m9 217 rfl) rfl
theorem q2238 : (Jvm.Cond.privateMethod ({ cls := "CouncilStoreModel", name := "appended", desc := "(II)V" } : Jvm.MethodName)) ∈ lw_tbl := lw_at lw_m9 218 rfl
theorem q2239 : (Jvm.Cond.instanceMethod ({ cls := "CouncilStoreModel", name := "appended", desc := "(II)V" } : Jvm.MethodName)) ∈ lw_all := lw_g (lw_at lw_m9 219 rfl) rfl
theorem q2240 : (Jvm.Cond.code ({ cls := "CouncilStoreModel", name := "appended", desc := "(II)V" } : Jvm.MethodName) prog_19_method_57_code (8 : Nat) (Option.none : Option Jvm.ClassFile.FieldType)) ∈ lw_all := lw_g (lw_at lw_m9 220 rfl) rfl
theorem q2241 : (Jvm.Cond.methodLink "CouncilStoreModel" (510 : Nat) ({ cls := "CouncilStoreModel", name := "taken", desc := "(IIZII)V" } : Jvm.MethodName)) ∈ lw_all := lw_g (lw_at lw_m9 221 rfl) rfl
theorem q2242 : (Jvm.Cond.privateMethod ({ cls := "CouncilStoreModel", name := "taken", desc := "(IIZII)V" } : Jvm.MethodName)) ∈ lw_tbl := lw_at lw_m9 222 rfl
theorem q2243 : (Jvm.Cond.instanceMethod ({ cls := "CouncilStoreModel", name := "taken", desc := "(IIZII)V" } : Jvm.MethodName)) ∈ lw_all := lw_g (lw_at lw_m9 223 rfl) rfl
theorem q2244 : (Jvm.Cond.code ({ cls := "CouncilStoreModel", name := "taken", desc := "(IIZII)V" } : Jvm.MethodName) prog_19_method_46_code (7 : Nat) (Option.none : Option Jvm.ClassFile.FieldType)) ∈ lw_all := lw_g (lw_at lw_m9 224 rfl) rfl
theorem q2245 : (Jvm.Cond.methodLink "CouncilStoreModel" (513 : Nat) ({ cls := "java/lang/Math", name := "min", desc := "(II)I" } : Jvm.MethodName)) ∈ lw_all := lw_g (lw_at lw_m9 225 rfl) rfl
theorem q2248 : (Jvm.Cond.methodLink "CouncilStoreModel" (557 : Nat) ({ cls := "CouncilStoreModel", name := "tookIn", desc := "(II)V" } : Jvm.MethodName)) ∈ lw_all := lw_g (lw_at lw_m9 228 rfl) rfl
theorem q2249 : (Jvm.Cond.privateMethod ({ cls := "CouncilStoreModel", name := "tookIn", desc := "(II)V" } : Jvm.MethodName)) ∈ lw_tbl := lw_at lw_m9 229 rfl
theorem q2250 : (Jvm.Cond.instanceMethod ({ cls := "CouncilStoreModel", name := "tookIn", desc := "(II)V" } : Jvm.MethodName)) ∈ lw_all := lw_g (lw_at lw_m9 230 rfl) rfl
theorem q2251 : (Jvm.Cond.code ({ cls := "CouncilStoreModel", name := "tookIn", desc := "(II)V" } : Jvm.MethodName) prog_19_method_59_code (5 : Nat) (Option.none : Option Jvm.ClassFile.FieldType)) ∈ lw_all := lw_g (lw_at lw_m9 231 rfl) rfl
theorem q2252 : (Jvm.Cond.methodLink "CouncilStoreModel" (525 : Nat) ({ cls := "CouncilStoreModel", name := "lookAtReads", desc := "(I)V" } : Jvm.MethodName)) ∈ lw_all := lw_g (lw_at lw_m9 232 rfl) rfl
theorem q2253 : (Jvm.Cond.privateMethod ({ cls := "CouncilStoreModel", name := "lookAtReads", desc := "(I)V" } : Jvm.MethodName)) ∈ lw_tbl := lw_at lw_m9 233 rfl
theorem q2254 : (Jvm.Cond.instanceMethod ({ cls := "CouncilStoreModel", name := "lookAtReads", desc := "(I)V" } : Jvm.MethodName)) ∈ lw_all := lw_g (lw_at lw_m9 234 rfl) rfl
theorem q2255 : (Jvm.Cond.code ({ cls := "CouncilStoreModel", name := "lookAtReads", desc := "(I)V" } : Jvm.MethodName) prog_19_method_55_code (5 : Nat) (Option.none : Option Jvm.ClassFile.FieldType)) ∈ lw_all := lw_g (lw_at lw_m9 235 rfl) rfl
theorem q2256 : (Jvm.Cond.methodLink "CouncilStoreModel" (507 : Nat) ({ cls := "CouncilStoreModel", name := "now", desc := "(I)V" } : Jvm.MethodName)) ∈ lw_all := lw_g (lw_at lw_m9 236 rfl) rfl
theorem q2257 : (Jvm.Cond.privateMethod ({ cls := "CouncilStoreModel", name := "now", desc := "(I)V" } : Jvm.MethodName)) ∈ lw_tbl := lw_at lw_m9 237 rfl
theorem q2258 : (Jvm.Cond.instanceMethod ({ cls := "CouncilStoreModel", name := "now", desc := "(I)V" } : Jvm.MethodName)) ∈ lw_all := lw_g (lw_at lw_m9 238 rfl) rfl
theorem q2259 : (Jvm.Cond.code ({ cls := "CouncilStoreModel", name := "now", desc := "(I)V" } : Jvm.MethodName) prog_19_method_34_code (2 : Nat) (Option.none : Option Jvm.ClassFile.FieldType)) ∈ lw_all := lw_g (lw_at lw_m9 239 rfl) rfl
theorem q2260 : (Jvm.Cond.methodLink "CouncilStoreModel" (454 : Nat) ({ cls := "CouncilStoreModel", name := "store", desc := "(III)V" } : Jvm.MethodName)) ∈ lw_all := lw_g (lw_at lw_m10 0 rfl) rfl
theorem q2261 : (Jvm.Cond.privateMethod ({ cls := "CouncilStoreModel", name := "store", desc := "(III)V" } : Jvm.MethodName)) ∈ lw_tbl := lw_at lw_m10 1 rfl
theorem q2262 : (Jvm.Cond.instanceMethod ({ cls := "CouncilStoreModel", name := "store", desc := "(III)V" } : Jvm.MethodName)) ∈ lw_all := lw_g (lw_at lw_m10 2 rfl) rfl
theorem q2263 : (Jvm.Cond.code ({ cls := "CouncilStoreModel", name := "store", desc := "(III)V" } : Jvm.MethodName) prog_19_method_33_code (7 : Nat) (Option.none : Option Jvm.ClassFile.FieldType)) ∈ lw_all := lw_g (lw_at lw_m10 3 rfl) rfl
theorem q2264 : (Jvm.Cond.methodLink "CouncilStoreModel" (436 : Nat) ({ cls := "CouncilStoreModel", name := "remember", desc := "()V" } : Jvm.MethodName)) ∈ lw_all := lw_g (lw_at lw_m10 4 rfl) rfl
theorem q2265 : (Jvm.Cond.privateMethod ({ cls := "CouncilStoreModel", name := "remember", desc := "()V" } : Jvm.MethodName)) ∈ lw_tbl := lw_at lw_m10 5 rfl
theorem q2266 : (Jvm.Cond.instanceMethod ({ cls := "CouncilStoreModel", name := "remember", desc := "()V" } : Jvm.MethodName)) ∈ lw_all := lw_g (lw_at lw_m10 6 rfl) rfl
theorem q2267 : (Jvm.Cond.code ({ cls := "CouncilStoreModel", name := "remember", desc := "()V" } : Jvm.MethodName) prog_19_method_25_code (3 : Nat) (Option.none : Option Jvm.ClassFile.FieldType)) ∈ lw_all := lw_g (lw_at lw_m10 7 rfl) rfl
theorem q2268 : (Jvm.Cond.methodLink "CouncilStoreModel" (401 : Nat) ({ cls := "CouncilStoreModel", name := "field", desc := "(I)[I" } : Jvm.MethodName)) ∈ lw_all := lw_g (lw_at lw_m10 8 rfl) rfl
theorem q2269 : (Jvm.Cond.privateMethod ({ cls := "CouncilStoreModel", name := "field", desc := "(I)[I" } : Jvm.MethodName)) ∈ lw_tbl := lw_at lw_m10 9 rfl
theorem q2270 : (Jvm.Cond.instanceMethod ({ cls := "CouncilStoreModel", name := "field", desc := "(I)[I" } : Jvm.MethodName)) ∈ lw_all := lw_g (lw_at lw_m10 10 rfl) rfl
theorem q2271 : (Jvm.Cond.code ({ cls := "CouncilStoreModel", name := "field", desc := "(I)[I" } : Jvm.MethodName) prog_19_method_24_code (2 : Nat) (Option.some (Jvm.ClassFile.FieldType.array Jvm.ClassFile.FieldType.int))) ∈ lw_all := lw_g (lw_at lw_m10 11 rfl) rfl
theorem q2272 : (Jvm.Cond.methodLink "CouncilStoreModel" (451 : Nat) ({ cls := "CouncilStoreModel", name := "apply", desc := "(I)V" } : Jvm.MethodName)) ∈ lw_all := lw_g (lw_at lw_m10 12 rfl) rfl
theorem q2273 : (Jvm.Cond.privateMethod ({ cls := "CouncilStoreModel", name := "apply", desc := "(I)V" } : Jvm.MethodName)) ∈ lw_tbl := lw_at lw_m10 13 rfl
theorem q2274 : (Jvm.Cond.instanceMethod ({ cls := "CouncilStoreModel", name := "apply", desc := "(I)V" } : Jvm.MethodName)) ∈ lw_all := lw_g (lw_at lw_m10 14 rfl) rfl
theorem q2275 : (Jvm.Cond.code ({ cls := "CouncilStoreModel", name := "apply", desc := "(I)V" } : Jvm.MethodName) prog_19_method_32_code (7 : Nat) (Option.none : Option Jvm.ClassFile.FieldType)) ∈ lw_all := lw_g (lw_at lw_m10 15 rfl) rfl
theorem q2276 : (Jvm.Cond.methodLink "CouncilStoreModel" (439 : Nat) ({ cls := "CouncilStoreModel", name := "holds", desc := "(I)Z" } : Jvm.MethodName)) ∈ lw_all := lw_g (lw_at lw_m10 16 rfl) rfl
theorem q2277 : (Jvm.Cond.privateMethod ({ cls := "CouncilStoreModel", name := "holds", desc := "(I)Z" } : Jvm.MethodName)) ∈ lw_tbl := lw_at lw_m10 17 rfl
theorem q2278 : (Jvm.Cond.instanceMethod ({ cls := "CouncilStoreModel", name := "holds", desc := "(I)Z" } : Jvm.MethodName)) ∈ lw_all := lw_g (lw_at lw_m10 18 rfl) rfl
theorem q2279 : (Jvm.Cond.code ({ cls := "CouncilStoreModel", name := "holds", desc := "(I)Z" } : Jvm.MethodName) prog_19_method_28_code (4 : Nat) (Option.some Jvm.ClassFile.FieldType.boolean)) ∈ lw_all := lw_g (lw_at lw_m10 19 rfl) rfl
theorem q2280 : (Jvm.Cond.methodLink "CouncilStoreModel" (408 : Nat) ({ cls := "CouncilStoreModel", name := "findPair", desc := "([BII)I" } : Jvm.MethodName)) ∈ lw_all := lw_g (lw_at lw_m10 20 rfl) rfl
theorem q2281 : (Jvm.Cond.privateMethod ({ cls := "CouncilStoreModel", name := "findPair", desc := "([BII)I" } : Jvm.MethodName)) ∈ lw_tbl := lw_at lw_m10 21 rfl
theorem q2282 : (Jvm.Cond.instanceMethod ({ cls := "CouncilStoreModel", name := "findPair", desc := "([BII)I" } : Jvm.MethodName)) ∈ lw_all := lw_g (lw_at lw_m10 22 rfl) rfl
theorem q2283 : (Jvm.Cond.code ({ cls := "CouncilStoreModel", name := "findPair", desc := "([BII)I" } : Jvm.MethodName) prog_19_method_22_code (5 : Nat) (Option.some Jvm.ClassFile.FieldType.int)) ∈ lw_all := lw_g (lw_at lw_m10 23 rfl) rfl
theorem q2284 : (Jvm.Cond.methodLink "CouncilStoreModel" (397 : Nat) ({ cls := "CouncilStoreModel", name := "compare", desc := "([BII[BII)I" } : Jvm.MethodName)) ∈ lw_all := lw_g (lw_at lw_m10 24 rfl) rfl
theorem q2285 : (Jvm.Cond.static ({ cls := "CouncilStoreModel", name := "compare", desc := "([BII[BII)I" } : Jvm.MethodName)) ∈ lw_all := lw_g (lw_at lw_m10 25 rfl) rfl
theorem q2286 : (Jvm.Cond.code ({ cls := "CouncilStoreModel", name := "compare", desc := "([BII[BII)I" } : Jvm.MethodName) prog_19_method_21_code (9 : Nat) (Option.some Jvm.ClassFile.FieldType.int)) ∈ lw_all := lw_g (lw_at lw_m10 26 rfl) rfl
theorem q2287 : (Jvm.Cond.methodLink "CouncilStoreModel" (445 : Nat) ({ cls := "CouncilStoreModel", name := "does", desc := "(I)Z" } : Jvm.MethodName)) ∈ lw_all := lw_g (lw_at lw_m10 27 rfl) rfl
theorem q2288 : (Jvm.Cond.privateMethod ({ cls := "CouncilStoreModel", name := "does", desc := "(I)Z" } : Jvm.MethodName)) ∈ lw_tbl := lw_at lw_m10 28 rfl
theorem q2289 : (Jvm.Cond.instanceMethod ({ cls := "CouncilStoreModel", name := "does", desc := "(I)Z" } : Jvm.MethodName)) ∈ lw_all := lw_g (lw_at lw_m10 29 rfl) rfl
theorem q2290 : (Jvm.Cond.code ({ cls := "CouncilStoreModel", name := "does", desc := "(I)Z" } : Jvm.MethodName) prog_19_method_29_code (4 : Nat) (Option.some Jvm.ClassFile.FieldType.boolean)) ∈ lw_all := lw_g (lw_at lw_m10 30 rfl) rfl
theorem q2291 : (Jvm.Cond.methodLink "CouncilStoreModel" (416 : Nat) ({ cls := "CouncilStoreModel", name := "puts", desc := "(II)Z" } : Jvm.MethodName)) ∈ lw_all := lw_g (lw_at lw_m10 31 rfl) rfl
theorem q2292 : (Jvm.Cond.privateMethod ({ cls := "CouncilStoreModel", name := "puts", desc := "(II)Z" } : Jvm.MethodName)) ∈ lw_tbl := lw_at lw_m10 32 rfl
theorem q2293 : (Jvm.Cond.instanceMethod ({ cls := "CouncilStoreModel", name := "puts", desc := "(II)Z" } : Jvm.MethodName)) ∈ lw_all := lw_g (lw_at lw_m10 33 rfl) rfl
theorem q2294 : (Jvm.Cond.code ({ cls := "CouncilStoreModel", name := "puts", desc := "(II)Z" } : Jvm.MethodName) prog_19_method_31_code (6 : Nat) (Option.some Jvm.ClassFile.FieldType.boolean)) ∈ lw_all := lw_g (lw_at lw_m10 34 rfl) rfl
theorem q2295 : (Jvm.Cond.methodLink "CouncilStoreModel" (420 : Nat) ({ cls := "CouncilStoreModel", name := "inRange", desc := "(I[BII[BII)Z" } : Jvm.MethodName)) ∈ lw_all := lw_g (lw_at lw_m10 35 rfl) rfl
theorem q2296 : (Jvm.Cond.privateMethod ({ cls := "CouncilStoreModel", name := "inRange", desc := "(I[BII[BII)Z" } : Jvm.MethodName)) ∈ lw_tbl := lw_at lw_m10 36 rfl
theorem q2297 : (Jvm.Cond.instanceMethod ({ cls := "CouncilStoreModel", name := "inRange", desc := "(I[BII[BII)Z" } : Jvm.MethodName)) ∈ lw_all := lw_g (lw_at lw_m10 37 rfl) rfl
theorem q2298 : (Jvm.Cond.code ({ cls := "CouncilStoreModel", name := "inRange", desc := "(I[BII[BII)Z" } : Jvm.MethodName) prog_19_method_23_code (9 : Nat) (Option.some Jvm.ClassFile.FieldType.boolean)) ∈ lw_all := lw_g (lw_at lw_m10 38 rfl) rfl
theorem q2299 : (Jvm.Cond.methodLink "CouncilStoreModel" (424 : Nat) ({ cls := "CouncilStoreModel", name := "gone", desc := "(I)V" } : Jvm.MethodName)) ∈ lw_all := lw_g (lw_at lw_m10 39 rfl) rfl
theorem q2300 : (Jvm.Cond.privateMethod ({ cls := "CouncilStoreModel", name := "gone", desc := "(I)V" } : Jvm.MethodName)) ∈ lw_tbl := lw_at lw_m10 40 rfl
theorem q2301 : (Jvm.Cond.instanceMethod ({ cls := "CouncilStoreModel", name := "gone", desc := "(I)V" } : Jvm.MethodName)) ∈ lw_all := lw_g (lw_at lw_m10 41 rfl) rfl
theorem q2302 : (Jvm.Cond.code ({ cls := "CouncilStoreModel", name := "gone", desc := "(I)V" } : Jvm.MethodName) prog_19_method_30_code (2 : Nat) (Option.none : Option Jvm.ClassFile.FieldType)) ∈ lw_all := lw_g (lw_at lw_m10 42 rfl) rfl
theorem q2303 : (Jvm.Cond.methodLink "CouncilStoreModel" (427 : Nat) ({ cls := "CouncilStoreModel", name := "remove", desc := "(I)V" } : Jvm.MethodName)) ∈ lw_all := lw_g (lw_at lw_m10 43 rfl) rfl
theorem q2304 : (Jvm.Cond.privateMethod ({ cls := "CouncilStoreModel", name := "remove", desc := "(I)V" } : Jvm.MethodName)) ∈ lw_tbl := lw_at lw_m10 44 rfl
theorem q2305 : (Jvm.Cond.instanceMethod ({ cls := "CouncilStoreModel", name := "remove", desc := "(I)V" } : Jvm.MethodName)) ∈ lw_all := lw_g (lw_at lw_m10 45 rfl) rfl
theorem q2306 : (Jvm.Cond.code ({ cls := "CouncilStoreModel", name := "remove", desc := "(I)V" } : Jvm.MethodName) prog_19_method_27_code (4 : Nat) (Option.none : Option Jvm.ClassFile.FieldType)) ∈ lw_all := lw_g (lw_at lw_m10 46 rfl) rfl
theorem q2307 : (Jvm.Cond.methodLink "CouncilStoreModel" (448 : Nat) ({ cls := "CouncilStoreModel", name := "back", desc := "()V" } : Jvm.MethodName)) ∈ lw_all := lw_g (lw_at lw_m10 47 rfl) rfl
theorem q2308 : (Jvm.Cond.privateMethod ({ cls := "CouncilStoreModel", name := "back", desc := "()V" } : Jvm.MethodName)) ∈ lw_tbl := lw_at lw_m10 48 rfl
theorem q2309 : (Jvm.Cond.instanceMethod ({ cls := "CouncilStoreModel", name := "back", desc := "()V" } : Jvm.MethodName)) ∈ lw_all := lw_g (lw_at lw_m10 49 rfl) rfl
theorem q2310 : (Jvm.Cond.code ({ cls := "CouncilStoreModel", name := "back", desc := "()V" } : Jvm.MethodName) prog_19_method_26_code (3 : Nat) (Option.none : Option Jvm.ClassFile.FieldType)) ∈ lw_all := lw_g (lw_at lw_m10 50 rfl) rfl
theorem q2311 : (Jvm.Cond.methodLink "CouncilStoreModel" (560 : Nat) ({ cls := "CouncilStoreModel", name := "stated", desc := "(II)V" } : Jvm.MethodName)) ∈ lw_all := lw_g (lw_at lw_m10 51 rfl) rfl
theorem q2312 : (Jvm.Cond.privateMethod ({ cls := "CouncilStoreModel", name := "stated", desc := "(II)V" } : Jvm.MethodName)) ∈ lw_tbl := lw_at lw_m10 52 rfl
theorem q2313 : (Jvm.Cond.instanceMethod ({ cls := "CouncilStoreModel", name := "stated", desc := "(II)V" } : Jvm.MethodName)) ∈ lw_all := lw_g (lw_at lw_m10 53 rfl) rfl
theorem q2314 : (Jvm.Cond.code ({ cls := "CouncilStoreModel", name := "stated", desc := "(II)V" } : Jvm.MethodName) prog_19_method_60_code (5 : Nat) (Option.none : Option Jvm.ClassFile.FieldType)) ∈ lw_all := lw_g (lw_at lw_m10 54 rfl) rfl
theorem q2315 : (Jvm.Cond.methodLink "CouncilStoreModel" (528 : Nat) ({ cls := "CouncilStoreModel", name := "snapshot", desc := "(IIII)V" } : Jvm.MethodName)) ∈ lw_all := lw_g (lw_at lw_m10 55 rfl) rfl
theorem q2316 : (Jvm.Cond.privateMethod ({ cls := "CouncilStoreModel", name := "snapshot", desc := "(IIII)V" } : Jvm.MethodName)) ∈ lw_tbl := lw_at lw_m10 56 rfl
theorem q2317 : (Jvm.Cond.instanceMethod ({ cls := "CouncilStoreModel", name := "snapshot", desc := "(IIII)V" } : Jvm.MethodName)) ∈ lw_all := lw_g (lw_at lw_m10 57 rfl) rfl
theorem q2318 : (Jvm.Cond.code ({ cls := "CouncilStoreModel", name := "snapshot", desc := "(IIII)V" } : Jvm.MethodName) prog_19_method_40_code (6 : Nat) (Option.none : Option Jvm.ClassFile.FieldType)) ∈ lw_all := lw_g (lw_at lw_m10 58 rfl) rfl
theorem q2320 : (Jvm.Cond.instanceMethod ({ cls := "CouncilStoreModel", name := "lose", desc := "(I)V" } : Jvm.MethodName)) ∈ lw_all := lw_g (lw_at lw_m10 60 rfl) rfl
theorem q2321 : (Jvm.Cond.selects "CouncilStoreModel" ({ cls := "CouncilStoreModel", name := "lose", desc := "(I)V" } : Jvm.MethodName) ({ cls := "CouncilStoreModel", name := "lose", desc := "(I)V" } : Jvm.MethodName)) ∈ lw_all := lw_g (lw_at lw_m10 61 rfl) rfl
theorem q2322 : (Jvm.Cond.code ({ cls := "CouncilStoreModel", name := "lose", desc := "(I)V" } : Jvm.MethodName) prog_19_method_70_code (2 : Nat) (Option.none : Option Jvm.ClassFile.FieldType)) ∈ lw_all := lw_g (lw_at lw_m10 62 rfl) rfl
theorem q2324 : (Jvm.Cond.instanceMethod ({ cls := "CouncilStoreModel", name := "snapshot", desc := "(I)I" } : Jvm.MethodName)) ∈ lw_all := lw_g (lw_at lw_m10 64 rfl) rfl
theorem q2325 : (Jvm.Cond.selects "CouncilStoreModel" ({ cls := "CouncilStoreModel", name := "snapshot", desc := "(I)I" } : Jvm.MethodName) ({ cls := "CouncilStoreModel", name := "snapshot", desc := "(I)I" } : Jvm.MethodName)) ∈ lw_all := lw_g (lw_at lw_m10 65 rfl) rfl
theorem q2326 : (Jvm.Cond.code ({ cls := "CouncilStoreModel", name := "snapshot", desc := "(I)I" } : Jvm.MethodName) prog_19_method_71_code (2 : Nat) (Option.some Jvm.ClassFile.FieldType.int)) ∈ lw_all := lw_g (lw_at lw_m10 66 rfl) rfl
theorem q2328 : (Jvm.Cond.instanceMethod ({ cls := "CouncilStoreModel", name := "read", desc := "(I)I" } : Jvm.MethodName)) ∈ lw_all := lw_g (lw_at lw_m10 68 rfl) rfl
theorem q2329 : (Jvm.Cond.selects "CouncilStoreModel" ({ cls := "CouncilStoreModel", name := "read", desc := "(I)I" } : Jvm.MethodName) ({ cls := "CouncilStoreModel", name := "read", desc := "(I)I" } : Jvm.MethodName)) ∈ lw_all := lw_g (lw_at lw_m10 69 rfl) rfl
theorem q2330 : (Jvm.Cond.code ({ cls := "CouncilStoreModel", name := "read", desc := "(I)I" } : Jvm.MethodName) prog_19_method_73_code (5 : Nat) (Option.some Jvm.ClassFile.FieldType.int)) ∈ lw_all := lw_g (lw_at lw_m10 70 rfl) rfl
theorem q2331 : (Jvm.Cond.methodLink "CouncilStoreModel" (563 : Nat) ({ cls := "CouncilStoreModel", name := "readsWaiting", desc := "(I)I" } : Jvm.MethodName)) ∈ lw_all := lw_g (lw_at lw_m10 71 rfl) rfl
theorem q2332 : (Jvm.Cond.privateMethod ({ cls := "CouncilStoreModel", name := "readsWaiting", desc := "(I)I" } : Jvm.MethodName)) ∈ lw_tbl := lw_at lw_m10 72 rfl
theorem q2333 : (Jvm.Cond.instanceMethod ({ cls := "CouncilStoreModel", name := "readsWaiting", desc := "(I)I" } : Jvm.MethodName)) ∈ lw_all := lw_g (lw_at lw_m10 73 rfl) rfl
theorem q2334 : (Jvm.Cond.code ({ cls := "CouncilStoreModel", name := "readsWaiting", desc := "(I)I" } : Jvm.MethodName) prog_19_method_72_code (4 : Nat) (Option.some Jvm.ClassFile.FieldType.int)) ∈ lw_all := lw_g (lw_at lw_m10 74 rfl) rfl
theorem q2336 : (Jvm.Cond.instanceMethod ({ cls := "CouncilStoreModel", name := "answer", desc := "(III)I" } : Jvm.MethodName)) ∈ lw_all := lw_g (lw_at lw_m10 76 rfl) rfl
theorem q2337 : (Jvm.Cond.selects "CouncilStoreModel" ({ cls := "CouncilStoreModel", name := "answer", desc := "(III)I" } : Jvm.MethodName) ({ cls := "CouncilStoreModel", name := "answer", desc := "(III)I" } : Jvm.MethodName)) ∈ lw_all := lw_g (lw_at lw_m10 77 rfl) rfl
theorem q2338 : (Jvm.Cond.code ({ cls := "CouncilStoreModel", name := "answer", desc := "(III)I" } : Jvm.MethodName) prog_19_method_74_code (5 : Nat) (Option.some Jvm.ClassFile.FieldType.int)) ∈ lw_all := lw_g (lw_at lw_m10 78 rfl) rfl
theorem q2340 : (Jvm.Cond.instanceMethod ({ cls := "CouncilStoreModel", name := "pair", desc := "(III)I" } : Jvm.MethodName)) ∈ lw_all := lw_g (lw_at lw_m10 80 rfl) rfl
theorem q2341 : (Jvm.Cond.selects "CouncilStoreModel" ({ cls := "CouncilStoreModel", name := "pair", desc := "(III)I" } : Jvm.MethodName) ({ cls := "CouncilStoreModel", name := "pair", desc := "(III)I" } : Jvm.MethodName)) ∈ lw_all := lw_g (lw_at lw_m10 81 rfl) rfl
theorem q2342 : (Jvm.Cond.code ({ cls := "CouncilStoreModel", name := "pair", desc := "(III)I" } : Jvm.MethodName) prog_19_method_76_code (7 : Nat) (Option.some Jvm.ClassFile.FieldType.int)) ∈ lw_all := lw_g (lw_at lw_m10 82 rfl) rfl
theorem q2343 : (Jvm.Cond.methodLink "CouncilStoreModel" (566 : Nat) ({ cls := "CouncilStoreModel", name := "at", desc := "(IIII)I" } : Jvm.MethodName)) ∈ lw_all := lw_g (lw_at lw_m10 83 rfl) rfl
theorem q2344 : (Jvm.Cond.privateMethod ({ cls := "CouncilStoreModel", name := "at", desc := "(IIII)I" } : Jvm.MethodName)) ∈ lw_tbl := lw_at lw_m10 84 rfl
theorem q2345 : (Jvm.Cond.instanceMethod ({ cls := "CouncilStoreModel", name := "at", desc := "(IIII)I" } : Jvm.MethodName)) ∈ lw_all := lw_g (lw_at lw_m10 85 rfl) rfl
theorem q2346 : (Jvm.Cond.code ({ cls := "CouncilStoreModel", name := "at", desc := "(IIII)I" } : Jvm.MethodName) prog_19_method_75_code (5 : Nat) (Option.some Jvm.ClassFile.FieldType.int)) ∈ lw_all := lw_g (lw_at lw_m10 86 rfl) rfl
theorem q2348 : (Jvm.Cond.instanceMethod ({ cls := "CouncilStoreModel", name := "range", desc := "(IIIII)I" } : Jvm.MethodName)) ∈ lw_all := lw_g (lw_at lw_m10 88 rfl) rfl
theorem q2349 : (Jvm.Cond.selects "CouncilStoreModel" ({ cls := "CouncilStoreModel", name := "range", desc := "(IIIII)I" } : Jvm.MethodName) ({ cls := "CouncilStoreModel", name := "range", desc := "(IIIII)I" } : Jvm.MethodName)) ∈ lw_all := lw_g (lw_at lw_m10 89 rfl) rfl
theorem q2350 : (Jvm.Cond.code ({ cls := "CouncilStoreModel", name := "range", desc := "(IIIII)I" } : Jvm.MethodName) prog_19_method_77_code (11 : Nat) (Option.some Jvm.ClassFile.FieldType.int)) ∈ lw_all := lw_g (lw_at lw_m10 90 rfl) rfl
theorem q2352 : (Jvm.Cond.instanceMethod ({ cls := "CouncilStoreModel", name := "event", desc := "(IIIII)I" } : Jvm.MethodName)) ∈ lw_all := lw_g (lw_at lw_m10 92 rfl) rfl
theorem q2353 : (Jvm.Cond.selects "CouncilStoreModel" ({ cls := "CouncilStoreModel", name := "event", desc := "(IIIII)I" } : Jvm.MethodName) ({ cls := "CouncilStoreModel", name := "event", desc := "(IIIII)I" } : Jvm.MethodName)) ∈ lw_all := lw_g (lw_at lw_m10 93 rfl) rfl
theorem q2354 : (Jvm.Cond.code ({ cls := "CouncilStoreModel", name := "event", desc := "(IIIII)I" } : Jvm.MethodName) prog_19_method_81_code (6 : Nat) (Option.some Jvm.ClassFile.FieldType.int)) ∈ lw_all := lw_g (lw_at lw_m10 94 rfl) rfl
theorem q2355 : (Jvm.Cond.methodLink "CouncilStoreModel" (583 : Nat) ({ cls := "CouncilStoreModel", name := "history", desc := "(II)V" } : Jvm.MethodName)) ∈ lw_all := lw_g (lw_at lw_m10 95 rfl) rfl
theorem q2356 : (Jvm.Cond.privateMethod ({ cls := "CouncilStoreModel", name := "history", desc := "(II)V" } : Jvm.MethodName)) ∈ lw_tbl := lw_at lw_m10 96 rfl
theorem q2357 : (Jvm.Cond.instanceMethod ({ cls := "CouncilStoreModel", name := "history", desc := "(II)V" } : Jvm.MethodName)) ∈ lw_all := lw_g (lw_at lw_m10 97 rfl) rfl
theorem q2358 : (Jvm.Cond.code ({ cls := "CouncilStoreModel", name := "history", desc := "(II)V" } : Jvm.MethodName) prog_19_method_80_code (6 : Nat) (Option.none : Option Jvm.ClassFile.FieldType)) ∈ lw_all := lw_g (lw_at lw_m10 98 rfl) rfl
theorem q2359 : (Jvm.Cond.methodLink "CouncilStoreModel" (576 : Nat) ({ cls := "CouncilStoreModel", name := "event", desc := "(IIZ)V" } : Jvm.MethodName)) ∈ lw_all := lw_g (lw_at lw_m10 99 rfl) rfl
theorem q2360 : (Jvm.Cond.privateMethod ({ cls := "CouncilStoreModel", name := "event", desc := "(IIZ)V" } : Jvm.MethodName)) ∈ lw_tbl := lw_at lw_m10 100 rfl
theorem q2361 : (Jvm.Cond.instanceMethod ({ cls := "CouncilStoreModel", name := "event", desc := "(IIZ)V" } : Jvm.MethodName)) ∈ lw_all := lw_g (lw_at lw_m10 101 rfl) rfl
theorem q2362 : (Jvm.Cond.code ({ cls := "CouncilStoreModel", name := "event", desc := "(IIZ)V" } : Jvm.MethodName) prog_19_method_79_code (5 : Nat) (Option.none : Option Jvm.ClassFile.FieldType)) ∈ lw_all := lw_g (lw_at lw_m10 102 rfl) rfl
theorem q2363 : (Jvm.Cond.methodLink "CouncilStoreModel" (580 : Nat) ({ cls := "CouncilStoreModel", name := "sameOld", desc := "(II)Z" } : Jvm.MethodName)) ∈ lw_all := lw_g (lw_at lw_m10 103 rfl) rfl
theorem q2364 : (Jvm.Cond.privateMethod ({ cls := "CouncilStoreModel", name := "sameOld", desc := "(II)Z" } : Jvm.MethodName)) ∈ lw_tbl := lw_at lw_m10 104 rfl
theorem q2365 : (Jvm.Cond.instanceMethod ({ cls := "CouncilStoreModel", name := "sameOld", desc := "(II)Z" } : Jvm.MethodName)) ∈ lw_all := lw_g (lw_at lw_m10 105 rfl) rfl
theorem q2366 : (Jvm.Cond.code ({ cls := "CouncilStoreModel", name := "sameOld", desc := "(II)Z" } : Jvm.MethodName) prog_19_method_78_code (4 : Nat) (Option.some Jvm.ClassFile.FieldType.boolean)) ∈ lw_all := lw_g (lw_at lw_m10 106 rfl) rfl
theorem q2368 : (Jvm.Cond.instanceMethod ({ cls := "CouncilStoreModel", name := "compact", desc := "(II)V" } : Jvm.MethodName)) ∈ lw_all := lw_g (lw_at lw_m10 108 rfl) rfl
theorem q2369 : (Jvm.Cond.selects "CouncilStoreModel" ({ cls := "CouncilStoreModel", name := "compact", desc := "(II)V" } : Jvm.MethodName) ({ cls := "CouncilStoreModel", name := "compact", desc := "(II)V" } : Jvm.MethodName)) ∈ lw_all := lw_g (lw_at lw_m10 109 rfl) rfl
theorem q2370 : (Jvm.Cond.code ({ cls := "CouncilStoreModel", name := "compact", desc := "(II)V" } : Jvm.MethodName) prog_19_method_82_code (3 : Nat) (Option.none : Option Jvm.ClassFile.FieldType)) ∈ lw_all := lw_g (lw_at lw_m10 110 rfl) rfl
theorem q2372 : (Jvm.Cond.instanceMethod ({ cls := "CouncilStoreModel", name := "outcome", desc := "(III)I" } : Jvm.MethodName)) ∈ lw_all := lw_g (lw_at lw_m10 112 rfl) rfl
theorem q2373 : (Jvm.Cond.selects "CouncilStoreModel" ({ cls := "CouncilStoreModel", name := "outcome", desc := "(III)I" } : Jvm.MethodName) ({ cls := "CouncilStoreModel", name := "outcome", desc := "(III)I" } : Jvm.MethodName)) ∈ lw_all := lw_g (lw_at lw_m10 113 rfl) rfl
theorem q2374 : (Jvm.Cond.code ({ cls := "CouncilStoreModel", name := "outcome", desc := "(III)I" } : Jvm.MethodName) prog_19_method_83_code (4 : Nat) (Option.some Jvm.ClassFile.FieldType.int)) ∈ lw_all := lw_g (lw_at lw_m10 114 rfl) rfl
theorem q2376 : (Jvm.Cond.instanceMethod ({ cls := "CouncilStoreModel", name := "message", desc := "(II)I" } : Jvm.MethodName)) ∈ lw_all := lw_g (lw_at lw_m10 116 rfl) rfl
theorem q2377 : (Jvm.Cond.selects "CouncilStoreModel" ({ cls := "CouncilStoreModel", name := "message", desc := "(II)I" } : Jvm.MethodName) ({ cls := "CouncilStoreModel", name := "message", desc := "(II)I" } : Jvm.MethodName)) ∈ lw_all := lw_g (lw_at lw_m10 117 rfl) rfl
theorem q2378 : (Jvm.Cond.code ({ cls := "CouncilStoreModel", name := "message", desc := "(II)I" } : Jvm.MethodName) prog_19_method_84_code (4 : Nat) (Option.some Jvm.ClassFile.FieldType.int)) ∈ lw_all := lw_g (lw_at lw_m10 118 rfl) rfl
theorem q2380 : (Jvm.Cond.instanceMethod ({ cls := "CouncilStoreModel", name := "told", desc := "(II)I" } : Jvm.MethodName)) ∈ lw_all := lw_g (lw_at lw_m10 120 rfl) rfl
theorem q2381 : (Jvm.Cond.selects "CouncilStoreModel" ({ cls := "CouncilStoreModel", name := "told", desc := "(II)I" } : Jvm.MethodName) ({ cls := "CouncilStoreModel", name := "told", desc := "(II)I" } : Jvm.MethodName)) ∈ lw_all := lw_g (lw_at lw_m10 121 rfl) rfl
theorem q2382 : (Jvm.Cond.code ({ cls := "CouncilStoreModel", name := "told", desc := "(II)I" } : Jvm.MethodName) prog_19_method_86_code (5 : Nat) (Option.some Jvm.ClassFile.FieldType.int)) ∈ lw_all := lw_g (lw_at lw_m10 122 rfl) rfl
theorem q2383 : (Jvm.Cond.methodLink "CouncilStoreModel" (586 : Nat) ({ cls := "CouncilStoreModel", name := "toldDown", desc := "(II)I" } : Jvm.MethodName)) ∈ lw_all := lw_g (lw_at lw_m10 123 rfl) rfl
theorem q2384 : (Jvm.Cond.privateMethod ({ cls := "CouncilStoreModel", name := "toldDown", desc := "(II)I" } : Jvm.MethodName)) ∈ lw_tbl := lw_at lw_m10 124 rfl
theorem q2385 : (Jvm.Cond.instanceMethod ({ cls := "CouncilStoreModel", name := "toldDown", desc := "(II)I" } : Jvm.MethodName)) ∈ lw_all := lw_g (lw_at lw_m10 125 rfl) rfl
theorem q2386 : (Jvm.Cond.code ({ cls := "CouncilStoreModel", name := "toldDown", desc := "(II)I" } : Jvm.MethodName) prog_19_method_85_code (3 : Nat) (Option.some Jvm.ClassFile.FieldType.int)) ∈ lw_all := lw_g (lw_at lw_m10 126 rfl) rfl
theorem q2388 : (Jvm.Cond.instanceMethod ({ cls := "CouncilStoreModel", name := "count", desc := "(I)I" } : Jvm.MethodName)) ∈ lw_all := lw_g (lw_at lw_m10 128 rfl) rfl
theorem q2389 : (Jvm.Cond.selects "CouncilStoreModel" ({ cls := "CouncilStoreModel", name := "count", desc := "(I)I" } : Jvm.MethodName) ({ cls := "CouncilStoreModel", name := "count", desc := "(I)I" } : Jvm.MethodName)) ∈ lw_all := lw_g (lw_at lw_m10 129 rfl) rfl
theorem q2390 : (Jvm.Cond.code ({ cls := "CouncilStoreModel", name := "count", desc := "(I)I" } : Jvm.MethodName) prog_19_method_87_code (2 : Nat) (Option.some Jvm.ClassFile.FieldType.int)) ∈ lw_all := lw_g (lw_at lw_m10 130 rfl) rfl
theorem in_X16 : ∀ w ∈ wsX160, w ∈ lw_all := lw_in wsX160 [1796, 1798, 1800, 1802, 1804, 1806, 1808, 1810, 1812, 1814, 1816, 1818, 1820, 1822, 1824, 1826, 1828, 1830, 1832, 1834, 1836, 1838, 1840, 1842, 1844, 1846, 1848, 1850, 1852, 1854, 1856, 1858, 1860, 1862, 1864, 1866, 1868, 1870, 1872, 1874, 1876, 1878, 1880, 1882, 1884, 1886, 1888, 1890, 1892, 1894, 1896, 1898, 1900, 1902, 1904, 1906, 1908, 1910, 1912, 1914, 1916, 1918, 1920, 1922, 1924, 1926, 1928, 1930, 1932, 1934, 1936, 1938, 1940, 1942, 1944, 1946, 1948, 1950, 1952, 1954, 1956, 1958, 1960, 1962, 1964, 1966, 1968, 1970, 1972, 1974, 1976, 1978, 1980, 1982, 1984, 1986, 1988, 1990, 1992, 1994, 1996, 1998, 2000, 2002, 2004, 2006, 2008, 2010, 2012, 2014, 2016, 2018, 2020, 2022, 2024, 2026, 2028, 2030, 2032, 2034, 2036, 2038] (by decide +kernel) (by decide +kernel)
