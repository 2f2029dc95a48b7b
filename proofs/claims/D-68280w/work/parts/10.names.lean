/-! names of methods and the words of the tables that the walks use (gen/build.py) -/
set_option maxRecDepth 100000
abbrev c_cP_word : ByteArray := prog_1_method_1_code
abbrev y_cP_word : MethodName := ⟨"TransportPair", "word", "([BI)I"⟩
abbrev c_cP_sizeOf : ByteArray := prog_1_method_2_code
abbrev y_cP_sizeOf : MethodName := ⟨"TransportPair", "sizeOf", "(J)I"⟩
abbrev c_cHash_init : ByteArray := prog_13_method_1_code
abbrev y_cHash_init : MethodName := ⟨"TransportPair$Hash", "<init>", "()V"⟩
abbrev c_cMac_init : ByteArray := prog_18_method_1_code
abbrev y_cMac_init : MethodName := ⟨"TransportPair$Mac", "<init>", "()V"⟩
abbrev c_cStretch_init : ByteArray := prog_29_method_1_code
abbrev y_cStretch_init : MethodName := ⟨"TransportPair$Stretch", "<init>", "()V"⟩
abbrev c_cKeystream_init : ByteArray := prog_15_method_1_code
abbrev y_cKeystream_init : MethodName := ⟨"TransportPair$Keystream", "<init>", "()V"⟩
abbrev c_cTally_init : ByteArray := prog_30_method_1_code
abbrev y_cTally_init : MethodName := ⟨"TransportPair$Tally", "<init>", "()V"⟩
abbrev c_cBench_init : ByteArray := prog_2_method_1_code
abbrev y_cBench_init : MethodName := ⟨"TransportPair$Bench", "<init>", "()V"⟩
abbrev c_cGuard_init : ByteArray := prog_11_method_1_code
abbrev y_cGuard_init : MethodName := ⟨"TransportPair$Guard", "<init>", "()V"⟩
abbrev c_cCrypto_init : ByteArray := prog_8_method_1_code
abbrev y_cCrypto_init : MethodName := ⟨"TransportPair$Crypto", "<init>", "()V"⟩
abbrev c_cTrip_init : ByteArray := prog_31_method_1_code
abbrev y_cTrip_init : MethodName := ⟨"TransportPair$Trip", "<init>", "()V"⟩
abbrev c_cWindow_init : ByteArray := prog_33_method_1_code
abbrev y_cWindow_init : MethodName := ⟨"TransportPair$Window", "<init>", "()V"⟩
abbrev c_cQueue_init : ByteArray := prog_20_method_1_code
abbrev y_cQueue_init : MethodName := ⟨"TransportPair$Queue", "<init>", "()V"⟩
abbrev c_cRanges_init : ByteArray := prog_21_method_1_code
abbrev y_cRanges_init : MethodName := ⟨"TransportPair$Ranges", "<init>", "()V"⟩
abbrev c_cSpace_init : ByteArray := prog_26_method_1_code
abbrev y_cSpace_init : MethodName := ⟨"TransportPair$Space", "<init>", "()V"⟩
abbrev c_cBook_init : ByteArray := prog_4_method_1_code
abbrev y_cBook_init : MethodName := ⟨"TransportPair$Book", "<init>", "()V"⟩
abbrev c_cCargo_init : ByteArray := prog_6_method_1_code
abbrev y_cCargo_init : MethodName := ⟨"TransportPair$Cargo", "<init>", "()V"⟩
abbrev c_cParameters_isBytes : ByteArray := prog_19_method_3_code
abbrev y_cParameters_isBytes : MethodName := ⟨"TransportPair$Parameters", "isBytes", "(I)Z"⟩
abbrev c_cParameters_forget : ByteArray := prog_19_method_2_code
abbrev y_cParameters_forget : MethodName := ⟨"TransportPair$Parameters", "forget", "()V"⟩
abbrev c_cParameters_init : ByteArray := prog_19_method_1_code
abbrev y_cParameters_init : MethodName := ⟨"TransportPair$Parameters", "<init>", "()V"⟩
abbrev c_cBytes_init : ByteArray := prog_5_method_1_code
abbrev y_cBytes_init : MethodName := ⟨"TransportPair$Bytes", "<init>", "()V"⟩
abbrev c_cHeader_init : ByteArray := prog_14_method_1_code
abbrev y_cHeader_init : MethodName := ⟨"TransportPair$Header", "<init>", "()V"⟩
abbrev c_cFrame_init : ByteArray := prog_9_method_1_code
abbrev y_cFrame_init : MethodName := ⟨"TransportPair$Frame", "<init>", "()V"⟩
abbrev c_cRow_init : ByteArray := prog_23_method_1_code
abbrev y_cRow_init : MethodName := ⟨"TransportPair$Row", "<init>", "()V"⟩
abbrev c_cGreeting_init : ByteArray := prog_10_method_1_code
abbrev y_cGreeting_init : MethodName := ⟨"TransportPair$Greeting", "<init>", "(I)V"⟩
abbrev c_cWay_init : ByteArray := prog_32_method_1_code
abbrev y_cWay_init : MethodName := ⟨"TransportPair$Way", "<init>", "()V"⟩
abbrev c_cSpans_init : ByteArray := prog_27_method_1_code
abbrev y_cSpans_init : MethodName := ⟨"TransportPair$Spans", "<init>", "()V"⟩
abbrev c_cStore_init : ByteArray := prog_28_method_1_code
abbrev y_cStore_init : MethodName := ⟨"TransportPair$Store", "<init>", "()V"⟩
abbrev c_cBlocks_init : ByteArray := prog_3_method_1_code
abbrev y_cBlocks_init : MethodName := ⟨"TransportPair$Blocks", "<init>", "()V"⟩
abbrev c_cHall_init : ByteArray := prog_12_method_1_code
abbrev y_cHall_init : MethodName := ⟨"TransportPair$Hall", "<init>", "(I)V"⟩
abbrev c_cHall_grants : ByteArray := prog_12_method_2_code
abbrev y_cHall_grants : MethodName := ⟨"TransportPair$Hall", "grants", "(IIIIII)V"⟩
abbrev c_cSide_grants : ByteArray := prog_25_method_2_code
abbrev y_cSide_grants : MethodName := ⟨"TransportPair$Side", "grants", "()V"⟩
abbrev c_cSide_init : ByteArray := prog_25_method_1_code
abbrev y_cSide_init : MethodName := ⟨"TransportPair$Side", "<init>", "(I)V"⟩
abbrev c_cLine_init : ByteArray := prog_17_method_1_code
abbrev y_cLine_init : MethodName := ⟨"TransportPair$Line", "<init>", "()V"⟩
abbrev c_cP_init : ByteArray := prog_1_method_3_code
abbrev y_cP_init : MethodName := ⟨"TransportPair", "<init>", "()V"⟩
abbrev c_cP_need : ByteArray := prog_1_method_4_code
abbrev y_cP_need : MethodName := ⟨"TransportPair", "need", "(Z)V"⟩
abbrev c_cP_ready : ByteArray := prog_1_method_5_code
abbrev y_cP_ready : MethodName := ⟨"TransportPair", "ready", "(Z)V"⟩
abbrev c_cP_there : ByteArray := prog_1_method_6_code
abbrev y_cP_there : MethodName := ⟨"TransportPair", "there", "(Z)V"⟩
abbrev c_cP_in : ByteArray := prog_1_method_7_code
abbrev y_cP_in : MethodName := ⟨"TransportPair", "in", "(JJJ)Z"⟩
abbrev c_cP_of : ByteArray := prog_1_method_8_code
abbrev y_cP_of : MethodName := ⟨"TransportPair", "of", "(I)LTransportPair$Side;"⟩
abbrev c_cP_on : ByteArray := prog_1_method_9_code
abbrev y_cP_on : MethodName := ⟨"TransportPair", "on", "(II)LTransportPair$Line;"⟩
abbrev c_cP_used : ByteArray := prog_1_method_10_code
abbrev y_cP_used : MethodName := ⟨"TransportPair", "used", "()I"⟩
abbrev c_cP_feed : ByteArray := prog_1_method_11_code
abbrev y_cP_feed : MethodName := ⟨"TransportPair", "feed", "(IIIII)I"⟩
abbrev c_cP_end : ByteArray := prog_1_method_12_code
abbrev y_cP_end : MethodName := ⟨"TransportPair", "end", "(I)I"⟩
abbrev c_cP_told : ByteArray := prog_1_method_13_code
abbrev y_cP_told : MethodName := ⟨"TransportPair", "told", "(II)V"⟩
abbrev c_cP_key : ByteArray := prog_1_method_14_code
abbrev y_cP_key : MethodName := ⟨"TransportPair", "key", "(I)V"⟩
abbrev c_cP_random : ByteArray := prog_1_method_15_code
abbrev y_cP_random : MethodName := ⟨"TransportPair", "random", "(I)V"⟩
abbrev c_cP_parameter : ByteArray := prog_1_method_16_code
abbrev y_cP_parameter : MethodName := ⟨"TransportPair", "parameter", "(III)V"⟩
abbrev c_cHash_begin : ByteArray := prog_13_method_2_code
abbrev y_cHash_begin : MethodName := ⟨"TransportPair$Hash", "begin", "()V"⟩
abbrev c_jInteger_rotateRight : ByteArray := prog_49_method_51_code
abbrev y_jInteger_rotateRight : MethodName := ⟨"java/lang/Integer", "rotateRight", "(II)I"⟩
abbrev c_cHash_spread : ByteArray := prog_13_method_6_code
abbrev y_cHash_spread : MethodName := ⟨"TransportPair$Hash", "spread", "()V"⟩
abbrev c_cHash_work : ByteArray := prog_13_method_7_code
abbrev y_cHash_work : MethodName := ⟨"TransportPair$Hash", "work", "()V"⟩
abbrev c_cHash_addByte : ByteArray := prog_13_method_3_code
abbrev y_cHash_addByte : MethodName := ⟨"TransportPair$Hash", "addByte", "(I)V"⟩
abbrev c_cHash_add : ByteArray := prog_13_method_4_code
abbrev y_cHash_add : MethodName := ⟨"TransportPair$Hash", "add", "([BII)V"⟩
abbrev c_cHash_end : ByteArray := prog_13_method_5_code
abbrev y_cHash_end : MethodName := ⟨"TransportPair$Hash", "end", "([BI)V"⟩
abbrev c_cMac_turn : ByteArray := prog_18_method_3_code
abbrev y_cMac_turn : MethodName := ⟨"TransportPair$Mac", "turn", "(I)V"⟩
abbrev c_cMac_begin : ByteArray := prog_18_method_2_code
abbrev y_cMac_begin : MethodName := ⟨"TransportPair$Mac", "begin", "([BI)V"⟩
abbrev c_cMac_add : ByteArray := prog_18_method_4_code
abbrev y_cMac_add : MethodName := ⟨"TransportPair$Mac", "add", "([BII)V"⟩
abbrev c_cMac_end : ByteArray := prog_18_method_5_code
abbrev y_cMac_end : MethodName := ⟨"TransportPair$Mac", "end", "([BI)V"⟩
abbrev c_cGreeting_mac : ByteArray := prog_10_method_3_code
abbrev y_cGreeting_mac : MethodName := ⟨"TransportPair$Greeting", "mac", "([BI[BII[B)V"⟩
abbrev c_jString_coder : ByteArray := prog_53_method_152_code
abbrev y_jString_coder : MethodName := ⟨"java/lang/String", "coder", "()B"⟩
abbrev c_jString_length : ByteArray := prog_53_method_54_code
abbrev y_jString_length : MethodName := ⟨"java/lang/String", "length", "()I"⟩
abbrev c_jString_isLatin1 : ByteArray := prog_53_method_154_code
abbrev y_jString_isLatin1 : MethodName := ⟨"java/lang/String", "isLatin1", "()Z"⟩
abbrev c_jPreconditions_checkIndex : ByteArray := prog_60_method_11_code
abbrev y_jPreconditions_checkIndex : MethodName := ⟨"jdk/internal/util/Preconditions", "checkIndex", "(IILjava/util/function/BiFunction;)I"⟩
abbrev c_jString_checkIndex : ByteArray := prog_53_method_155_code
abbrev y_jString_checkIndex : MethodName := ⟨"java/lang/String", "checkIndex", "(II)V"⟩
abbrev c_jStringLatin1_charAt : ByteArray := prog_54_method_2_code
abbrev y_jStringLatin1_charAt : MethodName := ⟨"java/lang/StringLatin1", "charAt", "([BI)C"⟩
abbrev c_jString_charAt : ByteArray := prog_53_method_56_code
abbrev y_jString_charAt : MethodName := ⟨"java/lang/String", "charAt", "(I)C"⟩
abbrev c_cStretch_stretch : ByteArray := prog_29_method_2_code
abbrev y_cStretch_stretch : MethodName := ⟨"TransportPair$Stretch", "stretch", "([BI[BI[BI)V"⟩
abbrev c_cStretch_label : ByteArray := prog_29_method_3_code
abbrev y_cStretch_label : MethodName := ⟨"TransportPair$Stretch", "label", "([BILTransportPair$Label;[BI[BI)V"⟩
abbrev c_cGreeting_secrets : ByteArray := prog_10_method_4_code
abbrev y_cGreeting_secrets : MethodName := ⟨"TransportPair$Greeting", "secrets", "(I[BLTransportPair$Label;LTransportPair$Label;[BI)V"⟩
abbrev c_cGreeting_first : ByteArray := prog_10_method_5_code
abbrev y_cGreeting_first : MethodName := ⟨"TransportPair$Greeting", "first", "([BII)V"⟩
abbrev c_cGuard_makeKeys : ByteArray := prog_11_method_2_code
abbrev y_cGuard_makeKeys : MethodName := ⟨"TransportPair$Guard", "makeKeys", "(LTransportPair$Bench;)V"⟩
abbrev c_cGuard_arm : ByteArray := prog_11_method_3_code
abbrev y_cGuard_arm : MethodName := ⟨"TransportPair$Guard", "arm", "([BLTransportPair$Bench;)V"⟩
abbrev c_cSide_arm : ByteArray := prog_25_method_8_code
abbrev y_cSide_arm : MethodName := ⟨"TransportPair$Side", "arm", "(I)V"⟩
abbrev c_cSide_name : ByteArray := prog_25_method_6_code
abbrev y_cSide_name : MethodName := ⟨"TransportPair$Side", "name", "([BI)V"⟩
abbrev c_cBytes_over : ByteArray := prog_5_method_2_code
abbrev y_cBytes_over : MethodName := ⟨"TransportPair$Bytes", "over", "([BII)V"⟩
abbrev c_cBytes_sizeOf : ByteArray := prog_5_method_11_code
abbrev y_cBytes_sizeOf : MethodName := ⟨"TransportPair$Bytes", "sizeOf", "(J)I"⟩
abbrev c_cBytes_step : ByteArray := prog_5_method_4_code
abbrev y_cBytes_step : MethodName := ⟨"TransportPair$Bytes", "step", "(I)Z"⟩
abbrev c_cBytes_putMany : ByteArray := prog_5_method_10_code
abbrev y_cBytes_putMany : MethodName := ⟨"TransportPair$Bytes", "putMany", "(JI)V"⟩
abbrev c_cBytes_putSized : ByteArray := prog_5_method_13_code
abbrev y_cBytes_putSized : MethodName := ⟨"TransportPair$Bytes", "putSized", "(JI)V"⟩
abbrev c_cBytes_putNumber : ByteArray := prog_5_method_12_code
abbrev y_cBytes_putNumber : MethodName := ⟨"TransportPair$Bytes", "putNumber", "(J)V"⟩
abbrev c_cBytes_putRow : ByteArray := prog_5_method_14_code
abbrev y_cBytes_putRow : MethodName := ⟨"TransportPair$Bytes", "putRow", "([BII)V"⟩
abbrev c_cSide_put_II : ByteArray := prog_25_method_5_code
abbrev y_cSide_put_II : MethodName := ⟨"TransportPair$Side", "put", "(II)V"⟩
abbrev c_cSide_tell : ByteArray := prog_25_method_4_code
abbrev y_cSide_tell : MethodName := ⟨"TransportPair$Side", "tell", "()V"⟩
abbrev c_cRow_put : ByteArray := prog_23_method_3_code
abbrev y_cRow_put : MethodName := ⟨"TransportPair$Row", "put", "(I)V"⟩
abbrev c_cRow_add : ByteArray := prog_23_method_2_code
abbrev y_cRow_add : MethodName := ⟨"TransportPair$Row", "add", "([BII)V"⟩
abbrev c_cGreeting_sends : ByteArray := prog_10_method_10_code
abbrev y_cGreeting_sends : MethodName := ⟨"TransportPair$Greeting", "sends", "(II[BI[BI)V"⟩
abbrev c_cGreeting_begin : ByteArray := prog_10_method_9_code
abbrev y_cGreeting_begin : MethodName := ⟨"TransportPair$Greeting", "begin", "()V"⟩
abbrev c_cSide_begin : ByteArray := prog_25_method_9_code
abbrev y_cSide_begin : MethodName := ⟨"TransportPair$Side", "begin", "()V"⟩
abbrev c_cP_begin : ByteArray := prog_1_method_17_code
abbrev y_cP_begin : MethodName := ⟨"TransportPair", "begin", "()V"⟩
abbrev c_cHall_isOneWay : ByteArray := prog_12_method_5_code
abbrev y_cHall_isOneWay : MethodName := ⟨"TransportPair$Hall", "isOneWay", "(J)Z"⟩
abbrev c_cHall_isOwn : ByteArray := prog_12_method_4_code
abbrev y_cHall_isOwn : MethodName := ⟨"TransportPair$Hall", "isOwn", "(J)Z"⟩
abbrev c_cHall_rule : ByteArray := prog_12_method_9_code
abbrev y_cHall_rule : MethodName := ⟨"TransportPair$Hall", "rule", "(JZ)I"⟩
abbrev c_cSending_init : ByteArray := prog_24_method_1_code
abbrev y_cSending_init : MethodName := ⟨"TransportPair$Sending", "<init>", "(J)V"⟩
abbrev c_cReceiving_init : ByteArray := prog_22_method_1_code
abbrev y_cReceiving_init : MethodName := ⟨"TransportPair$Receiving", "<init>", "(I)V"⟩
abbrev c_cHall_begin : ByteArray := prog_12_method_10_code
abbrev y_cHall_begin : MethodName := ⟨"TransportPair$Hall", "begin", "(I)V"⟩
abbrev c_cHall_open : ByteArray := prog_12_method_11_code
abbrev y_cHall_open : MethodName := ⟨"TransportPair$Hall", "open", "(Z)I"⟩
abbrev c_cP_open : ByteArray := prog_1_method_18_code
abbrev y_cP_open : MethodName := ⟨"TransportPair", "open", "(IZ)I"⟩
abbrev c_cHall_sending : ByteArray := prog_12_method_7_code
abbrev y_cHall_sending : MethodName := ⟨"TransportPair$Hall", "sending", "(I)LTransportPair$Sending;"⟩
abbrev c_jArrays_copyOf_AII : ByteArray := prog_58_method_123_code
abbrev y_jArrays_copyOf_AII : MethodName := ⟨"java/util/Arrays", "copyOf", "([II)[I"⟩
abbrev c_cStore_piece : ByteArray := prog_28_method_2_code
abbrev y_cStore_piece : MethodName := ⟨"TransportPair$Store", "piece", "()I"⟩
abbrev c_cStore_add : ByteArray := prog_28_method_3_code
abbrev y_cStore_add : MethodName := ⟨"TransportPair$Store", "add", "(LTransportPair$Sending;[BII)I"⟩
abbrev c_cHall_write : ByteArray := prog_12_method_15_code
abbrev y_cHall_write : MethodName := ⟨"TransportPair$Hall", "write", "(I[BII)I"⟩
abbrev c_cP_write : ByteArray := prog_1_method_19_code
abbrev y_cP_write : MethodName := ⟨"TransportPair", "write", "(II)I"⟩
abbrev c_cHall_finish : ByteArray := prog_12_method_16_code
abbrev y_cHall_finish : MethodName := ⟨"TransportPair$Hall", "finish", "(I)Z"⟩
abbrev c_cP_finish : ByteArray := prog_1_method_20_code
abbrev y_cP_finish : MethodName := ⟨"TransportPair", "finish", "(II)Z"⟩
abbrev c_cSending_isLive : ByteArray := prog_24_method_2_code
abbrev y_cSending_isLive : MethodName := ⟨"TransportPair$Sending", "isLive", "()Z"⟩
abbrev c_cSending_reset : ByteArray := prog_24_method_3_code
abbrev y_cSending_reset : MethodName := ⟨"TransportPair$Sending", "reset", "(J)V"⟩
abbrev c_cHall_reset : ByteArray := prog_12_method_17_code
abbrev y_cHall_reset : MethodName := ⟨"TransportPair$Hall", "reset", "(IJ)Z"⟩
abbrev c_cP_reset : ByteArray := prog_1_method_21_code
abbrev y_cP_reset : MethodName := ⟨"TransportPair", "reset", "(III)Z"⟩
abbrev c_cHall_receiving : ByteArray := prog_12_method_8_code
abbrev y_cHall_receiving : MethodName := ⟨"TransportPair$Hall", "receiving", "(I)LTransportPair$Receiving;"⟩
abbrev c_cReceiving_isLive : ByteArray := prog_22_method_2_code
abbrev y_cReceiving_isLive : MethodName := ⟨"TransportPair$Receiving", "isLive", "()Z"⟩
abbrev c_cHall_stop : ByteArray := prog_12_method_18_code
abbrev y_cHall_stop : MethodName := ⟨"TransportPair$Hall", "stop", "(IJ)Z"⟩
abbrev c_cP_stop : ByteArray := prog_1_method_22_code
abbrev y_cP_stop : MethodName := ⟨"TransportPair", "stop", "(III)Z"⟩
abbrev c_cBlocks_drop : ByteArray := prog_3_method_6_code
abbrev y_cBlocks_drop : MethodName := ⟨"TransportPair$Blocks", "drop", "(LTransportPair$Receiving;)V"⟩
abbrev c_cBlocks_take : ByteArray := prog_3_method_5_code
abbrev y_cBlocks_take : MethodName := ⟨"TransportPair$Blocks", "take", "(LTransportPair$Receiving;[BII)V"⟩
abbrev c_cHall_grow_ : ByteArray := prog_12_method_20_code
abbrev y_cHall_grow_ : MethodName := ⟨"TransportPair$Hall", "grow", "()V"⟩
abbrev c_cHall_grow_Receiving : ByteArray := prog_12_method_21_code
abbrev y_cHall_grow_Receiving : MethodName := ⟨"TransportPair$Hall", "grow", "(LTransportPair$Receiving;)V"⟩
abbrev c_cSending_isOver : ByteArray := prog_24_method_4_code
abbrev y_cSending_isOver : MethodName := ⟨"TransportPair$Sending", "isOver", "()Z"⟩
abbrev c_cReceiving_isOver : ByteArray := prog_22_method_3_code
abbrev y_cReceiving_isOver : MethodName := ⟨"TransportPair$Receiving", "isOver", "()Z"⟩
abbrev c_cHall_isOver : ByteArray := prog_12_method_14_code
abbrev y_cHall_isOver : MethodName := ⟨"TransportPair$Hall", "isOver", "(I)Z"⟩
abbrev c_cReceiving_settle : ByteArray := prog_22_method_5_code
abbrev y_cReceiving_settle : MethodName := ⟨"TransportPair$Receiving", "settle", "()V"⟩
abbrev c_cHall_way : ByteArray := prog_12_method_6_code
abbrev y_cHall_way : MethodName := ⟨"TransportPair$Hall", "way", "(J)LTransportPair$Way;"⟩
abbrev c_cHall_mayBeOver : ByteArray := prog_12_method_13_code
abbrev y_cHall_mayBeOver : MethodName := ⟨"TransportPair$Hall", "mayBeOver", "(IZ)V"⟩
abbrev c_cHall_read : ByteArray := prog_12_method_19_code
abbrev y_cHall_read : MethodName := ⟨"TransportPair$Hall", "read", "(I[BII)I"⟩
abbrev c_cP_read : ByteArray := prog_1_method_23_code
abbrev y_cP_read : MethodName := ⟨"TransportPair", "read", "(III)I"⟩
abbrev c_cP_outs : ByteArray := prog_1_method_24_code
abbrev y_cP_outs : MethodName := ⟨"TransportPair", "outs", "(I)J"⟩
abbrev c_cSide_isLive : ByteArray := prog_25_method_3_code
abbrev y_cSide_isLive : MethodName := ⟨"TransportPair$Side", "isLive", "()Z"⟩
abbrev c_cTrip_patience : ByteArray := prog_31_method_3_code
abbrev y_cTrip_patience : MethodName := ⟨"TransportPair$Trip", "patience", "(Z)I"⟩
abbrev c_cSide_patience : ByteArray := prog_25_method_15_code
abbrev y_cSide_patience : MethodName := ⟨"TransportPair$Side", "patience", "()I"⟩
abbrev c_cSide_close : ByteArray := prog_25_method_16_code
abbrev y_cSide_close : MethodName := ⟨"TransportPair$Side", "close", "(III)V"⟩
abbrev c_cP_close : ByteArray := prog_1_method_25_code
abbrev y_cP_close : MethodName := ⟨"TransportPair", "close", "(II)Z"⟩
abbrev c_cP_raw : ByteArray := prog_1_method_26_code
abbrev y_cP_raw : MethodName := ⟨"TransportPair", "raw", "(I)V"⟩
abbrev c_cLine_remove : ByteArray := prog_17_method_3_code
abbrev y_cLine_remove : MethodName := ⟨"TransportPair$Line", "remove", "(I)V"⟩
abbrev c_cBytes_one : ByteArray := prog_5_method_5_code
abbrev y_cBytes_one : MethodName := ⟨"TransportPair$Bytes", "one", "()I"⟩
abbrev c_cHeader_fails : ByteArray := prog_14_method_2_code
abbrev y_cHeader_fails : MethodName := ⟨"TransportPair$Header", "fails", "(I)I"⟩
abbrev c_cBytes_pass : ByteArray := prog_5_method_8_code
abbrev y_cBytes_pass : MethodName := ⟨"TransportPair$Bytes", "pass", "(I)I"⟩
abbrev c_cBytes_left : ByteArray := prog_5_method_3_code
abbrev y_cBytes_left : MethodName := ⟨"TransportPair$Bytes", "left", "()I"⟩
abbrev c_cHeader_readShort : ByteArray := prog_14_method_4_code
abbrev y_cHeader_readShort : MethodName := ⟨"TransportPair$Header", "readShort", "(LTransportPair$Bytes;II)I"⟩
abbrev c_cBytes_many : ByteArray := prog_5_method_6_code
abbrev y_cBytes_many : MethodName := ⟨"TransportPair$Bytes", "many", "(I)J"⟩
abbrev c_cBytes_number : ByteArray := prog_5_method_7_code
abbrev y_cBytes_number : MethodName := ⟨"TransportPair$Bytes", "number", "()J"⟩
abbrev c_cHeader_readRest : ByteArray := prog_14_method_6_code
abbrev y_cHeader_readRest : MethodName := ⟨"TransportPair$Header", "readRest", "(LTransportPair$Bytes;)I"⟩
abbrev c_cHeader_readLong : ByteArray := prog_14_method_5_code
abbrev y_cHeader_readLong : MethodName := ⟨"TransportPair$Header", "readLong", "(LTransportPair$Bytes;I)I"⟩
abbrev c_cHeader_read : ByteArray := prog_14_method_3_code
abbrev y_cHeader_read : MethodName := ⟨"TransportPair$Header", "read", "(LTransportPair$Bytes;I)I"⟩
abbrev c_cSide_sameTo : ByteArray := prog_25_method_21_code
abbrev y_cSide_sameTo : MethodName := ⟨"TransportPair$Side", "sameTo", "([B)Z"⟩
abbrev c_cSide_isTo : ByteArray := prog_25_method_22_code
abbrev y_cSide_isTo : MethodName := ⟨"TransportPair$Side", "isTo", "([BI)Z"⟩
abbrev c_cKeystream_begin : ByteArray := prog_15_method_2_code
abbrev y_cKeystream_begin : MethodName := ⟨"TransportPair$Keystream", "begin", "([B[BII)V"⟩
abbrev c_jInteger_rotateLeft : ByteArray := prog_49_method_50_code
abbrev y_jInteger_rotateLeft : MethodName := ⟨"java/lang/Integer", "rotateLeft", "(II)I"⟩
abbrev c_cKeystream_mix : ByteArray := prog_15_method_3_code
abbrev y_cKeystream_mix : MethodName := ⟨"TransportPair$Keystream", "mix", "(IIII)V"⟩
abbrev c_cKeystream_next : ByteArray := prog_15_method_4_code
abbrev y_cKeystream_next : MethodName := ⟨"TransportPair$Keystream", "next", "()V"⟩
abbrev c_cGuard_shield : ByteArray := prog_11_method_9_code
abbrev y_cGuard_shield : MethodName := ⟨"TransportPair$Guard", "shield", "(LTransportPair$Bench;[BIIZ)I"⟩
abbrev c_cCounting_grow : ByteArray := prog_7_method_3_code
abbrev y_cCounting_grow : MethodName := ⟨"TransportPair$Counting", "grow", "(JJI)J"⟩
abbrev c_cRanges_place : ByteArray := prog_21_method_3_code
abbrev y_cRanges_place : MethodName := ⟨"TransportPair$Ranges", "place", "(J)I"⟩
abbrev c_cRanges_has : ByteArray := prog_21_method_4_code
abbrev y_cRanges_has : MethodName := ⟨"TransportPair$Ranges", "has", "(J)Z"⟩
abbrev c_cGuard_begin : ByteArray := prog_11_method_5_code
abbrev y_cGuard_begin : MethodName := ⟨"TransportPair$Guard", "begin", "(LTransportPair$Bench;JI)V"⟩
abbrev c_cTally_eight : ByteArray := prog_30_method_2_code
abbrev y_cTally_eight : MethodName := ⟨"TransportPair$Tally", "eight", "([BI)J"⟩
abbrev c_cTally_split : ByteArray := prog_30_method_4_code
abbrev y_cTally_split : MethodName := ⟨"TransportPair$Tally", "split", "(JJ[J)V"⟩
abbrev c_cTally_begin : ByteArray := prog_30_method_3_code
abbrev y_cTally_begin : MethodName := ⟨"TransportPair$Tally", "begin", "([B)V"⟩
abbrev c_cTally_carry : ByteArray := prog_30_method_9_code
abbrev y_cTally_carry : MethodName := ⟨"TransportPair$Tally", "carry", "()V"⟩
abbrev c_cTally_take : ByteArray := prog_30_method_8_code
abbrev y_cTally_take : MethodName := ⟨"TransportPair$Tally", "take", "(J)V"⟩
abbrev c_cTally_add : ByteArray := prog_30_method_5_code
abbrev y_cTally_add : MethodName := ⟨"TransportPair$Tally", "add", "([BII)V"⟩
abbrev c_cTally_finish : ByteArray := prog_30_method_7_code
abbrev y_cTally_finish : MethodName := ⟨"TransportPair$Tally", "finish", "(IJ)V"⟩
abbrev c_cTally_fill : ByteArray := prog_30_method_6_code
abbrev y_cTally_fill : MethodName := ⟨"TransportPair$Tally", "fill", "()V"⟩
abbrev c_cTally_isWhole : ByteArray := prog_30_method_10_code
abbrev y_cTally_isWhole : MethodName := ⟨"TransportPair$Tally", "isWhole", "()Z"⟩
abbrev c_jLong_compare : ByteArray := prog_50_method_42_code
abbrev y_jLong_compare : MethodName := ⟨"java/lang/Long", "compare", "(JJ)I"⟩
abbrev c_jLong_compareUnsigned : ByteArray := prog_50_method_43_code
abbrev y_jLong_compareUnsigned : MethodName := ⟨"java/lang/Long", "compareUnsigned", "(JJ)I"⟩
abbrev c_cTally_end : ByteArray := prog_30_method_11_code
abbrev y_cTally_end : MethodName := ⟨"TransportPair$Tally", "end", "([BI)V"⟩
abbrev c_cGuard_reckon : ByteArray := prog_11_method_6_code
abbrev y_cGuard_reckon : MethodName := ⟨"TransportPair$Guard", "reckon", "(LTransportPair$Bench;J[BIII)V"⟩
abbrev c_cKeystream_cover : ByteArray := prog_15_method_5_code
abbrev y_cKeystream_cover : MethodName := ⟨"TransportPair$Keystream", "cover", "([BII)V"⟩
abbrev c_cGuard_open : ByteArray := prog_11_method_8_code
abbrev y_cGuard_open : MethodName := ⟨"TransportPair$Guard", "open", "(LTransportPair$Bench;J[BIII)I"⟩
abbrev c_cSide_open : ByteArray := prog_25_method_24_code
abbrev y_cSide_open : MethodName := ⟨"TransportPair$Side", "open", "([BI)I"⟩
abbrev c_cSide_forget : ByteArray := prog_25_method_7_code
abbrev y_cSide_forget : MethodName := ⟨"TransportPair$Side", "forget", "()V"⟩
abbrev c_cSpace_is : ByteArray := prog_26_method_2_code
abbrev y_cSpace_is : MethodName := ⟨"TransportPair$Space", "is", "(II)Z"⟩
abbrev c_cSpace_inFlight : ByteArray := prog_26_method_7_code
abbrev y_cSpace_inFlight : MethodName := ⟨"TransportPair$Space", "inFlight", "()I"⟩
abbrev c_cQueue_clear : ByteArray := prog_20_method_2_code
abbrev y_cQueue_clear : MethodName := ⟨"TransportPair$Queue", "clear", "()V"⟩
abbrev c_cRanges_clear : ByteArray := prog_21_method_2_code
abbrev y_cRanges_clear : MethodName := ⟨"TransportPair$Ranges", "clear", "()V"⟩
abbrev c_cSpace_discard : ByteArray := prog_26_method_8_code
abbrev y_cSpace_discard : MethodName := ⟨"TransportPair$Space", "discard", "()V"⟩
abbrev c_cBook_discard : ByteArray := prog_4_method_14_code
abbrev y_cBook_discard : MethodName := ⟨"TransportPair$Book", "discard", "(I)V"⟩
abbrev c_cSide_discard : ByteArray := prog_25_method_14_code
abbrev y_cSide_discard : MethodName := ⟨"TransportPair$Side", "discard", "(I)V"⟩
abbrev c_cSide_opened : ByteArray := prog_25_method_25_code
abbrev y_cSide_opened : MethodName := ⟨"TransportPair$Side", "opened", "([BI)V"⟩
abbrev c_cFrame_clear : ByteArray := prog_9_method_2_code
abbrev y_cFrame_clear : MethodName := ⟨"TransportPair$Frame", "clear", "()V"⟩
abbrev c_cFrame_isKind : ByteArray := prog_9_method_5_code
abbrev y_cFrame_isKind : MethodName := ⟨"TransportPair$Frame", "isKind", "(I)Z"⟩
abbrev c_cFrame_fails : ByteArray := prog_9_method_9_code
abbrev y_cFrame_fails : MethodName := ⟨"TransportPair$Frame", "fails", "(I)I"⟩
abbrev c_cFrame_isEarly : ByteArray := prog_9_method_6_code
abbrev y_cFrame_isEarly : MethodName := ⟨"TransportPair$Frame", "isEarly", "(I)Z"⟩
abbrev c_cFrame_paddings : ByteArray := prog_9_method_11_code
abbrev y_cFrame_paddings : MethodName := ⟨"TransportPair$Frame", "paddings", "(LTransportPair$Bytes;)Z"⟩
abbrev c_cFrame_twice : ByteArray := prog_9_method_4_code
abbrev y_cFrame_twice : MethodName := ⟨"TransportPair$Frame", "twice", "([J)[J"⟩
abbrev c_cFrame_span : ByteArray := prog_9_method_3_code
abbrev y_cFrame_span : MethodName := ⟨"TransportPair$Frame", "span", "(JJ)V"⟩
abbrev c_cFrame_acknowledges : ByteArray := prog_9_method_15_code
abbrev y_cFrame_acknowledges : MethodName := ⟨"TransportPair$Frame", "acknowledges", "(LTransportPair$Bytes;)Z"⟩
abbrev c_cFrame_slice : ByteArray := prog_9_method_12_code
abbrev y_cFrame_slice : MethodName := ⟨"TransportPair$Frame", "slice", "(LTransportPair$Bytes;)V"⟩
abbrev c_cFrame_allowed : ByteArray := prog_9_method_16_code
abbrev y_cFrame_allowed : MethodName := ⟨"TransportPair$Frame", "allowed", "()Z"⟩
abbrev c_cFrame_streams : ByteArray := prog_9_method_13_code
abbrev y_cFrame_streams : MethodName := ⟨"TransportPair$Frame", "streams", "(LTransportPair$Bytes;I)Z"⟩
abbrev c_cFrame_names : ByteArray := prog_9_method_14_code
abbrev y_cFrame_names : MethodName := ⟨"TransportPair$Frame", "names", "(LTransportPair$Bytes;)Z"⟩
abbrev c_cFrame_carries : ByteArray := prog_9_method_7_code
abbrev y_cFrame_carries : MethodName := ⟨"TransportPair$Frame", "carries", "()Z"⟩
abbrev c_cFrame_fields : ByteArray := prog_9_method_10_code
abbrev y_cFrame_fields : MethodName := ⟨"TransportPair$Frame", "fields", "(LTransportPair$Bytes;I)Z"⟩
abbrev c_cFrame_read : ByteArray := prog_9_method_8_code
abbrev y_cFrame_read : MethodName := ⟨"TransportPair$Frame", "read", "(LTransportPair$Bytes;I)I"⟩
abbrev c_cBook_isSent : ByteArray := prog_4_method_3_code
abbrev y_cBook_isSent : MethodName := ⟨"TransportPair$Book", "isSent", "(I)Z"⟩
abbrev c_cSpace_state : ByteArray := prog_26_method_3_code
abbrev y_cSpace_state : MethodName := ⟨"TransportPair$Space", "state", "(I)I"⟩
abbrev c_cTrip_sample : ByteArray := prog_31_method_2_code
abbrev y_cTrip_sample : MethodName := ⟨"TransportPair$Trip", "sample", "(III)V"⟩
abbrev c_cSpace_settle : ByteArray := prog_26_method_6_code
abbrev y_cSpace_settle : MethodName := ⟨"TransportPair$Space", "settle", "(II)I"⟩
abbrev c_cWindow_grow : ByteArray := prog_33_method_2_code
abbrev y_cWindow_grow : MethodName := ⟨"TransportPair$Window", "grow", "(IIZ)V"⟩
abbrev c_cQueue_add : ByteArray := prog_20_method_3_code
abbrev y_cQueue_add : MethodName := ⟨"TransportPair$Queue", "add", "(I)V"⟩
abbrev c_cBook_done : ByteArray := prog_4_method_5_code
abbrev y_cBook_done : MethodName := ⟨"TransportPair$Book", "done", "(LTransportPair$Space;I)V"⟩
abbrev c_cTrip_limit : ByteArray := prog_31_method_4_code
abbrev y_cTrip_limit : MethodName := ⟨"TransportPair$Trip", "limit", "()I"⟩
abbrev c_cWindow_shrink : ByteArray := prog_33_method_3_code
abbrev y_cWindow_shrink : MethodName := ⟨"TransportPair$Window", "shrink", "(II)V"⟩
abbrev c_cBook_persists : ByteArray := prog_4_method_7_code
abbrev y_cBook_persists : MethodName := ⟨"TransportPair$Book", "persists", "(LTransportPair$Space;II)Z"⟩
abbrev c_cWindow_collapse : ByteArray := prog_33_method_4_code
abbrev y_cWindow_collapse : MethodName := ⟨"TransportPair$Window", "collapse", "()V"⟩
abbrev c_cBook_losses : ByteArray := prog_4_method_6_code
abbrev y_cBook_losses : MethodName := ⟨"TransportPair$Book", "losses", "(I)Z"⟩
abbrev c_cBook_acknowledge : ByteArray := prog_4_method_4_code
abbrev y_cBook_acknowledge : MethodName := ⟨"TransportPair$Book", "acknowledge", "(II)I"⟩
abbrev c_cQueue_next : ByteArray := prog_20_method_4_code
abbrev y_cQueue_next : MethodName := ⟨"TransportPair$Queue", "next", "()I"⟩
abbrev c_cCargo_end : ByteArray := prog_6_method_6_code
abbrev y_cCargo_end : MethodName := ⟨"TransportPair$Cargo", "end", "(I)I"⟩
abbrev c_cCrypto_gone : ByteArray := prog_8_method_4_code
abbrev y_cCrypto_gone : MethodName := ⟨"TransportPair$Crypto", "gone", "(JIZ)V"⟩
abbrev c_cSpans_release : ByteArray := prog_27_method_3_code
abbrev y_cSpans_release : MethodName := ⟨"TransportPair$Spans", "release", "(I)V"⟩
abbrev c_cSpans_make : ByteArray := prog_27_method_2_code
abbrev y_cSpans_make : MethodName := ⟨"TransportPair$Spans", "make", "(III)I"⟩
abbrev c_cSpans_add : ByteArray := prog_27_method_4_code
abbrev y_cSpans_add : MethodName := ⟨"TransportPair$Spans", "add", "(III)I"⟩
abbrev c_cSpans_trim : ByteArray := prog_27_method_6_code
abbrev y_cSpans_trim : MethodName := ⟨"TransportPair$Spans", "trim", "(III)V"⟩
abbrev c_cSpans_cut : ByteArray := prog_27_method_5_code
abbrev y_cSpans_cut : MethodName := ⟨"TransportPair$Spans", "cut", "(III)I"⟩
abbrev c_cSpans_count : ByteArray := prog_27_method_7_code
abbrev y_cSpans_count : MethodName := ⟨"TransportPair$Spans", "count", "(I)I"⟩
abbrev c_cHall_isGone : ByteArray := prog_12_method_38_code
abbrev y_cHall_isGone : MethodName := ⟨"TransportPair$Hall", "isGone", "(LTransportPair$Sending;IIZZ)V"⟩
abbrev c_cHall_isLost : ByteArray := prog_12_method_39_code
abbrev y_cHall_isLost : MethodName := ⟨"TransportPair$Hall", "isLost", "(IIJJ)V"⟩
abbrev c_cHall_gone : ByteArray := prog_12_method_37_code
abbrev y_cHall_gone : MethodName := ⟨"TransportPair$Hall", "gone", "(IJJIJZ)V"⟩
abbrev c_cSide_gone : ByteArray := prog_25_method_31_code
abbrev y_cSide_gone : MethodName := ⟨"TransportPair$Side", "gone", "(IIZ)V"⟩
abbrev c_cSide_settle : ByteArray := prog_25_method_30_code
abbrev y_cSide_settle : MethodName := ⟨"TransportPair$Side", "settle", "(I)V"⟩
abbrev c_cSide_acknowledged : ByteArray := prog_25_method_28_code
abbrev y_cSide_acknowledged : MethodName := ⟨"TransportPair$Side", "acknowledged", "(I)I"⟩
abbrev c_cCrypto_take : ByteArray := prog_8_method_5_code
abbrev y_cCrypto_take : MethodName := ⟨"TransportPair$Crypto", "take", "(LTransportPair$Frame;)Z"⟩
abbrev c_cCrypto_more : ByteArray := prog_8_method_6_code
abbrev y_cCrypto_more : MethodName := ⟨"TransportPair$Crypto", "more", "()I"⟩
abbrev c_cGreeting_levelOf : ByteArray := prog_10_method_11_code
abbrev y_cGreeting_levelOf : MethodName := ⟨"TransportPair$Greeting", "levelOf", "(I)I"⟩
abbrev c_cRow_clear : ByteArray := prog_23_method_4_code
abbrev y_cRow_clear : MethodName := ⟨"TransportPair$Row", "clear", "()V"⟩
abbrev c_cGreeting_fails : ByteArray := prog_10_method_13_code
abbrev y_cGreeting_fails : MethodName := ⟨"TransportPair$Greeting", "fails", "(I)I"⟩
abbrev c_cGreeting_fits : ByteArray := prog_10_method_12_code
abbrev y_cGreeting_fits : MethodName := ⟨"TransportPair$Greeting", "fits", "(II)Z"⟩
abbrev c_cGreeting_keep : ByteArray := prog_10_method_16_code
abbrev y_cGreeting_keep : MethodName := ⟨"TransportPair$Greeting", "keep", "(LTransportPair$Row;II)V"⟩
abbrev c_cGreeting_digest : ByteArray := prog_10_method_2_code
abbrev y_cGreeting_digest : MethodName := ⟨"TransportPair$Greeting", "digest", "()V"⟩
abbrev c_cGreeting_greetSecrets : ByteArray := prog_10_method_6_code
abbrev y_cGreeting_greetSecrets : MethodName := ⟨"TransportPair$Greeting", "greetSecrets", "()V"⟩
abbrev c_cGreeting_prove : ByteArray := prog_10_method_8_code
abbrev y_cGreeting_prove : MethodName := ⟨"TransportPair$Greeting", "prove", "(I)V"⟩
abbrev c_cGreeting_talkSecrets : ByteArray := prog_10_method_7_code
abbrev y_cGreeting_talkSecrets : MethodName := ⟨"TransportPair$Greeting", "talkSecrets", "()V"⟩
abbrev c_cGreeting_hello : ByteArray := prog_10_method_17_code
abbrev y_cGreeting_hello : MethodName := ⟨"TransportPair$Greeting", "hello", "(LTransportPair$Row;I)V"⟩
abbrev c_cGreeting_done : ByteArray := prog_10_method_18_code
abbrev y_cGreeting_done : MethodName := ⟨"TransportPair$Greeting", "done", "(LTransportPair$Row;)V"⟩
abbrev c_cGreeting_comes : ByteArray := prog_10_method_15_code
abbrev y_cGreeting_comes : MethodName := ⟨"TransportPair$Greeting", "comes", "(LTransportPair$Row;I)V"⟩
abbrev c_cGreeting_take : ByteArray := prog_10_method_14_code
abbrev y_cGreeting_take : MethodName := ⟨"TransportPair$Greeting", "take", "(I[BII)I"⟩
abbrev c_cParameters_isAnswer : ByteArray := prog_19_method_4_code
abbrev y_cParameters_isAnswer : MethodName := ⟨"TransportPair$Parameters", "isAnswer", "(I)Z"⟩
abbrev c_cParameters_fits : ByteArray := prog_19_method_7_code
abbrev y_cParameters_fits : MethodName := ⟨"TransportPair$Parameters", "fits", "(IJ)Z"⟩
abbrev c_cParameters_one : ByteArray := prog_19_method_6_code
abbrev y_cParameters_one : MethodName := ⟨"TransportPair$Parameters", "one", "(LTransportPair$Bytes;IIZ)I"⟩
abbrev c_cParameters_read : ByteArray := prog_19_method_5_code
abbrev y_cParameters_read : MethodName := ⟨"TransportPair$Parameters", "read", "(LTransportPair$Bytes;Z)I"⟩
abbrev c_cSide_isName : ByteArray := prog_25_method_12_code
abbrev y_cSide_isName : MethodName := ⟨"TransportPair$Side", "isName", "(II)Z"⟩
abbrev c_cHall_limits : ByteArray := prog_12_method_3_code
abbrev y_cHall_limits : MethodName := ⟨"TransportPair$Hall", "limits", "(JJJJJJ)V"⟩
abbrev c_cSide_learn : ByteArray := prog_25_method_11_code
abbrev y_cSide_learn : MethodName := ⟨"TransportPair$Side", "learn", "()Z"⟩
abbrev c_cSide_confirm : ByteArray := prog_25_method_13_code
abbrev y_cSide_confirm : MethodName := ⟨"TransportPair$Side", "confirm", "()V"⟩
abbrev c_cSide_follow : ByteArray := prog_25_method_10_code
abbrev y_cSide_follow : MethodName := ⟨"TransportPair$Side", "follow", "()V"⟩
abbrev c_cSide_greets : ByteArray := prog_25_method_29_code
abbrev y_cSide_greets : MethodName := ⟨"TransportPair$Side", "greets", "(I)I"⟩
abbrev c_cSide_drains : ByteArray := prog_25_method_17_code
abbrev y_cSide_drains : MethodName := ⟨"TransportPair$Side", "drains", "(LTransportPair$Frame;)V"⟩
abbrev c_cHall_allowed : ByteArray := prog_12_method_22_code
abbrev y_cHall_allowed : MethodName := ⟨"TransportPair$Hall", "allowed", "(JZ)I"⟩
abbrev c_cHall_fits : ByteArray := prog_12_method_23_code
abbrev y_cHall_fits : MethodName := ⟨"TransportPair$Hall", "fits", "(IJZ)I"⟩
abbrev c_cHall_come : ByteArray := prog_12_method_12_code
abbrev y_cHall_come : MethodName := ⟨"TransportPair$Hall", "come", "(I)V"⟩
abbrev c_cHall_reach : ByteArray := prog_12_method_24_code
abbrev y_cHall_reach : MethodName := ⟨"TransportPair$Hall", "reach", "(LTransportPair$Receiving;I)V"⟩
abbrev c_jArrays_copyOf_ABI : ByteArray := prog_58_method_121_code
abbrev y_jArrays_copyOf_ABI : MethodName := ⟨"java/util/Arrays", "copyOf", "([BI)[B"⟩
abbrev c_jArrays_copyOf_AJI : ByteArray := prog_58_method_124_code
abbrev y_jArrays_copyOf_AJI : MethodName := ⟨"java/util/Arrays", "copyOf", "([JI)[J"⟩
abbrev c_cBlocks_make : ByteArray := prog_3_method_2_code
abbrev y_cBlocks_make : MethodName := ⟨"TransportPair$Blocks", "make", "(II)I"⟩
abbrev c_cBlocks_block : ByteArray := prog_3_method_3_code
abbrev y_cBlocks_block : MethodName := ⟨"TransportPair$Blocks", "block", "(LTransportPair$Receiving;I)I"⟩
abbrev c_cBlocks_put : ByteArray := prog_3_method_4_code
abbrev y_cBlocks_put : MethodName := ⟨"TransportPair$Blocks", "put", "(LTransportPair$Receiving;I[BII)V"⟩
abbrev c_cHall_comes : ByteArray := prog_12_method_26_code
abbrev y_cHall_comes : MethodName := ⟨"TransportPair$Hall", "comes", "(LTransportPair$Receiving;IZ[BII)V"⟩
abbrev c_cBlocks_clear : ByteArray := prog_3_method_7_code
abbrev y_cBlocks_clear : MethodName := ⟨"TransportPair$Blocks", "clear", "(LTransportPair$Receiving;)V"⟩
abbrev c_cHall_isReset : ByteArray := prog_12_method_27_code
abbrev y_cHall_isReset : MethodName := ⟨"TransportPair$Hall", "isReset", "(LTransportPair$Receiving;JI)V"⟩
abbrev c_cHall_take : ByteArray := prog_12_method_25_code
abbrev y_cHall_take : MethodName := ⟨"TransportPair$Hall", "take", "(IJJJ[BII)I"⟩
abbrev c_cSide_frame : ByteArray := prog_25_method_27_code
abbrev y_cSide_frame : MethodName := ⟨"TransportPair$Side", "frame", "(I)I"⟩
abbrev c_cRanges_remove : ByteArray := prog_21_method_5_code
abbrev y_cRanges_remove : MethodName := ⟨"TransportPair$Ranges", "remove", "(I)V"⟩
abbrev c_cRanges_insert : ByteArray := prog_21_method_6_code
abbrev y_cRanges_insert : MethodName := ⟨"TransportPair$Ranges", "insert", "(IJ)V"⟩
abbrev c_cRanges_add : ByteArray := prog_21_method_7_code
abbrev y_cRanges_add : MethodName := ⟨"TransportPair$Ranges", "add", "(J)V"⟩
abbrev c_cSpace_takes : ByteArray := prog_26_method_9_code
abbrev y_cSpace_takes : MethodName := ⟨"TransportPair$Space", "takes", "(IJZ)Z"⟩
abbrev c_cSide_frames : ByteArray := prog_25_method_26_code
abbrev y_cSide_frames : MethodName := ⟨"TransportPair$Side", "frames", "([BII)V"⟩
abbrev c_cSide_packet : ByteArray := prog_25_method_23_code
abbrev y_cSide_packet : MethodName := ⟨"TransportPair$Side", "packet", "([BI)V"⟩
abbrev c_cSide_comes : ByteArray := prog_25_method_20_code
abbrev y_cSide_comes : MethodName := ⟨"TransportPair$Side", "comes", "([BI)V"⟩
abbrev c_cP_comes : ByteArray := prog_1_method_27_code
abbrev y_cP_comes : MethodName := ⟨"TransportPair", "comes", "(II)I"⟩
abbrev c_cP_deliver : ByteArray := prog_1_method_28_code
abbrev y_cP_deliver : MethodName := ⟨"TransportPair", "deliver", "(II)I"⟩
abbrev c_cP_drop : ByteArray := prog_1_method_29_code
abbrev y_cP_drop : MethodName := ⟨"TransportPair", "drop", "(II)I"⟩
abbrev c_cLine_add : ByteArray := prog_17_method_2_code
abbrev y_cLine_add : MethodName := ⟨"TransportPair$Line", "add", "([BII)V"⟩
abbrev c_cP_twice : ByteArray := prog_1_method_30_code
abbrev y_cP_twice : MethodName := ⟨"TransportPair", "twice", "(II)I"⟩
abbrev c_cP_alter : ByteArray := prog_1_method_31_code
abbrev y_cP_alter : MethodName := ⟨"TransportPair", "alter", "(IIII)I"⟩
abbrev c_cP_flow : ByteArray := prog_1_method_32_code
abbrev y_cP_flow : MethodName := ⟨"TransportPair", "flow", "(I)V"⟩
abbrev c_cBook_patience : ByteArray := prog_4_method_8_code
abbrev y_cBook_patience : MethodName := ⟨"TransportPair$Book", "patience", "(I)I"⟩
abbrev c_cBook_firstSpace : ByteArray := prog_4_method_10_code
abbrev y_cBook_firstSpace : MethodName := ⟨"TransportPair$Book", "firstSpace", "()I"⟩
abbrev c_cBook_isQuiet : ByteArray := prog_4_method_9_code
abbrev y_cBook_isQuiet : MethodName := ⟨"TransportPair$Book", "isQuiet", "()Z"⟩
abbrev c_cBook_probeTime : ByteArray := prog_4_method_11_code
abbrev y_cBook_probeTime : MethodName := ⟨"TransportPair$Book", "probeTime", "(I)I"⟩
abbrev c_cBook_earliest : ByteArray := prog_4_method_12_code
abbrev y_cBook_earliest : MethodName := ⟨"TransportPair$Book", "earliest", "(Z)I"⟩
abbrev c_cBook_tick : ByteArray := prog_4_method_13_code
abbrev y_cBook_tick : MethodName := ⟨"TransportPair$Book", "tick", "()I"⟩
abbrev c_cSide_end : ByteArray := prog_25_method_18_code
abbrev y_cSide_end : MethodName := ⟨"TransportPair$Side", "end", "(I)V"⟩
abbrev c_cSide_probe : ByteArray := prog_25_method_33_code
abbrev y_cSide_probe : MethodName := ⟨"TransportPair$Side", "probe", "(I)V"⟩
abbrev c_cSide_quietLimit : ByteArray := prog_25_method_19_code
abbrev y_cSide_quietLimit : MethodName := ⟨"TransportPair$Side", "quietLimit", "()I"⟩
abbrev c_cSide_isWorn : ByteArray := prog_25_method_37_code
abbrev y_cSide_isWorn : MethodName := ⟨"TransportPair$Side", "isWorn", "()Z"⟩
abbrev c_cSide_headSize : ByteArray := prog_25_method_35_code
abbrev y_cSide_headSize : MethodName := ⟨"TransportPair$Side", "headSize", "(I)I"⟩
abbrev c_cBytes_put : ByteArray := prog_5_method_9_code
abbrev y_cBytes_put : MethodName := ⟨"TransportPair$Bytes", "put", "(I)V"⟩
abbrev c_cFrame_writeRanges : ByteArray := prog_9_method_20_code
abbrev y_cFrame_writeRanges : MethodName := ⟨"TransportPair$Frame", "writeRanges", "(LTransportPair$Bytes;)V"⟩
abbrev c_cFrame_write : ByteArray := prog_9_method_19_code
abbrev y_cFrame_write : MethodName := ⟨"TransportPair$Frame", "write", "(LTransportPair$Bytes;)V"⟩
abbrev c_cSide_closes : ByteArray := prog_25_method_41_code
abbrev y_cSide_closes : MethodName := ⟨"TransportPair$Side", "closes", "(I)V"⟩
abbrev c_cBook_due : ByteArray := prog_4_method_15_code
abbrev y_cBook_due : MethodName := ⟨"TransportPair$Book", "due", "(I)Z"⟩
abbrev c_cBook_delay : ByteArray := prog_4_method_16_code
abbrev y_cBook_delay : MethodName := ⟨"TransportPair$Book", "delay", "(I)I"⟩
abbrev c_cSide_acknowledges : ByteArray := prog_25_method_42_code
abbrev y_cSide_acknowledges : MethodName := ⟨"TransportPair$Side", "acknowledges", "(I)V"⟩
abbrev c_cCrypto_next : ByteArray := prog_8_method_2_code
abbrev y_cCrypto_next : MethodName := ⟨"TransportPair$Crypto", "next", "(I)I"⟩
abbrev c_cCrypto_fill : ByteArray := prog_8_method_3_code
abbrev y_cCrypto_fill : MethodName := ⟨"TransportPair$Crypto", "fill", "(LTransportPair$Frame;LTransportPair$Row;I)Z"⟩
abbrev c_cCargo_twice_AI : ByteArray := prog_6_method_3_code
abbrev y_cCargo_twice_AI : MethodName := ⟨"TransportPair$Cargo", "twice", "([I)[I"⟩
abbrev c_cCargo_twice_AB : ByteArray := prog_6_method_4_code
abbrev y_cCargo_twice_AB : MethodName := ⟨"TransportPair$Cargo", "twice", "([B)[B"⟩
abbrev c_cCargo_add : ByteArray := prog_6_method_5_code
abbrev y_cCargo_add : MethodName := ⟨"TransportPair$Cargo", "add", "(LTransportPair$Frame;)V"⟩
abbrev c_cSide_put_I : ByteArray := prog_25_method_43_code
abbrev y_cSide_put_I : MethodName := ⟨"TransportPair$Side", "put", "(I)V"⟩
abbrev c_cHall_frame : ByteArray := prog_12_method_28_code
abbrev y_cHall_frame : MethodName := ⟨"TransportPair$Hall", "frame", "(IJJJI)Z"⟩
abbrev c_cHall_fillsEnds : ByteArray := prog_12_method_31_code
abbrev y_cHall_fillsEnds : MethodName := ⟨"TransportPair$Hall", "fillsEnds", "(I)Z"⟩
abbrev c_cHall_fillsGrants : ByteArray := prog_12_method_32_code
abbrev y_cHall_fillsGrants : MethodName := ⟨"TransportPair$Hall", "fillsGrants", "(I)Z"⟩
abbrev c_cHall_waits : ByteArray := prog_12_method_33_code
abbrev y_cHall_waits : MethodName := ⟨"TransportPair$Hall", "waits", "(LTransportPair$Sending;)Z"⟩
abbrev c_cHall_fillsBlocked : ByteArray := prog_12_method_34_code
abbrev y_cHall_fillsBlocked : MethodName := ⟨"TransportPair$Hall", "fillsBlocked", "(I)Z"⟩
abbrev c_cStore_copy : ByteArray := prog_28_method_4_code
abbrev y_cStore_copy : MethodName := ⟨"TransportPair$Store", "copy", "(LTransportPair$Sending;I[BI)V"⟩
abbrev c_cHall_fills : ByteArray := prog_12_method_36_code
abbrev y_cHall_fills : MethodName := ⟨"TransportPair$Hall", "fills", "(ILTransportPair$Sending;I)Z"⟩
abbrev c_cHall_fillsStream : ByteArray := prog_12_method_35_code
abbrev y_cHall_fillsStream : MethodName := ⟨"TransportPair$Hall", "fillsStream", "(I)Z"⟩
abbrev c_cHall_fill : ByteArray := prog_12_method_30_code
abbrev y_cHall_fill : MethodName := ⟨"TransportPair$Hall", "fill", "(I)Z"⟩
abbrev c_cSide_carries : ByteArray := prog_25_method_44_code
abbrev y_cSide_carries : MethodName := ⟨"TransportPair$Side", "carries", "(I)V"⟩
abbrev c_cBook_written : ByteArray := prog_4_method_17_code
abbrev y_cBook_written : MethodName := ⟨"TransportPair$Book", "written", "(I)I"⟩
abbrev c_cCargo_begin : ByteArray := prog_6_method_2_code
abbrev y_cCargo_begin : MethodName := ⟨"TransportPair$Cargo", "begin", "()V"⟩
abbrev c_cCounting_bytesOf : ByteArray := prog_7_method_2_code
abbrev y_cCounting_bytesOf : MethodName := ⟨"TransportPair$Counting", "bytesOf", "(JJ)I"⟩
abbrev c_cSide_bytesOf : ByteArray := prog_25_method_38_code
abbrev y_cSide_bytesOf : MethodName := ⟨"TransportPair$Side", "bytesOf", "(I)I"⟩
abbrev c_cSide_pad : ByteArray := prog_25_method_39_code
abbrev y_cSide_pad : MethodName := ⟨"TransportPair$Side", "pad", "(II)V"⟩
abbrev c_cSide_draft : ByteArray := prog_25_method_40_code
abbrev y_cSide_draft : MethodName := ⟨"TransportPair$Side", "draft", "(IIZ)V"⟩
abbrev c_cHeader_write : ByteArray := prog_14_method_8_code
abbrev y_cHeader_write : MethodName := ⟨"TransportPair$Header", "write", "(LTransportPair$Bytes;II[BIIII)V"⟩
abbrev c_cGuard_seal : ByteArray := prog_11_method_7_code
abbrev y_cGuard_seal : MethodName := ⟨"TransportPair$Guard", "seal", "(LTransportPair$Bench;J[BIII)I"⟩
abbrev c_cSpace_grow : ByteArray := prog_26_method_4_code
abbrev y_cSpace_grow : MethodName := ⟨"TransportPair$Space", "grow", "()V"⟩
abbrev c_cSpace_add : ByteArray := prog_26_method_5_code
abbrev y_cSpace_add : MethodName := ⟨"TransportPair$Space", "add", "(IIZZZ)I"⟩
abbrev c_cBook_send : ByteArray := prog_4_method_2_code
abbrev y_cBook_send : MethodName := ⟨"TransportPair$Book", "send", "(IIZZ)I"⟩
abbrev c_cSide_seal : ByteArray := prog_25_method_45_code
abbrev y_cSide_seal : MethodName := ⟨"TransportPair$Side", "seal", "(II)I"⟩
abbrev c_cSide_datagram : ByteArray := prog_25_method_36_code
abbrev y_cSide_datagram : MethodName := ⟨"TransportPair$Side", "datagram", "(LTransportPair$Line;Z)Z"⟩
abbrev c_cSide_sends : ByteArray := prog_25_method_34_code
abbrev y_cSide_sends : MethodName := ⟨"TransportPair$Side", "sends", "(LTransportPair$Line;)V"⟩
abbrev c_cSide_tick : ByteArray := prog_25_method_32_code
abbrev y_cSide_tick : MethodName := ⟨"TransportPair$Side", "tick", "(LTransportPair$Line;)V"⟩
abbrev c_cP_tick_ : ByteArray := prog_1_method_34_code
abbrev y_cP_tick_ : MethodName := ⟨"TransportPair", "tick", "()V"⟩
abbrev c_cP_tick_I : ByteArray := prog_1_method_33_code
abbrev y_cP_tick_I : MethodName := ⟨"TransportPair", "tick", "(I)I"⟩
abbrev c_cP_line : ByteArray := prog_1_method_35_code
abbrev y_cP_line : MethodName := ⟨"TransportPair", "line", "(II)I"⟩
abbrev c_cP_at : ByteArray := prog_1_method_36_code
abbrev y_cP_at : MethodName := ⟨"TransportPair", "at", "(III)I"⟩
abbrev c_cP_look : ByteArray := prog_1_method_37_code
abbrev y_cP_look : MethodName := ⟨"TransportPair", "look", "(II)I"⟩
abbrev c_cBook_look : ByteArray := prog_4_method_18_code
abbrev y_cBook_look : MethodName := ⟨"TransportPair$Book", "look", "(I)I"⟩
abbrev c_cP_book : ByteArray := prog_1_method_38_code
abbrev y_cP_book : MethodName := ⟨"TransportPair", "book", "(II)I"⟩
abbrev c_cBook_space : ByteArray := prog_4_method_19_code
abbrev y_cBook_space : MethodName := ⟨"TransportPair$Book", "space", "(II)J"⟩
abbrev c_cP_space : ByteArray := prog_1_method_39_code
abbrev y_cP_space : MethodName := ⟨"TransportPair", "space", "(III)J"⟩
abbrev c_cHall_look_II : ByteArray := prog_12_method_40_code
abbrev y_cHall_look_II : MethodName := ⟨"TransportPair$Hall", "look", "(II)J"⟩
abbrev c_cP_stream : ByteArray := prog_1_method_40_code
abbrev y_cP_stream : MethodName := ⟨"TransportPair", "stream", "(III)J"⟩
abbrev c_cHall_look_I : ByteArray := prog_12_method_41_code
abbrev y_cHall_look_I : MethodName := ⟨"TransportPair$Hall", "look", "(I)J"⟩
abbrev c_cP_streams : ByteArray := prog_1_method_41_code
abbrev y_cP_streams : MethodName := ⟨"TransportPair", "streams", "(II)J"⟩
abbrev c_mSeals_nextPrime : ByteArray := prog_40_method_2_code
abbrev y_mSeals_nextPrime : MethodName := ⟨"TransportPairModel$Seals", "nextPrime", "(I)I"⟩
abbrev c_mSeals_times : ByteArray := prog_40_method_5_code
abbrev y_mSeals_times : MethodName := ⟨"TransportPairModel$Seals", "times", "()V"⟩
abbrev c_mSeals_isAbove : ByteArray := prog_40_method_4_code
abbrev y_mSeals_isAbove : MethodName := ⟨"TransportPairModel$Seals", "isAbove", "(JII)Z"⟩
abbrev c_mSeals_rootOf : ByteArray := prog_40_method_3_code
abbrev y_mSeals_rootOf : MethodName := ⟨"TransportPairModel$Seals", "rootOf", "(II)J"⟩
abbrev c_mSeals_init : ByteArray := prog_40_method_1_code
abbrev y_mSeals_init : MethodName := ⟨"TransportPairModel$Seals", "<init>", "()V"⟩
abbrev c_mStreams_init : ByteArray := prog_42_method_1_code
abbrev y_mStreams_init : MethodName := ⟨"TransportPairModel$Streams", "<init>", "()V"⟩
abbrev c_mBook_init : ByteArray := prog_36_method_1_code
abbrev y_mBook_init : MethodName := ⟨"TransportPairModel$Book", "<init>", "()V"⟩
abbrev c_mWire_init : ByteArray := prog_43_method_1_code
abbrev y_mWire_init : MethodName := ⟨"TransportPairModel$Wire", "<init>", "()V"⟩
abbrev c_mCargo_init : ByteArray := prog_37_method_1_code
abbrev y_mCargo_init : MethodName := ⟨"TransportPairModel$Cargo", "<init>", "()V"⟩
abbrev c_mDraft_init : ByteArray := prog_38_method_1_code
abbrev y_mDraft_init : MethodName := ⟨"TransportPairModel$Draft", "<init>", "()V"⟩
abbrev c_mGreet_init : ByteArray := prog_39_method_1_code
abbrev y_mGreet_init : MethodName := ⟨"TransportPairModel$Greet", "<init>", "(ILTransportPairModel$Seals;)V"⟩
abbrev c_mSide_init : ByteArray := prog_41_method_1_code
abbrev y_mSide_init : MethodName := ⟨"TransportPairModel$Side", "<init>", "(ILTransportPairModel$Seals;LTransportPairModel$Streams;)V"⟩
abbrev c_mStreams_setGrant : ByteArray := prog_42_method_2_code
abbrev y_mStreams_setGrant : MethodName := ⟨"TransportPairModel$Streams", "setGrant", "(IIJ)V"⟩
abbrev c_mP_set : ByteArray := prog_35_method_2_code
abbrev y_mP_set : MethodName := ⟨"TransportPairModel", "set", "(III)V"⟩
abbrev c_mP_init : ByteArray := prog_35_method_1_code
abbrev y_mP_init : MethodName := ⟨"TransportPairModel", "<init>", "()V"⟩
abbrev c_mP_thrown : ByteArray := prog_35_method_3_code
abbrev y_mP_thrown : MethodName := ⟨"TransportPairModel", "thrown", "()I"⟩
abbrev c_mP_fails : ByteArray := prog_35_method_4_code
abbrev y_mP_fails : MethodName := ⟨"TransportPairModel", "fails", "(ZI)Z"⟩
abbrev c_mP_no : ByteArray := prog_35_method_5_code
abbrev y_mP_no : MethodName := ⟨"TransportPairModel", "no", "(I)Z"⟩
abbrev c_mP_feed : ByteArray := prog_35_method_6_code
abbrev y_mP_feed : MethodName := ⟨"TransportPairModel", "feed", "(IIIII)I"⟩
abbrev c_mP_end : ByteArray := prog_35_method_7_code
abbrev y_mP_end : MethodName := ⟨"TransportPairModel", "end", "(I)I"⟩
abbrev c_mP_key : ByteArray := prog_35_method_8_code
abbrev y_mP_key : MethodName := ⟨"TransportPairModel", "key", "(I)V"⟩
abbrev c_mP_random : ByteArray := prog_35_method_9_code
abbrev y_mP_random : MethodName := ⟨"TransportPairModel", "random", "(I)V"⟩
abbrev c_mP_parameter : ByteArray := prog_35_method_10_code
abbrev y_mP_parameter : MethodName := ⟨"TransportPairModel", "parameter", "(III)V"⟩
abbrev c_mSeals_right : ByteArray := prog_40_method_6_code
abbrev y_mSeals_right : MethodName := ⟨"TransportPairModel$Seals", "right", "(JI)J"⟩
abbrev c_mSeals_round : ByteArray := prog_40_method_9_code
abbrev y_mSeals_round : MethodName := ⟨"TransportPairModel$Seals", "round", "(I)V"⟩
abbrev c_mSeals_part : ByteArray := prog_40_method_8_code
abbrev y_mSeals_part : MethodName := ⟨"TransportPairModel$Seals", "part", "(I)V"⟩
abbrev c_mSeals_digestWork : ByteArray := prog_40_method_7_code
abbrev y_mSeals_digestWork : MethodName := ⟨"TransportPairModel$Seals", "digestWork", "(I)V"⟩
abbrev c_mSeals_macText : ByteArray := prog_40_method_11_code
abbrev y_mSeals_macText : MethodName := ⟨"TransportPairModel$Seals", "macText", "([III)V"⟩
abbrev c_mSeals_mac : ByteArray := prog_40_method_12_code
abbrev y_mSeals_mac : MethodName := ⟨"TransportPairModel$Seals", "mac", "([III[III[I)V"⟩
abbrev c_mSeals_words : ByteArray := prog_40_method_14_code
abbrev y_mSeals_words : MethodName := ⟨"TransportPairModel$Seals", "words", "(I)J"⟩
abbrev c_mSeals_tell : ByteArray := prog_40_method_13_code
abbrev y_mSeals_tell : MethodName := ⟨"TransportPairModel$Seals", "tell", "(I)V"⟩
abbrev c_mSeals_label : ByteArray := prog_40_method_15_code
abbrev y_mSeals_label : MethodName := ⟨"TransportPairModel$Seals", "label", "([III[III[II)V"⟩
abbrev c_mGreet_firstSecrets : ByteArray := prog_39_method_2_code
abbrev y_mGreet_firstSecrets : MethodName := ⟨"TransportPairModel$Greet", "firstSecrets", "([III[I)V"⟩
abbrev c_mSeals_arm : ByteArray := prog_40_method_16_code
abbrev y_mSeals_arm : MethodName := ⟨"TransportPairModel$Seals", "arm", "([II[II)V"⟩
abbrev c_mSide_arm : ByteArray := prog_41_method_10_code
abbrev y_mSide_arm : MethodName := ⟨"TransportPairModel$Side", "arm", "(I)V"⟩
abbrev c_mSide_putOwn : ByteArray := prog_41_method_6_code
abbrev y_mSide_putOwn : MethodName := ⟨"TransportPairModel$Side", "putOwn", "(I)V"⟩
abbrev c_mSide_putName : ByteArray := prog_41_method_7_code
abbrev y_mSide_putName : MethodName := ⟨"TransportPairModel$Side", "putName", "(I[II)V"⟩
abbrev c_mWire_needs : ByteArray := prog_43_method_3_code
abbrev y_mWire_needs : MethodName := ⟨"TransportPairModel$Wire", "needs", "(J)I"⟩
abbrev c_mSide_putNumber : ByteArray := prog_41_method_5_code
abbrev y_mSide_putNumber : MethodName := ⟨"TransportPairModel$Side", "putNumber", "(IJ)V"⟩
abbrev c_mSide_makeParameters : ByteArray := prog_41_method_8_code
abbrev y_mSide_makeParameters : MethodName := ⟨"TransportPairModel$Side", "makeParameters", "()V"⟩
abbrev c_mGreet_send : ByteArray := prog_39_method_6_code
abbrev y_mGreet_send : MethodName := ⟨"TransportPairModel$Greet", "send", "(II)V"⟩
abbrev c_mGreet_note : ByteArray := prog_39_method_7_code
abbrev y_mGreet_note : MethodName := ⟨"TransportPairModel$Greet", "note", "(I)V"⟩
abbrev c_mGreet_says : ByteArray := prog_39_method_8_code
abbrev y_mGreet_says : MethodName := ⟨"TransportPairModel$Greet", "says", "(IZ)V"⟩
abbrev c_mGreet_begin : ByteArray := prog_39_method_9_code
abbrev y_mGreet_begin : MethodName := ⟨"TransportPairModel$Greet", "begin", "()V"⟩
abbrev c_mSide_begin : ByteArray := prog_41_method_9_code
abbrev y_mSide_begin : MethodName := ⟨"TransportPairModel$Side", "begin", "([II)V"⟩
abbrev c_mP_begin : ByteArray := prog_35_method_11_code
abbrev y_mP_begin : MethodName := ⟨"TransportPairModel", "begin", "()V"⟩
abbrev c_mStreams_at : ByteArray := prog_42_method_9_code
abbrev y_mStreams_at : MethodName := ⟨"TransportPairModel$Streams", "at", "(II)I"⟩
abbrev c_mStreams_wayOf : ByteArray := prog_42_method_5_code
abbrev y_mStreams_wayOf : MethodName := ⟨"TransportPairModel$Streams", "wayOf", "(J)I"⟩
abbrev c_mStreams_opens : ByteArray := prog_42_method_6_code
abbrev y_mStreams_opens : MethodName := ⟨"TransportPairModel$Streams", "opens", "(IJ)Z"⟩
abbrev c_mStreams_grantOf : ByteArray := prog_42_method_13_code
abbrev y_mStreams_grantOf : MethodName := ⟨"TransportPairModel$Streams", "grantOf", "(II)J"⟩
abbrev c_mStreams_begin : ByteArray := prog_42_method_14_code
abbrev y_mStreams_begin : MethodName := ⟨"TransportPairModel$Streams", "begin", "(II)V"⟩
abbrev c_mStreams_open : ByteArray := prog_42_method_27_code
abbrev y_mStreams_open : MethodName := ⟨"TransportPairModel$Streams", "open", "(IZ)I"⟩
abbrev c_mP_open : ByteArray := prog_35_method_12_code
abbrev y_mP_open : MethodName := ⟨"TransportPairModel", "open", "(IZ)I"⟩
abbrev c_mStreams_isThere : ByteArray := prog_42_method_10_code
abbrev y_mStreams_isThere : MethodName := ⟨"TransportPairModel$Streams", "isThere", "(II)Z"⟩
abbrev c_mStreams_sends : ByteArray := prog_42_method_7_code
abbrev y_mStreams_sends : MethodName := ⟨"TransportPairModel$Streams", "sends", "(IJ)Z"⟩
abbrev c_mStreams_hasSending : ByteArray := prog_42_method_11_code
abbrev y_mStreams_hasSending : MethodName := ⟨"TransportPairModel$Streams", "hasSending", "(II)Z"⟩
abbrev c_mStreams_sending : ByteArray := prog_42_method_15_code
abbrev y_mStreams_sending : MethodName := ⟨"TransportPairModel$Streams", "sending", "(I)I"⟩
abbrev c_mStreams_write : ByteArray := prog_42_method_28_code
abbrev y_mStreams_write : MethodName := ⟨"TransportPairModel$Streams", "write", "(II[BI)I"⟩
abbrev c_mP_write : ByteArray := prog_35_method_13_code
abbrev y_mP_write : MethodName := ⟨"TransportPairModel", "write", "(II)I"⟩
abbrev c_mStreams_finish : ByteArray := prog_42_method_29_code
abbrev y_mStreams_finish : MethodName := ⟨"TransportPairModel$Streams", "finish", "(II)Z"⟩
abbrev c_mP_finish : ByteArray := prog_35_method_14_code
abbrev y_mP_finish : MethodName := ⟨"TransportPairModel", "finish", "(II)Z"⟩
abbrev c_mStreams_isOpenSending : ByteArray := prog_42_method_16_code
abbrev y_mStreams_isOpenSending : MethodName := ⟨"TransportPairModel$Streams", "isOpenSending", "(II)Z"⟩
abbrev c_mStreams_doReset : ByteArray := prog_42_method_30_code
abbrev y_mStreams_doReset : MethodName := ⟨"TransportPairModel$Streams", "doReset", "(IIJ)V"⟩
abbrev c_mStreams_reset : ByteArray := prog_42_method_31_code
abbrev y_mStreams_reset : MethodName := ⟨"TransportPairModel$Streams", "reset", "(IIJ)Z"⟩
abbrev c_mP_reset : ByteArray := prog_35_method_15_code
abbrev y_mP_reset : MethodName := ⟨"TransportPairModel", "reset", "(III)Z"⟩
abbrev c_mStreams_receives : ByteArray := prog_42_method_8_code
abbrev y_mStreams_receives : MethodName := ⟨"TransportPairModel$Streams", "receives", "(IJ)Z"⟩
abbrev c_mStreams_hasReceiving : ByteArray := prog_42_method_12_code
abbrev y_mStreams_hasReceiving : MethodName := ⟨"TransportPairModel$Streams", "hasReceiving", "(II)Z"⟩
abbrev c_mStreams_receiving : ByteArray := prog_42_method_17_code
abbrev y_mStreams_receiving : MethodName := ⟨"TransportPairModel$Streams", "receiving", "(I)I"⟩
abbrev c_mStreams_stop : ByteArray := prog_42_method_32_code
abbrev y_mStreams_stop : MethodName := ⟨"TransportPairModel$Streams", "stop", "(IIJ)Z"⟩
abbrev c_mP_stop : ByteArray := prog_35_method_16_code
abbrev y_mP_stop : MethodName := ⟨"TransportPairModel", "stop", "(III)Z"⟩
abbrev c_mStreams_pieceAt : ByteArray := prog_42_method_21_code
abbrev y_mStreams_pieceAt : MethodName := ⟨"TransportPairModel$Streams", "pieceAt", "(II)I"⟩
abbrev c_mStreams_consumed : ByteArray := prog_42_method_19_code
abbrev y_mStreams_consumed : MethodName := ⟨"TransportPairModel$Streams", "consumed", "(I)J"⟩
abbrev c_mStreams_growData : ByteArray := prog_42_method_24_code
abbrev y_mStreams_growData : MethodName := ⟨"TransportPairModel$Streams", "growData", "(I)V"⟩
abbrev c_mStreams_growStream : ByteArray := prog_42_method_25_code
abbrev y_mStreams_growStream : MethodName := ⟨"TransportPairModel$Streams", "growStream", "(II)V"⟩
abbrev c_mStreams_looksOver : ByteArray := prog_42_method_26_code
abbrev y_mStreams_looksOver : MethodName := ⟨"TransportPairModel$Streams", "looksOver", "(II)V"⟩
abbrev c_mStreams_read : ByteArray := prog_42_method_33_code
abbrev y_mStreams_read : MethodName := ⟨"TransportPairModel$Streams", "read", "(III[I)I"⟩
abbrev c_mP_read : ByteArray := prog_35_method_17_code
abbrev y_mP_read : MethodName := ⟨"TransportPairModel", "read", "(III)I"⟩
abbrev c_mP_outs : ByteArray := prog_35_method_18_code
abbrev y_mP_outs : MethodName := ⟨"TransportPairModel", "outs", "(I)J"⟩
abbrev c_mSide_isAlive : ByteArray := prog_41_method_2_code
abbrev y_mSide_isAlive : MethodName := ⟨"TransportPairModel$Side", "isAlive", "()Z"⟩
abbrev c_mBook_greater : ByteArray := prog_36_method_2_code
abbrev y_mBook_greater : MethodName := ⟨"TransportPairModel$Book", "greater", "(II)I"⟩
abbrev c_mBook_patience : ByteArray := prog_36_method_7_code
abbrev y_mBook_patience : MethodName := ⟨"TransportPairModel$Book", "patience", "(Z)I"⟩
abbrev c_mSide_end : ByteArray := prog_41_method_11_code
abbrev y_mSide_end : MethodName := ⟨"TransportPairModel$Side", "end", "(I)V"⟩
abbrev c_mSide_closes : ByteArray := prog_41_method_12_code
abbrev y_mSide_closes : MethodName := ⟨"TransportPairModel$Side", "closes", "(II)V"⟩
abbrev c_mP_close : ByteArray := prog_35_method_19_code
abbrev y_mP_close : MethodName := ⟨"TransportPairModel", "close", "(II)Z"⟩
abbrev c_mP_raw : ByteArray := prog_35_method_20_code
abbrev y_mP_raw : MethodName := ⟨"TransportPairModel", "raw", "(I)V"⟩
abbrev c_mP_place : ByteArray := prog_35_method_21_code
abbrev y_mP_place : MethodName := ⟨"TransportPairModel", "place", "(II)I"⟩
abbrev c_mP_lies : ByteArray := prog_35_method_22_code
abbrev y_mP_lies : MethodName := ⟨"TransportPairModel", "lies", "(I[III)V"⟩
abbrev c_mP_lift : ByteArray := prog_35_method_23_code
abbrev y_mP_lift : MethodName := ⟨"TransportPairModel", "lift", "(II)V"⟩
abbrev c_mP_remove : ByteArray := prog_35_method_24_code
abbrev y_mP_remove : MethodName := ⟨"TransportPairModel", "remove", "(II)I"⟩
abbrev c_mP_isNone : ByteArray := prog_35_method_25_code
abbrev y_mP_isNone : MethodName := ⟨"TransportPairModel", "isNone", "(II)Z"⟩
abbrev c_mWire_look : ByteArray := prog_43_method_2_code
abbrev y_mWire_look : MethodName := ⟨"TransportPairModel$Wire", "look", "([III)V"⟩
abbrev c_mWire_take : ByteArray := prog_43_method_4_code
abbrev y_mWire_take : MethodName := ⟨"TransportPairModel$Wire", "take", "(I)J"⟩
abbrev c_mWire_pass : ByteArray := prog_43_method_6_code
abbrev y_mWire_pass : MethodName := ⟨"TransportPairModel$Wire", "pass", "(J)I"⟩
abbrev c_mP_readsName : ByteArray := prog_35_method_35_code
abbrev y_mP_readsName : MethodName := ⟨"TransportPairModel", "readsName", "(I)Z"⟩
abbrev c_mWire_takeNumber : ByteArray := prog_43_method_5_code
abbrev y_mWire_takeNumber : MethodName := ⟨"TransportPairModel$Wire", "takeNumber", "()J"⟩
abbrev c_mP_reads : ByteArray := prog_35_method_34_code
abbrev y_mP_reads : MethodName := ⟨"TransportPairModel", "reads", "(II)I"⟩
abbrev c_mP_isSame : ByteArray := prog_35_method_36_code
abbrev y_mP_isSame : MethodName := ⟨"TransportPairModel", "isSame", "()Z"⟩
abbrev c_mSeals_wordOf : ByteArray := prog_40_method_20_code
abbrev y_mSeals_wordOf : MethodName := ⟨"TransportPairModel$Seals", "wordOf", "([II)J"⟩
abbrev c_mSeals_left : ByteArray := prog_40_method_17_code
abbrev y_mSeals_left : MethodName := ⟨"TransportPairModel$Seals", "left", "(JI)J"⟩
abbrev c_mSeals_half : ByteArray := prog_40_method_18_code
abbrev y_mSeals_half : MethodName := ⟨"TransportPairModel$Seals", "half", "(IIII)V"⟩
abbrev c_mSeals_mix : ByteArray := prog_40_method_19_code
abbrev y_mSeals_mix : MethodName := ⟨"TransportPairModel$Seals", "mix", "(IIII)V"⟩
abbrev c_mSeals_blockOf : ByteArray := prog_40_method_21_code
abbrev y_mSeals_blockOf : MethodName := ⟨"TransportPairModel$Seals", "blockOf", "(J)V"⟩
abbrev c_mSeals_shield : ByteArray := prog_40_method_30_code
abbrev y_mSeals_shield : MethodName := ⟨"TransportPairModel$Seals", "shield", "([II[IIIZ)I"⟩
abbrev c_mSide_grown : ByteArray := prog_41_method_16_code
abbrev y_mSide_grown : MethodName := ⟨"TransportPairModel$Side", "grown", "(JJI)J"⟩
abbrev c_mSeals_nonceOf : ByteArray := prog_40_method_24_code
abbrev y_mSeals_nonceOf : MethodName := ⟨"TransportPairModel$Seals", "nonceOf", "([IIJ)V"⟩
abbrev c_mSeals_fill : ByteArray := prog_40_method_26_code
abbrev y_mSeals_fill : MethodName := ⟨"TransportPairModel$Seals", "fill", "(I)I"⟩
abbrev c_mSeals_multiply : ByteArray := prog_40_method_23_code
abbrev y_mSeals_multiply : MethodName := ⟨"TransportPairModel$Seals", "multiply", "()V"⟩
abbrev c_mSeals_tallyOf : ByteArray := prog_40_method_22_code
abbrev y_mSeals_tallyOf : MethodName := ⟨"TransportPairModel$Seals", "tallyOf", "(I)V"⟩
abbrev c_mSeals_tagOf : ByteArray := prog_40_method_27_code
abbrev y_mSeals_tagOf : MethodName := ⟨"TransportPairModel$Seals", "tagOf", "([IIII)V"⟩
abbrev c_mSeals_change : ByteArray := prog_40_method_25_code
abbrev y_mSeals_change : MethodName := ⟨"TransportPairModel$Seals", "change", "([III)V"⟩
abbrev c_mSeals_open : ByteArray := prog_40_method_29_code
abbrev y_mSeals_open : MethodName := ⟨"TransportPairModel$Seals", "open", "([IIJ[IIII)Z"⟩
abbrev c_mSide_tries : ByteArray := prog_41_method_15_code
abbrev y_mSide_tries : MethodName := ⟨"TransportPairModel$Side", "tries", "([I[I)Z"⟩
abbrev c_mSide_isName : ByteArray := prog_41_method_13_code
abbrev y_mSide_isName : MethodName := ⟨"TransportPairModel$Side", "isName", "([III[I)Z"⟩
abbrev c_mSide_hasGuards : ByteArray := prog_41_method_3_code
abbrev y_mSide_hasGuards : MethodName := ⟨"TransportPairModel$Side", "hasGuards", "(I)Z"⟩
abbrev c_mBook_greatest : ByteArray := prog_36_method_24_code
abbrev y_mBook_greatest : MethodName := ⟨"TransportPairModel$Book", "greatest", "(I)J"⟩
abbrev c_mBook_isOld : ByteArray := prog_36_method_23_code
abbrev y_mBook_isOld : MethodName := ⟨"TransportPairModel$Book", "isOld", "(IJ)Z"⟩
abbrev c_mBook_discard : ByteArray := prog_36_method_21_code
abbrev y_mBook_discard : MethodName := ⟨"TransportPairModel$Book", "discard", "(I)V"⟩
abbrev c_mSide_discard : ByteArray := prog_41_method_4_code
abbrev y_mSide_discard : MethodName := ⟨"TransportPairModel$Side", "discard", "(I)V"⟩
abbrev c_mSide_opened : ByteArray := prog_41_method_17_code
abbrev y_mSide_opened : MethodName := ⟨"TransportPairModel$Side", "opened", "([I[II)V"⟩
abbrev c_mWire_takeAck : ByteArray := prog_43_method_11_code
abbrev y_mWire_takeAck : MethodName := ⟨"TransportPairModel$Wire", "takeAck", "(I)V"⟩
abbrev c_mWire_takeData : ByteArray := prog_43_method_7_code
abbrev y_mWire_takeData : MethodName := ⟨"TransportPairModel$Wire", "takeData", "(J)V"⟩
abbrev c_mWire_takeStream : ByteArray := prog_43_method_10_code
abbrev y_mWire_takeStream : MethodName := ⟨"TransportPairModel$Wire", "takeStream", "(I)V"⟩
abbrev c_mWire_fields : ByteArray := prog_43_method_8_code
abbrev y_mWire_fields : MethodName := ⟨"TransportPairModel$Wire", "fields", "(I)I"⟩
abbrev c_mWire_takeFields : ByteArray := prog_43_method_9_code
abbrev y_mWire_takeFields : MethodName := ⟨"TransportPairModel$Wire", "takeFields", "(I)V"⟩
abbrev c_mWire_takeRest : ByteArray := prog_43_method_12_code
abbrev y_mWire_takeRest : MethodName := ⟨"TransportPairModel$Wire", "takeRest", "(I)V"⟩
abbrev c_mWire_edge : ByteArray := prog_43_method_13_code
abbrev y_mWire_edge : MethodName := ⟨"TransportPairModel$Wire", "edge", "(IZ)J"⟩
abbrev c_mWire_isRight : ByteArray := prog_43_method_14_code
abbrev y_mWire_isRight : MethodName := ⟨"TransportPairModel$Wire", "isRight", "()Z"⟩
abbrev c_mWire_read : ByteArray := prog_43_method_15_code
abbrev y_mWire_read : MethodName := ⟨"TransportPairModel$Wire", "read", "(I)I"⟩
abbrev c_mBook_isOut : ByteArray := prog_36_method_3_code
abbrev y_mBook_isOut : MethodName := ⟨"TransportPairModel$Book", "isOut", "(II)Z"⟩
abbrev c_mBook_isNew : ByteArray := prog_36_method_16_code
abbrev y_mBook_isNew : MethodName := ⟨"TransportPairModel$Book", "isNew", "(II)Z"⟩
abbrev c_mBook_sample : ByteArray := prog_36_method_12_code
abbrev y_mBook_sample : MethodName := ⟨"TransportPairModel$Book", "sample", "(II)V"⟩
abbrev c_mBook_find : ByteArray := prog_36_method_15_code
abbrev y_mBook_find : MethodName := ⟨"TransportPairModel$Book", "find", "(III)V"⟩
abbrev c_mBook_isBehindRecovery : ByteArray := prog_36_method_13_code
abbrev y_mBook_isBehindRecovery : MethodName := ⟨"TransportPairModel$Book", "isBehindRecovery", "(I)Z"⟩
abbrev c_mBook_grow : ByteArray := prog_36_method_14_code
abbrev y_mBook_grow : MethodName := ⟨"TransportPairModel$Book", "grow", "(I)V"⟩
abbrev c_mBook_limit : ByteArray := prog_36_method_8_code
abbrev y_mBook_limit : MethodName := ⟨"TransportPairModel$Book", "limit", "()I"⟩
abbrev c_mBook_persists : ByteArray := prog_36_method_19_code
abbrev y_mBook_persists : MethodName := ⟨"TransportPairModel$Book", "persists", "(II)V"⟩
abbrev c_mBook_losses : ByteArray := prog_36_method_18_code
abbrev y_mBook_losses : MethodName := ⟨"TransportPairModel$Book", "losses", "(I)V"⟩
abbrev c_mBook_acknowledge : ByteArray := prog_36_method_17_code
abbrev y_mBook_acknowledge : MethodName := ⟨"TransportPairModel$Book", "acknowledge", "(II)Z"⟩
abbrev c_mBook_next : ByteArray := prog_36_method_22_code
abbrev y_mBook_next : MethodName := ⟨"TransportPairModel$Book", "next", "(IZ)I"⟩
abbrev c_mSide_tellCrypto : ByteArray := prog_41_method_24_code
abbrev y_mSide_tellCrypto : MethodName := ⟨"TransportPairModel$Side", "tellCrypto", "(IIIZ)V"⟩
abbrev c_mSide_tellDone : ByteArray := prog_41_method_25_code
abbrev y_mSide_tellDone : MethodName := ⟨"TransportPairModel$Side", "tellDone", "(Z)V"⟩
abbrev c_mStreams_remark : ByteArray := prog_42_method_20_code
abbrev y_mStreams_remark : MethodName := ⟨"TransportPairModel$Streams", "remark", "(III)V"⟩
abbrev c_mStreams_goneStream : ByteArray := prog_42_method_53_code
abbrev y_mStreams_goneStream : MethodName := ⟨"TransportPairModel$Streams", "goneStream", "(IIIIJZ)V"⟩
abbrev c_mStreams_gone : ByteArray := prog_42_method_52_code
abbrev y_mStreams_gone : MethodName := ⟨"TransportPairModel$Streams", "gone", "(IIJJIJZ)V"⟩
abbrev c_mSide_tellPacket : ByteArray := prog_41_method_23_code
abbrev y_mSide_tellPacket : MethodName := ⟨"TransportPairModel$Side", "tellPacket", "(IIZ)V"⟩
abbrev c_mSide_tellFound : ByteArray := prog_41_method_22_code
abbrev y_mSide_tellFound : MethodName := ⟨"TransportPairModel$Side", "tellFound", "(I)V"⟩
abbrev c_mSide_acknowledged : ByteArray := prog_41_method_21_code
abbrev y_mSide_acknowledged : MethodName := ⟨"TransportPairModel$Side", "acknowledged", "(I)I"⟩
abbrev c_mGreet_isSize : ByteArray := prog_39_method_10_code
abbrev y_mGreet_isSize : MethodName := ⟨"TransportPairModel$Greet", "isSize", "(II)Z"⟩
abbrev c_mGreet_lookAt : ByteArray := prog_39_method_11_code
abbrev y_mGreet_lookAt : MethodName := ⟨"TransportPairModel$Greet", "lookAt", "(I)I"⟩
abbrev c_mSeals_digest : ByteArray := prog_40_method_10_code
abbrev y_mSeals_digest : MethodName := ⟨"TransportPairModel$Seals", "digest", "([II[I)V"⟩
abbrev c_mGreet_prove : ByteArray := prog_39_method_5_code
abbrev y_mGreet_prove : MethodName := ⟨"TransportPairModel$Greet", "prove", "(I)V"⟩
abbrev c_mGreet_keepTheirs : ByteArray := prog_39_method_12_code
abbrev y_mGreet_keepTheirs : MethodName := ⟨"TransportPairModel$Greet", "keepTheirs", "(II)V"⟩
abbrev c_mGreet_greets : ByteArray := prog_39_method_3_code
abbrev y_mGreet_greets : MethodName := ⟨"TransportPairModel$Greet", "greets", "()V"⟩
abbrev c_mGreet_talks : ByteArray := prog_39_method_4_code
abbrev y_mGreet_talks : MethodName := ⟨"TransportPairModel$Greet", "talks", "()V"⟩
abbrev c_mGreet_done : ByteArray := prog_39_method_13_code
abbrev y_mGreet_done : MethodName := ⟨"TransportPairModel$Greet", "done", "(II)I"⟩
abbrev c_mGreet_works : ByteArray := prog_39_method_14_code
abbrev y_mGreet_works : MethodName := ⟨"TransportPairModel$Greet", "works", "(I)I"⟩
abbrev c_mGreet_take : ByteArray := prog_39_method_15_code
abbrev y_mGreet_take : MethodName := ⟨"TransportPairModel$Greet", "take", "(I[III)I"⟩
abbrev c_mSide_hasBytes : ByteArray := prog_41_method_27_code
abbrev y_mSide_hasBytes : MethodName := ⟨"TransportPairModel$Side", "hasBytes", "(I)Z"⟩
abbrev c_mSide_suits : ByteArray := prog_41_method_28_code
abbrev y_mSide_suits : MethodName := ⟨"TransportPairModel$Side", "suits", "(LTransportPairModel$Wire;III)Z"⟩
abbrev c_mSide_readsParameters : ByteArray := prog_41_method_29_code
abbrev y_mSide_readsParameters : MethodName := ⟨"TransportPairModel$Side", "readsParameters", "(LTransportPairModel$Wire;)Z"⟩
abbrev c_mStreams_know : ByteArray := prog_42_method_3_code
abbrev y_mStreams_know : MethodName := ⟨"TransportPairModel$Streams", "know", "(IIJ)V"⟩
abbrev c_mSide_readParameters : ByteArray := prog_41_method_30_code
abbrev y_mSide_readParameters : MethodName := ⟨"TransportPairModel$Side", "readParameters", "()Z"⟩
abbrev c_mSide_confirm : ByteArray := prog_41_method_20_code
abbrev y_mSide_confirm : MethodName := ⟨"TransportPairModel$Side", "confirm", "()V"⟩
abbrev c_mSide_cryptoComes : ByteArray := prog_41_method_26_code
abbrev y_mSide_cryptoComes : MethodName := ⟨"TransportPairModel$Side", "cryptoComes", "(I)I"⟩
abbrev c_mStreams_meant : ByteArray := prog_42_method_34_code
abbrev y_mStreams_meant : MethodName := ⟨"TransportPairModel$Streams", "meant", "(IJZ)I"⟩
abbrev c_mStreams_received : ByteArray := prog_42_method_18_code
abbrev y_mStreams_received : MethodName := ⟨"TransportPairModel$Streams", "received", "(I)J"⟩
abbrev c_mStreams_reaches : ByteArray := prog_42_method_36_code
abbrev y_mStreams_reaches : MethodName := ⟨"TransportPairModel$Streams", "reaches", "(IIJZ)I"⟩
abbrev c_mStreams_comesThere : ByteArray := prog_42_method_35_code
abbrev y_mStreams_comesThere : MethodName := ⟨"TransportPairModel$Streams", "comesThere", "(II)V"⟩
abbrev c_mStreams_greater : ByteArray := prog_42_method_4_code
abbrev y_mStreams_greater : MethodName := ⟨"TransportPairModel$Streams", "greater", "(JJ)J"⟩
abbrev c_mStreams_comes : ByteArray := prog_42_method_22_code
abbrev y_mStreams_comes : MethodName := ⟨"TransportPairModel$Streams", "comes", "(IIII)V"⟩
abbrev c_mStreams_makeReady : ByteArray := prog_42_method_23_code
abbrev y_mStreams_makeReady : MethodName := ⟨"TransportPairModel$Streams", "makeReady", "(I)V"⟩
abbrev c_mStreams_takeStream : ByteArray := prog_42_method_37_code
abbrev y_mStreams_takeStream : MethodName := ⟨"TransportPairModel$Streams", "takeStream", "(I[II)I"⟩
abbrev c_mStreams_takeReset : ByteArray := prog_42_method_38_code
abbrev y_mStreams_takeReset : MethodName := ⟨"TransportPairModel$Streams", "takeReset", "(I)I"⟩
abbrev c_mStreams_takeOther : ByteArray := prog_42_method_39_code
abbrev y_mStreams_takeOther : MethodName := ⟨"TransportPairModel$Streams", "takeOther", "(I)I"⟩
abbrev c_mStreams_takes : ByteArray := prog_42_method_40_code
abbrev y_mStreams_takes : MethodName := ⟨"TransportPairModel$Streams", "takes", "(ILTransportPairModel$Wire;)I"⟩
abbrev c_mSide_does : ByteArray := prog_41_method_19_code
abbrev y_mSide_does : MethodName := ⟨"TransportPairModel$Side", "does", "(I)I"⟩
abbrev c_mBook_takeOut : ByteArray := prog_36_method_25_code
abbrev y_mBook_takeOut : MethodName := ⟨"TransportPairModel$Book", "takeOut", "(II)V"⟩
abbrev c_mBook_comeIn : ByteArray := prog_36_method_26_code
abbrev y_mBook_comeIn : MethodName := ⟨"TransportPairModel$Book", "comeIn", "(IJ)V"⟩
abbrev c_mBook_came : ByteArray := prog_36_method_27_code
abbrev y_mBook_came : MethodName := ⟨"TransportPairModel$Book", "came", "(IJZ)V"⟩
abbrev c_mSide_frames : ByteArray := prog_41_method_18_code
abbrev y_mSide_frames : MethodName := ⟨"TransportPairModel$Side", "frames", "([IIIIJ)V"⟩
abbrev c_mSide_packet : ByteArray := prog_41_method_14_code
abbrev y_mSide_packet : MethodName := ⟨"TransportPairModel$Side", "packet", "([I[II)V"⟩
abbrev c_mP_comes : ByteArray := prog_35_method_37_code
abbrev y_mP_comes : MethodName := ⟨"TransportPairModel", "comes", "(II)V"⟩
abbrev c_mP_delivers : ByteArray := prog_35_method_27_code
abbrev y_mP_delivers : MethodName := ⟨"TransportPairModel", "delivers", "(II)I"⟩
abbrev c_mP_deliver : ByteArray := prog_35_method_26_code
abbrev y_mP_deliver : MethodName := ⟨"TransportPairModel", "deliver", "(II)I"⟩
abbrev c_mP_drop : ByteArray := prog_35_method_28_code
abbrev y_mP_drop : MethodName := ⟨"TransportPairModel", "drop", "(II)I"⟩
abbrev c_mP_twice : ByteArray := prog_35_method_29_code
abbrev y_mP_twice : MethodName := ⟨"TransportPairModel", "twice", "(II)I"⟩
abbrev c_mP_alter : ByteArray := prog_35_method_30_code
abbrev y_mP_alter : MethodName := ⟨"TransportPairModel", "alter", "(IIII)I"⟩
abbrev c_mP_flow : ByteArray := prog_35_method_31_code
abbrev y_mP_flow : MethodName := ⟨"TransportPairModel", "flow", "(I)V"⟩
abbrev c_mBook_oldest : ByteArray := prog_36_method_6_code
abbrev y_mBook_oldest : MethodName := ⟨"TransportPairModel$Book", "oldest", "(I)I"⟩
abbrev c_mBook_firstSpace : ByteArray := prog_36_method_9_code
abbrev y_mBook_firstSpace : MethodName := ⟨"TransportPairModel$Book", "firstSpace", "()I"⟩
abbrev c_mBook_probeTime : ByteArray := prog_36_method_10_code
abbrev y_mBook_probeTime : MethodName := ⟨"TransportPairModel$Book", "probeTime", "(I)I"⟩
abbrev c_mBook_tick : ByteArray := prog_36_method_20_code
abbrev y_mBook_tick : MethodName := ⟨"TransportPairModel$Book", "tick", "()I"⟩
abbrev c_mSide_quietLimit : ByteArray := prog_41_method_31_code
abbrev y_mSide_quietLimit : MethodName := ⟨"TransportPairModel$Side", "quietLimit", "()J"⟩
abbrev c_mSide_tick : ByteArray := prog_41_method_32_code
abbrev y_mSide_tick : MethodName := ⟨"TransportPairModel$Side", "tick", "()V"⟩
abbrev c_mSide_isFull : ByteArray := prog_41_method_33_code
abbrev y_mSide_isFull : MethodName := ⟨"TransportPairModel$Side", "isFull", "()Z"⟩
abbrev c_mSide_headerOf : ByteArray := prog_41_method_34_code
abbrev y_mSide_headerOf : MethodName := ⟨"TransportPairModel$Side", "headerOf", "(I)I"⟩
abbrev c_mDraft_put : ByteArray := prog_38_method_2_code
abbrev y_mDraft_put : MethodName := ⟨"TransportPairModel$Draft", "put", "(JI)V"⟩
abbrev c_mDraft_sized : ByteArray := prog_38_method_4_code
abbrev y_mDraft_sized : MethodName := ⟨"TransportPairModel$Draft", "sized", "(JI)V"⟩
abbrev c_mDraft_number : ByteArray := prog_38_method_3_code
abbrev y_mDraft_number : MethodName := ⟨"TransportPairModel$Draft", "number", "(J)V"⟩
abbrev c_mSide_laysClose : ByteArray := prog_41_method_41_code
abbrev y_mSide_laysClose : MethodName := ⟨"TransportPairModel$Side", "laysClose", "(II)V"⟩
abbrev c_mDraft_bytes : ByteArray := prog_38_method_5_code
abbrev y_mDraft_bytes : MethodName := ⟨"TransportPairModel$Draft", "bytes", "([III)V"⟩
abbrev c_mBook_range : ByteArray := prog_36_method_31_code
abbrev y_mBook_range : MethodName := ⟨"TransportPairModel$Book", "range", "(IIZ)J"⟩
abbrev c_mBook_delay : ByteArray := prog_36_method_29_code
abbrev y_mBook_delay : MethodName := ⟨"TransportPairModel$Book", "delay", "(I)I"⟩
abbrev c_mSide_ackSize : ByteArray := prog_41_method_42_code
abbrev y_mSide_ackSize : MethodName := ⟨"TransportPairModel$Side", "ackSize", "(II)I"⟩
abbrev c_mSide_laysAck : ByteArray := prog_41_method_43_code
abbrev y_mSide_laysAck : MethodName := ⟨"TransportPairModel$Side", "laysAck", "(II)Z"⟩
abbrev c_mBook_flight : ByteArray := prog_36_method_4_code
abbrev y_mBook_flight : MethodName := ⟨"TransportPairModel$Book", "flight", "()I"⟩
abbrev c_mCargo_grow : ByteArray := prog_37_method_3_code
abbrev y_mCargo_grow : MethodName := ⟨"TransportPairModel$Cargo", "grow", "()V"⟩
abbrev c_mCargo_add : ByteArray := prog_37_method_2_code
abbrev y_mCargo_add : MethodName := ⟨"TransportPairModel$Cargo", "add", "(IJJIJ)V"⟩
abbrev c_mSide_laysCrypto : ByteArray := prog_41_method_44_code
abbrev y_mSide_laysCrypto : MethodName := ⟨"TransportPairModel$Side", "laysCrypto", "(II)V"⟩
abbrev c_mStreams_bytes : ByteArray := prog_42_method_41_code
abbrev y_mStreams_bytes : MethodName := ⟨"TransportPairModel$Streams", "bytes", "()I"⟩
abbrev c_mStreams_lays : ByteArray := prog_42_method_42_code
abbrev y_mStreams_lays : MethodName := ⟨"TransportPairModel$Streams", "lays", "(IJJJI)Z"⟩
abbrev c_mStreams_fillsResets : ByteArray := prog_42_method_43_code
abbrev y_mStreams_fillsResets : MethodName := ⟨"TransportPairModel$Streams", "fillsResets", "(II)Z"⟩
abbrev c_mStreams_fillsGrants : ByteArray := prog_42_method_44_code
abbrev y_mStreams_fillsGrants : MethodName := ⟨"TransportPairModel$Streams", "fillsGrants", "(II)Z"⟩
abbrev c_mStreams_waits : ByteArray := prog_42_method_45_code
abbrev y_mStreams_waits : MethodName := ⟨"TransportPairModel$Streams", "waits", "(II)Z"⟩
abbrev c_mStreams_fillsBlocked : ByteArray := prog_42_method_46_code
abbrev y_mStreams_fillsBlocked : MethodName := ⟨"TransportPairModel$Streams", "fillsBlocked", "(II)Z"⟩
abbrev c_mStreams_allowed : ByteArray := prog_42_method_47_code
abbrev y_mStreams_allowed : MethodName := ⟨"TransportPairModel$Streams", "allowed", "(II)J"⟩
abbrev c_mStreams_fillsBytes : ByteArray := prog_42_method_49_code
abbrev y_mStreams_fillsBytes : MethodName := ⟨"TransportPairModel$Streams", "fillsBytes", "(IIIIJI)Z"⟩
abbrev c_mStreams_fillsStream : ByteArray := prog_42_method_48_code
abbrev y_mStreams_fillsStream : MethodName := ⟨"TransportPairModel$Streams", "fillsStream", "(III)Z"⟩
abbrev c_mStreams_fills : ByteArray := prog_42_method_50_code
abbrev y_mStreams_fills : MethodName := ⟨"TransportPairModel$Streams", "fills", "(II)Z"⟩
abbrev c_mStreams_writeTo : ByteArray := prog_42_method_51_code
abbrev y_mStreams_writeTo : MethodName := ⟨"TransportPairModel$Streams", "writeTo", "(LTransportPairModel$Draft;)V"⟩
abbrev c_mSide_laysLast : ByteArray := prog_41_method_45_code
abbrev y_mSide_laysLast : MethodName := ⟨"TransportPairModel$Side", "laysLast", "(I)V"⟩
abbrev c_mBook_due : ByteArray := prog_36_method_28_code
abbrev y_mBook_due : MethodName := ⟨"TransportPairModel$Book", "due", "(I)Z"⟩
abbrev c_mSide_laysFrames : ByteArray := prog_41_method_40_code
abbrev y_mSide_laysFrames : MethodName := ⟨"TransportPairModel$Side", "laysFrames", "(IIZ)V"⟩
abbrev c_mSide_cut : ByteArray := prog_41_method_35_code
abbrev y_mSide_cut : MethodName := ⟨"TransportPairModel$Side", "cut", "(I)I"⟩
abbrev c_mSide_pad : ByteArray := prog_41_method_38_code
abbrev y_mSide_pad : MethodName := ⟨"TransportPairModel$Side", "pad", "(I)V"⟩
abbrev c_mSide_sizeOf : ByteArray := prog_41_method_36_code
abbrev y_mSide_sizeOf : MethodName := ⟨"TransportPairModel$Side", "sizeOf", "(I)I"⟩
abbrev c_mSeals_seal : ByteArray := prog_40_method_28_code
abbrev y_mSeals_seal : MethodName := ⟨"TransportPairModel$Seals", "seal", "([IIJ[IIII)V"⟩
abbrev c_mBook_send : ByteArray := prog_36_method_11_code
abbrev y_mBook_send : MethodName := ⟨"TransportPairModel$Book", "send", "(IIZZ)I"⟩
abbrev c_mBook_written : ByteArray := prog_36_method_30_code
abbrev y_mBook_written : MethodName := ⟨"TransportPairModel$Book", "written", "(I)V"⟩
abbrev c_mSide_sendsPacket : ByteArray := prog_41_method_39_code
abbrev y_mSide_sendsPacket : MethodName := ⟨"TransportPairModel$Side", "sendsPacket", "(I)V"⟩
abbrev c_mSide_sends : ByteArray := prog_41_method_37_code
abbrev y_mSide_sends : MethodName := ⟨"TransportPairModel$Side", "sends", "(Z)Z"⟩
abbrev c_mP_ticks : ByteArray := prog_35_method_33_code
abbrev y_mP_ticks : MethodName := ⟨"TransportPairModel", "ticks", "()V"⟩
abbrev c_mP_tick : ByteArray := prog_35_method_32_code
abbrev y_mP_tick : MethodName := ⟨"TransportPairModel", "tick", "(I)I"⟩
abbrev c_mP_line : ByteArray := prog_35_method_38_code
abbrev y_mP_line : MethodName := ⟨"TransportPairModel", "line", "(II)I"⟩
abbrev c_mP_at : ByteArray := prog_35_method_39_code
abbrev y_mP_at : MethodName := ⟨"TransportPairModel", "at", "(III)I"⟩
abbrev c_mP_look : ByteArray := prog_35_method_40_code
abbrev y_mP_look : MethodName := ⟨"TransportPairModel", "look", "(II)I"⟩
abbrev c_mBook_look : ByteArray := prog_36_method_32_code
abbrev y_mBook_look : MethodName := ⟨"TransportPairModel$Book", "look", "(I)I"⟩
abbrev c_mP_book : ByteArray := prog_35_method_41_code
abbrev y_mP_book : MethodName := ⟨"TransportPairModel", "book", "(II)I"⟩
abbrev c_mBook_outs : ByteArray := prog_36_method_5_code
abbrev y_mBook_outs : MethodName := ⟨"TransportPairModel$Book", "outs", "(IZ)I"⟩
abbrev c_mBook_space : ByteArray := prog_36_method_33_code
abbrev y_mBook_space : MethodName := ⟨"TransportPairModel$Book", "space", "(II)J"⟩
abbrev c_mP_space : ByteArray := prog_35_method_42_code
abbrev y_mP_space : MethodName := ⟨"TransportPairModel", "space", "(III)J"⟩
abbrev c_mStreams_look_III : ByteArray := prog_42_method_54_code
abbrev y_mStreams_look_III : MethodName := ⟨"TransportPairModel$Streams", "look", "(III)J"⟩
abbrev c_mP_stream : ByteArray := prog_35_method_43_code
abbrev y_mP_stream : MethodName := ⟨"TransportPairModel", "stream", "(III)J"⟩
abbrev c_mStreams_look_II : ByteArray := prog_42_method_55_code
abbrev y_mStreams_look_II : MethodName := ⟨"TransportPairModel$Streams", "look", "(II)J"⟩
abbrev c_mP_streams : ByteArray := prog_35_method_44_code
abbrev y_mP_streams : MethodName := ⟨"TransportPairModel", "streams", "(II)J"⟩
abbrev c_law_feed : ByteArray := method_3_code
abbrev y_law_feed : MethodName := ⟨"TransportPairLaw", "feed", "(LTransportPair;IIIII[J)I"⟩
abbrev c_law_end : ByteArray := method_4_code
abbrev y_law_end : MethodName := ⟨"TransportPairLaw", "end", "(LTransportPair;I[J)I"⟩
abbrev c_law_key : ByteArray := method_5_code
abbrev y_law_key : MethodName := ⟨"TransportPairLaw", "key", "(LTransportPair;I)I"⟩
abbrev c_law_random : ByteArray := method_6_code
abbrev y_law_random : MethodName := ⟨"TransportPairLaw", "random", "(LTransportPair;I)I"⟩
abbrev c_law_parameter : ByteArray := method_7_code
abbrev y_law_parameter : MethodName := ⟨"TransportPairLaw", "parameter", "(LTransportPair;III)I"⟩
abbrev c_law_begin : ByteArray := method_8_code
abbrev y_law_begin : MethodName := ⟨"TransportPairLaw", "begin", "(LTransportPair;)I"⟩
abbrev c_law_open : ByteArray := method_9_code
abbrev y_law_open : MethodName := ⟨"TransportPairLaw", "open", "(LTransportPair;IZ[J)I"⟩
abbrev c_law_write : ByteArray := method_10_code
abbrev y_law_write : MethodName := ⟨"TransportPairLaw", "write", "(LTransportPair;II[J)I"⟩
abbrev c_law_finish : ByteArray := method_11_code
abbrev y_law_finish : MethodName := ⟨"TransportPairLaw", "finish", "(LTransportPair;II[J)I"⟩
abbrev c_law_reset : ByteArray := method_12_code
abbrev y_law_reset : MethodName := ⟨"TransportPairLaw", "reset", "(LTransportPair;III[J)I"⟩
abbrev c_law_stop : ByteArray := method_13_code
abbrev y_law_stop : MethodName := ⟨"TransportPairLaw", "stop", "(LTransportPair;III[J)I"⟩
abbrev c_law_read : ByteArray := method_14_code
abbrev y_law_read : MethodName := ⟨"TransportPairLaw", "read", "(LTransportPair;III[J)I"⟩
abbrev c_law_outs : ByteArray := method_15_code
abbrev y_law_outs : MethodName := ⟨"TransportPairLaw", "outs", "(LTransportPair;I[J)I"⟩
abbrev c_law_close : ByteArray := method_16_code
abbrev y_law_close : MethodName := ⟨"TransportPairLaw", "close", "(LTransportPair;II[J)I"⟩
abbrev c_law_raw : ByteArray := method_17_code
abbrev y_law_raw : MethodName := ⟨"TransportPairLaw", "raw", "(LTransportPair;I)I"⟩
abbrev c_law_deliver : ByteArray := method_18_code
abbrev y_law_deliver : MethodName := ⟨"TransportPairLaw", "deliver", "(LTransportPair;II[J)I"⟩
abbrev c_law_drop : ByteArray := method_19_code
abbrev y_law_drop : MethodName := ⟨"TransportPairLaw", "drop", "(LTransportPair;II[J)I"⟩
abbrev c_law_twice : ByteArray := method_20_code
abbrev y_law_twice : MethodName := ⟨"TransportPairLaw", "twice", "(LTransportPair;II[J)I"⟩
abbrev c_law_alter : ByteArray := method_21_code
abbrev y_law_alter : MethodName := ⟨"TransportPairLaw", "alter", "(LTransportPair;IIII[J)I"⟩
abbrev c_law_flow : ByteArray := method_22_code
abbrev y_law_flow : MethodName := ⟨"TransportPairLaw", "flow", "(LTransportPair;I)I"⟩
abbrev c_law_tick : ByteArray := method_23_code
abbrev y_law_tick : MethodName := ⟨"TransportPairLaw", "tick", "(LTransportPair;I[J)I"⟩
abbrev c_law_line : ByteArray := method_24_code
abbrev y_law_line : MethodName := ⟨"TransportPairLaw", "line", "(LTransportPair;II[J)I"⟩
abbrev c_law_at : ByteArray := method_25_code
abbrev y_law_at : MethodName := ⟨"TransportPairLaw", "at", "(LTransportPair;III[J)I"⟩
abbrev c_law_look : ByteArray := method_26_code
abbrev y_law_look : MethodName := ⟨"TransportPairLaw", "look", "(LTransportPair;II[J)I"⟩
abbrev c_law_book : ByteArray := method_27_code
abbrev y_law_book : MethodName := ⟨"TransportPairLaw", "book", "(LTransportPair;II[J)I"⟩
abbrev c_law_space : ByteArray := method_28_code
abbrev y_law_space : MethodName := ⟨"TransportPairLaw", "space", "(LTransportPair;III[J)I"⟩
abbrev c_law_stream : ByteArray := method_29_code
abbrev y_law_stream : MethodName := ⟨"TransportPairLaw", "stream", "(LTransportPair;III[J)I"⟩
abbrev c_law_streams : ByteArray := method_30_code
abbrev y_law_streams : MethodName := ⟨"TransportPairLaw", "streams", "(LTransportPair;II[J)I"⟩
abbrev c_law_law : ByteArray := code
/- the law: frames 24, locals 1076 -/
theorem q246 : (Jvm.Cond.initialized "TransportPairLaw") ∈ lw_all := lw_g (lw_at lw_m1 0 rfl) rfl
theorem q247 : (Jvm.Cond.initialized "TransportPair") ∈ lw_all := lw_g (lw_at lw_m1 1 rfl) rfl
theorem q248 : (Jvm.Cond.initialized "TransportPair$Side") ∈ lw_all := lw_g (lw_at lw_m1 2 rfl) rfl
theorem q249 : (Jvm.Cond.initialized "TransportPair$Bench") ∈ lw_all := lw_g (lw_at lw_m1 3 rfl) rfl
theorem q250 : (Jvm.Cond.initialized "TransportPair$Stretch") ∈ lw_all := lw_g (lw_at lw_m1 4 rfl) rfl
theorem q251 : (Jvm.Cond.initialized "TransportPair$Mac") ∈ lw_all := lw_g (lw_at lw_m1 5 rfl) rfl
theorem q252 : (Jvm.Cond.initialized "TransportPair$Hash") ∈ lw_all := lw_g (lw_at lw_m1 6 rfl) rfl
theorem q253 : (Jvm.Cond.initialized "TransportPair$Keystream") ∈ lw_all := lw_g (lw_at lw_m1 7 rfl) rfl
theorem q254 : (Jvm.Cond.initialized "TransportPair$Tally") ∈ lw_all := lw_g (lw_at lw_m1 8 rfl) rfl
theorem q255 : (Jvm.Cond.initialized "TransportPair$Guard") ∈ lw_all := lw_g (lw_at lw_m1 9 rfl) rfl
theorem q256 : (Jvm.Cond.initialized "TransportPair$Crypto") ∈ lw_all := lw_g (lw_at lw_m1 10 rfl) rfl
theorem q257 : (Jvm.Cond.initialized "TransportPair$Book") ∈ lw_all := lw_g (lw_at lw_m1 11 rfl) rfl
theorem q258 : (Jvm.Cond.initialized "TransportPair$Trip") ∈ lw_all := lw_g (lw_at lw_m1 12 rfl) rfl
theorem q259 : (Jvm.Cond.initialized "TransportPair$Window") ∈ lw_all := lw_g (lw_at lw_m1 13 rfl) rfl
theorem q260 : (Jvm.Cond.initialized "TransportPair$Space") ∈ lw_all := lw_g (lw_at lw_m1 14 rfl) rfl
theorem q261 : (Jvm.Cond.initialized "TransportPair$Queue") ∈ lw_all := lw_g (lw_at lw_m1 15 rfl) rfl
theorem q262 : (Jvm.Cond.initialized "TransportPair$Ranges") ∈ lw_all := lw_g (lw_at lw_m1 16 rfl) rfl
theorem q263 : (Jvm.Cond.initialized "TransportPair$Cargo") ∈ lw_all := lw_g (lw_at lw_m1 17 rfl) rfl
theorem q264 : (Jvm.Cond.initialized "TransportPair$Parameters") ∈ lw_all := lw_g (lw_at lw_m1 18 rfl) rfl
theorem q265 : (Jvm.Cond.initialized "TransportPair$Bytes") ∈ lw_all := lw_g (lw_at lw_m1 19 rfl) rfl
theorem q266 : (Jvm.Cond.initialized "TransportPair$Header") ∈ lw_all := lw_g (lw_at lw_m1 20 rfl) rfl
theorem q267 : (Jvm.Cond.initialized "TransportPair$Frame") ∈ lw_all := lw_g (lw_at lw_m1 21 rfl) rfl
theorem q268 : (Jvm.Cond.initialized "TransportPair$Greeting") ∈ lw_all := lw_g (lw_at lw_m1 22 rfl) rfl
theorem q269 : (Jvm.Cond.initialized "TransportPair$Row") ∈ lw_all := lw_g (lw_at lw_m1 23 rfl) rfl
theorem q270 : (Jvm.Cond.initialized "TransportPair$Hall") ∈ lw_all := lw_g (lw_at lw_m1 24 rfl) rfl
theorem q271 : (Jvm.Cond.initialized "TransportPair$Way") ∈ lw_all := lw_g (lw_at lw_m1 25 rfl) rfl
theorem q272 : (Jvm.Cond.initialized "TransportPair$Spans") ∈ lw_all := lw_g (lw_at lw_m1 26 rfl) rfl
theorem q273 : (Jvm.Cond.initialized "TransportPair$Store") ∈ lw_all := lw_g (lw_at lw_m1 27 rfl) rfl
theorem q274 : (Jvm.Cond.initialized "TransportPair$Blocks") ∈ lw_all := lw_g (lw_at lw_m1 28 rfl) rfl
theorem q275 : (Jvm.Cond.initialized "TransportPair$Line") ∈ lw_all := lw_g (lw_at lw_m1 29 rfl) rfl
theorem q276 : (Jvm.Cond.initialized "TransportPairModel") ∈ lw_all := lw_g (lw_at lw_m1 30 rfl) rfl
theorem q277 : (Jvm.Cond.initialized "TransportPairModel$Seals") ∈ lw_all := lw_g (lw_at lw_m1 31 rfl) rfl
theorem q278 : (Jvm.Cond.initialized "TransportPairModel$Streams") ∈ lw_all := lw_g (lw_at lw_m1 32 rfl) rfl
theorem q279 : (Jvm.Cond.initialized "TransportPairModel$Side") ∈ lw_all := lw_g (lw_at lw_m1 33 rfl) rfl
theorem q280 : (Jvm.Cond.initialized "TransportPairModel$Book") ∈ lw_all := lw_g (lw_at lw_m1 34 rfl) rfl
theorem q281 : (Jvm.Cond.initialized "TransportPairModel$Wire") ∈ lw_all := lw_g (lw_at lw_m1 35 rfl) rfl
theorem q282 : (Jvm.Cond.initialized "TransportPairModel$Cargo") ∈ lw_all := lw_g (lw_at lw_m1 36 rfl) rfl
theorem q283 : (Jvm.Cond.initialized "TransportPairModel$Draft") ∈ lw_all := lw_g (lw_at lw_m1 37 rfl) rfl
theorem q284 : (Jvm.Cond.initialized "TransportPairModel$Greet") ∈ lw_all := lw_g (lw_at lw_m1 38 rfl) rfl
theorem q288 : (Jvm.Cond.initialized "java/lang/IllegalStateException") ∈ lw_all := lw_g (lw_at lw_m1 42 rfl) rfl
theorem q289 : (Jvm.Cond.initialized "java/lang/IllegalArgumentException") ∈ lw_all := lw_g (lw_at lw_m1 43 rfl) rfl
theorem q290 : (Jvm.Cond.initialized "java/lang/System") ∈ lw_all := lw_g (lw_at lw_m1 44 rfl) rfl
theorem q291 : (Jvm.Cond.initialized "java/lang/Integer") ∈ lw_all := lw_g (lw_at lw_m1 45 rfl) rfl
theorem q294 : (Jvm.Cond.initialized "java/lang/String") ∈ lw_all := lw_g (lw_at lw_m1 48 rfl) rfl
theorem q295 : (Jvm.Cond.initialized "java/lang/StringLatin1") ∈ lw_all := lw_g (lw_at lw_m1 49 rfl) rfl
theorem q296 : (Jvm.Cond.initialized "jdk/internal/util/Preconditions") ∈ lw_all := lw_g (lw_at lw_m1 50 rfl) rfl
theorem q298 : (Jvm.Cond.initialized "java/lang/Math") ∈ lw_all := lw_g (lw_at lw_m1 52 rfl) rfl
theorem q299 : (Jvm.Cond.initialized "TransportPair$Sending") ∈ lw_all := lw_g (lw_at lw_m1 53 rfl) rfl
theorem q300 : (Jvm.Cond.initialized "TransportPair$Receiving") ∈ lw_all := lw_g (lw_at lw_m1 54 rfl) rfl
theorem q301 : (Jvm.Cond.initialized "java/util/Arrays") ∈ lw_all := lw_g (lw_at lw_m1 55 rfl) rfl
theorem q302 : (Jvm.Cond.initialized "java/util/NoSuchElementException") ∈ lw_all := lw_g (lw_at lw_m1 56 rfl) rfl
theorem q303 : (Jvm.Cond.initialized "TransportPair$Counting") ∈ lw_all := lw_g (lw_at lw_m1 57 rfl) rfl
theorem q304 : (Jvm.Cond.initialized "java/lang/Long") ∈ lw_all := lw_g (lw_at lw_m1 58 rfl) rfl
theorem q305 : (Jvm.Cond.classLink "TransportPairLaw" (8 : Nat) "TransportPair") ∈ lw_all := lw_g (lw_at lw_m1 59 rfl) rfl
theorem q306 : (Jvm.Cond.instantiable "TransportPair" (10 : Nat)) ∈ lw_all := lw_g (lw_at lw_m1 60 rfl) rfl
theorem q307 : (Jvm.Cond.methodLink "TransportPairLaw" (112 : Nat) ({ cls := "TransportPair", name := "<init>", desc := "()V" } : Jvm.MethodName)) ∈ lw_all := lw_g (lw_at lw_m1 61 rfl) rfl
theorem q308 : (Jvm.Cond.instanceMethod ({ cls := "TransportPair", name := "<init>", desc := "()V" } : Jvm.MethodName)) ∈ lw_all := lw_g (lw_at lw_m1 62 rfl) rfl
theorem q309 : (Jvm.Cond.code ({ cls := "TransportPair", name := "<init>", desc := "()V" } : Jvm.MethodName) prog_1_method_3_code (1 : Nat) (Option.none : Option Jvm.ClassFile.FieldType)) ∈ lw_all := lw_g (lw_at lw_m1 63 rfl) rfl
theorem q310 : (Jvm.Cond.methodLink "TransportPair" (7 : Nat) ({ cls := "java/lang/Object", name := "<init>", desc := "()V" } : Jvm.MethodName)) ∈ lw_all := lw_g (lw_at lw_m1 64 rfl) rfl
theorem q311 : (Jvm.Cond.instanceMethod ({ cls := "java/lang/Object", name := "<init>", desc := "()V" } : Jvm.MethodName)) ∈ lw_all := lw_g (lw_at lw_m1 65 rfl) rfl
theorem q312 : (Jvm.Cond.code ({ cls := "java/lang/Object", name := "<init>", desc := "()V" } : Jvm.MethodName) object_method_1_code (1 : Nat) (Option.none : Option Jvm.ClassFile.FieldType)) ∈ lw_all := lw_g (lw_at lw_m1 66 rfl) rfl
theorem q313 : (Jvm.Cond.constant "TransportPair" (15 : Nat) (65536 : Int32)) ∈ lw_all := lw_g (lw_at lw_m1 67 rfl) rfl
theorem q314 : (Jvm.Cond.classLink "TransportPair" (26 : Nat) "TransportPair$Side") ∈ lw_all := lw_g (lw_at lw_m1 68 rfl) rfl
theorem q315 : (Jvm.Cond.arrayOver (Jvm.ClassFile.FieldType.object "TransportPair$Side")) ∈ lw_tbl := lw_at lw_m1 69 rfl
theorem q316 : (Jvm.Cond.instantiable "TransportPair$Side" (47 : Nat)) ∈ lw_all := lw_g (lw_at lw_m1 70 rfl) rfl
theorem q317 : (Jvm.Cond.methodLink "TransportPair" (28 : Nat) ({ cls := "TransportPair$Side", name := "<init>", desc := "(I)V" } : Jvm.MethodName)) ∈ lw_all := lw_g (lw_at lw_m1 71 rfl) rfl
theorem q318 : (Jvm.Cond.instanceMethod ({ cls := "TransportPair$Side", name := "<init>", desc := "(I)V" } : Jvm.MethodName)) ∈ lw_all := lw_g (lw_at lw_m1 72 rfl) rfl
theorem q319 : (Jvm.Cond.code ({ cls := "TransportPair$Side", name := "<init>", desc := "(I)V" } : Jvm.MethodName) prog_25_method_1_code (3 : Nat) (Option.none : Option Jvm.ClassFile.FieldType)) ∈ lw_all := lw_g (lw_at lw_m1 73 rfl) rfl
theorem q320 : (Jvm.Cond.methodLink "TransportPair$Side" (3 : Nat) ({ cls := "java/lang/Object", name := "<init>", desc := "()V" } : Jvm.MethodName)) ∈ lw_all := lw_g (lw_at lw_m1 74 rfl) rfl
theorem q321 : (Jvm.Cond.classLink "TransportPair$Side" (9 : Nat) "TransportPair$Bench") ∈ lw_all := lw_g (lw_at lw_m1 75 rfl) rfl
theorem q322 : (Jvm.Cond.instantiable "TransportPair$Bench" (7 : Nat)) ∈ lw_all := lw_g (lw_at lw_m1 76 rfl) rfl
theorem q323 : (Jvm.Cond.methodLinkNest "TransportPair$Side" (11 : Nat) ({ cls := "TransportPair$Bench", name := "<init>", desc := "()V" } : Jvm.MethodName) "TransportPair") ∈ lw_tbl := lw_at lw_m1 77 rfl
theorem q324 : (Jvm.Cond.instanceMethod ({ cls := "TransportPair$Bench", name := "<init>", desc := "()V" } : Jvm.MethodName)) ∈ lw_all := lw_g (lw_at lw_m1 78 rfl) rfl
theorem q325 : (Jvm.Cond.code ({ cls := "TransportPair$Bench", name := "<init>", desc := "()V" } : Jvm.MethodName) prog_2_method_1_code (1 : Nat) (Option.none : Option Jvm.ClassFile.FieldType)) ∈ lw_all := lw_g (lw_at lw_m1 79 rfl) rfl
theorem q326 : (Jvm.Cond.methodLink "TransportPair$Bench" (3 : Nat) ({ cls := "java/lang/Object", name := "<init>", desc := "()V" } : Jvm.MethodName)) ∈ lw_all := lw_g (lw_at lw_m1 80 rfl) rfl
theorem q327 : (Jvm.Cond.classLink "TransportPair$Bench" (9 : Nat) "TransportPair$Stretch") ∈ lw_all := lw_g (lw_at lw_m1 81 rfl) rfl
theorem q328 : (Jvm.Cond.instantiable "TransportPair$Stretch" (4 : Nat)) ∈ lw_all := lw_g (lw_at lw_m1 82 rfl) rfl
theorem q329 : (Jvm.Cond.methodLinkNest "TransportPair$Bench" (11 : Nat) ({ cls := "TransportPair$Stretch", name := "<init>", desc := "()V" } : Jvm.MethodName) "TransportPair") ∈ lw_tbl := lw_at lw_m1 83 rfl
theorem q330 : (Jvm.Cond.instanceMethod ({ cls := "TransportPair$Stretch", name := "<init>", desc := "()V" } : Jvm.MethodName)) ∈ lw_all := lw_g (lw_at lw_m1 84 rfl) rfl
theorem q331 : (Jvm.Cond.code ({ cls := "TransportPair$Stretch", name := "<init>", desc := "()V" } : Jvm.MethodName) prog_29_method_1_code (1 : Nat) (Option.none : Option Jvm.ClassFile.FieldType)) ∈ lw_all := lw_g (lw_at lw_m1 85 rfl) rfl
theorem q332 : (Jvm.Cond.methodLink "TransportPair$Stretch" (3 : Nat) ({ cls := "java/lang/Object", name := "<init>", desc := "()V" } : Jvm.MethodName)) ∈ lw_all := lw_g (lw_at lw_m1 86 rfl) rfl
theorem q333 : (Jvm.Cond.classLink "TransportPair$Stretch" (9 : Nat) "TransportPair$Mac") ∈ lw_all := lw_g (lw_at lw_m1 87 rfl) rfl
theorem q334 : (Jvm.Cond.instantiable "TransportPair$Mac" (4 : Nat)) ∈ lw_all := lw_g (lw_at lw_m1 88 rfl) rfl
theorem q335 : (Jvm.Cond.methodLinkNest "TransportPair$Stretch" (11 : Nat) ({ cls := "TransportPair$Mac", name := "<init>", desc := "()V" } : Jvm.MethodName) "TransportPair") ∈ lw_tbl := lw_at lw_m1 89 rfl
theorem q336 : (Jvm.Cond.instanceMethod ({ cls := "TransportPair$Mac", name := "<init>", desc := "()V" } : Jvm.MethodName)) ∈ lw_all := lw_g (lw_at lw_m1 90 rfl) rfl
theorem q337 : (Jvm.Cond.code ({ cls := "TransportPair$Mac", name := "<init>", desc := "()V" } : Jvm.MethodName) prog_18_method_1_code (1 : Nat) (Option.none : Option Jvm.ClassFile.FieldType)) ∈ lw_all := lw_g (lw_at lw_m1 91 rfl) rfl
theorem q338 : (Jvm.Cond.methodLink "TransportPair$Mac" (3 : Nat) ({ cls := "java/lang/Object", name := "<init>", desc := "()V" } : Jvm.MethodName)) ∈ lw_all := lw_g (lw_at lw_m1 92 rfl) rfl
theorem q339 : (Jvm.Cond.classLink "TransportPair$Mac" (9 : Nat) "TransportPair$Hash") ∈ lw_all := lw_g (lw_at lw_m1 93 rfl) rfl
theorem q340 : (Jvm.Cond.instantiable "TransportPair$Hash" (5 : Nat)) ∈ lw_all := lw_g (lw_at lw_m1 94 rfl) rfl
theorem q341 : (Jvm.Cond.methodLinkNest "TransportPair$Mac" (11 : Nat) ({ cls := "TransportPair$Hash", name := "<init>", desc := "()V" } : Jvm.MethodName) "TransportPair") ∈ lw_tbl := lw_at lw_m1 95 rfl
theorem q342 : (Jvm.Cond.instanceMethod ({ cls := "TransportPair$Hash", name := "<init>", desc := "()V" } : Jvm.MethodName)) ∈ lw_all := lw_g (lw_at lw_m1 96 rfl) rfl
theorem q343 : (Jvm.Cond.code ({ cls := "TransportPair$Hash", name := "<init>", desc := "()V" } : Jvm.MethodName) prog_13_method_1_code (1 : Nat) (Option.none : Option Jvm.ClassFile.FieldType)) ∈ lw_all := lw_g (lw_at lw_m1 97 rfl) rfl
theorem q344 : (Jvm.Cond.methodLink "TransportPair$Hash" (3 : Nat) ({ cls := "java/lang/Object", name := "<init>", desc := "()V" } : Jvm.MethodName)) ∈ lw_all := lw_g (lw_at lw_m1 98 rfl) rfl
theorem q345 : (Jvm.Cond.fieldLink "TransportPair$Hash" (9 : Nat) "TransportPair$Hash" "sum" "[I") ∈ lw_all := lw_g (lw_at lw_m1 99 rfl) rfl
theorem q346 : (Jvm.Cond.fieldLink "TransportPair$Hash" (15 : Nat) "TransportPair$Hash" "words" "[I") ∈ lw_all := lw_g (lw_at lw_m1 100 rfl) rfl
theorem q347 : (Jvm.Cond.fieldLink "TransportPair$Hash" (18 : Nat) "TransportPair$Hash" "block" "[B") ∈ lw_all := lw_g (lw_at lw_m1 101 rfl) rfl
theorem q348 : (Jvm.Cond.fieldLink "TransportPair$Hash" (31 : Nat) "TransportPair$Hash" "used" "I") ∈ lw_all := lw_g (lw_at lw_m1 102 rfl) rfl
theorem q349 : (Jvm.Cond.fieldLink "TransportPair$Hash" (35 : Nat) "TransportPair$Hash" "count" "J") ∈ lw_all := lw_g (lw_at lw_m1 103 rfl) rfl
theorem q361 : (Jvm.Cond.arrayClass Jvm.ClassFile.FieldType.byte) ∈ lw_all := lw_g (lw_at lw_m1 115 rfl) rfl
theorem q362 : (Jvm.Cond.arrayClass Jvm.ClassFile.FieldType.int) ∈ lw_all := lw_g (lw_at lw_m1 116 rfl) rfl
theorem q363 : (Jvm.Cond.fieldLink "TransportPair$Mac" (12 : Nat) "TransportPair$Mac" "inner" "LTransportPair$Hash;") ∈ lw_all := lw_g (lw_at lw_m1 117 rfl) rfl
theorem q364 : (Jvm.Cond.fieldLink "TransportPair$Mac" (18 : Nat) "TransportPair$Mac" "outer" "LTransportPair$Hash;") ∈ lw_all := lw_g (lw_at lw_m1 118 rfl) rfl
theorem q365 : (Jvm.Cond.fieldLink "TransportPair$Mac" (21 : Nat) "TransportPair$Mac" "pad" "[B") ∈ lw_all := lw_g (lw_at lw_m1 119 rfl) rfl
theorem q366 : (Jvm.Cond.fieldLink "TransportPair$Mac" (25 : Nat) "TransportPair$Mac" "digest" "[B") ∈ lw_all := lw_g (lw_at lw_m1 120 rfl) rfl
theorem q376 : (Jvm.Cond.fieldLink "TransportPair$Stretch" (12 : Nat) "TransportPair$Stretch" "mac" "LTransportPair$Mac;") ∈ lw_all := lw_g (lw_at lw_m1 130 rfl) rfl
theorem q377 : (Jvm.Cond.fieldLinkNest "TransportPair$Greeting" (100 : Nat) "TransportPair$Stretch" "mac" "LTransportPair$Mac;" "TransportPair") ∈ lw_tbl := lw_at lw_m1 131 rfl
theorem q378 : (Jvm.Cond.fieldLink "TransportPair$Stretch" (18 : Nat) "TransportPair$Stretch" "piece" "[B") ∈ lw_all := lw_g (lw_at lw_m1 132 rfl) rfl
theorem q379 : (Jvm.Cond.fieldLink "TransportPair$Stretch" (22 : Nat) "TransportPair$Stretch" "info" "[B") ∈ lw_all := lw_g (lw_at lw_m1 133 rfl) rfl
theorem q380 : (Jvm.Cond.fieldLink "TransportPair$Stretch" (25 : Nat) "TransportPair$Stretch" "one" "[B") ∈ lw_all := lw_g (lw_at lw_m1 134 rfl) rfl
theorem q390 : (Jvm.Cond.classLink "TransportPair$Bench" (18 : Nat) "TransportPair$Keystream") ∈ lw_all := lw_g (lw_at lw_m1 144 rfl) rfl
theorem q391 : (Jvm.Cond.instantiable "TransportPair$Keystream" (3 : Nat)) ∈ lw_all := lw_g (lw_at lw_m1 145 rfl) rfl
theorem q392 : (Jvm.Cond.methodLinkNest "TransportPair$Bench" (20 : Nat) ({ cls := "TransportPair$Keystream", name := "<init>", desc := "()V" } : Jvm.MethodName) "TransportPair") ∈ lw_tbl := lw_at lw_m1 146 rfl
theorem q393 : (Jvm.Cond.instanceMethod ({ cls := "TransportPair$Keystream", name := "<init>", desc := "()V" } : Jvm.MethodName)) ∈ lw_all := lw_g (lw_at lw_m1 147 rfl) rfl
theorem q394 : (Jvm.Cond.code ({ cls := "TransportPair$Keystream", name := "<init>", desc := "()V" } : Jvm.MethodName) prog_15_method_1_code (1 : Nat) (Option.none : Option Jvm.ClassFile.FieldType)) ∈ lw_all := lw_g (lw_at lw_m1 148 rfl) rfl
theorem q395 : (Jvm.Cond.methodLink "TransportPair$Keystream" (3 : Nat) ({ cls := "java/lang/Object", name := "<init>", desc := "()V" } : Jvm.MethodName)) ∈ lw_all := lw_g (lw_at lw_m1 149 rfl) rfl
theorem q396 : (Jvm.Cond.fieldLink "TransportPair$Keystream" (9 : Nat) "TransportPair$Keystream" "first" "[I") ∈ lw_all := lw_g (lw_at lw_m1 150 rfl) rfl
theorem q397 : (Jvm.Cond.fieldLink "TransportPair$Keystream" (15 : Nat) "TransportPair$Keystream" "x" "[I") ∈ lw_all := lw_g (lw_at lw_m1 151 rfl) rfl
theorem q398 : (Jvm.Cond.fieldLink "TransportPair$Keystream" (18 : Nat) "TransportPair$Keystream" "block" "[B") ∈ lw_all := lw_g (lw_at lw_m1 152 rfl) rfl
theorem q399 : (Jvm.Cond.fieldLinkNest "TransportPair$Guard" (95 : Nat) "TransportPair$Keystream" "block" "[B" "TransportPair") ∈ lw_tbl := lw_at lw_m1 153 rfl
theorem q407 : (Jvm.Cond.classLink "TransportPair$Bench" (25 : Nat) "TransportPair$Tally") ∈ lw_all := lw_g (lw_at lw_m1 161 rfl) rfl
theorem q408 : (Jvm.Cond.instantiable "TransportPair$Tally" (7 : Nat)) ∈ lw_all := lw_g (lw_at lw_m1 162 rfl) rfl
theorem q409 : (Jvm.Cond.methodLinkNest "TransportPair$Bench" (27 : Nat) ({ cls := "TransportPair$Tally", name := "<init>", desc := "()V" } : Jvm.MethodName) "TransportPair") ∈ lw_tbl := lw_at lw_m1 163 rfl
theorem q410 : (Jvm.Cond.instanceMethod ({ cls := "TransportPair$Tally", name := "<init>", desc := "()V" } : Jvm.MethodName)) ∈ lw_all := lw_g (lw_at lw_m1 164 rfl) rfl
theorem q411 : (Jvm.Cond.code ({ cls := "TransportPair$Tally", name := "<init>", desc := "()V" } : Jvm.MethodName) prog_30_method_1_code (1 : Nat) (Option.none : Option Jvm.ClassFile.FieldType)) ∈ lw_all := lw_g (lw_at lw_m1 165 rfl) rfl
theorem q412 : (Jvm.Cond.methodLink "TransportPair$Tally" (3 : Nat) ({ cls := "java/lang/Object", name := "<init>", desc := "()V" } : Jvm.MethodName)) ∈ lw_all := lw_g (lw_at lw_m1 166 rfl) rfl
theorem q413 : (Jvm.Cond.fieldLink "TransportPair$Tally" (9 : Nat) "TransportPair$Tally" "sum" "[J") ∈ lw_all := lw_g (lw_at lw_m1 167 rfl) rfl
theorem q414 : (Jvm.Cond.fieldLink "TransportPair$Tally" (15 : Nat) "TransportPair$Tally" "factor" "[J") ∈ lw_all := lw_g (lw_at lw_m1 168 rfl) rfl
theorem q415 : (Jvm.Cond.fieldLink "TransportPair$Tally" (18 : Nat) "TransportPair$Tally" "product" "[J") ∈ lw_all := lw_g (lw_at lw_m1 169 rfl) rfl
theorem q416 : (Jvm.Cond.fieldLink "TransportPair$Tally" (21 : Nat) "TransportPair$Tally" "piece" "[B") ∈ lw_all := lw_g (lw_at lw_m1 170 rfl) rfl
theorem q417 : (Jvm.Cond.fieldLink "TransportPair$Tally" (50 : Nat) "TransportPair$Tally" "used" "I") ∈ lw_all := lw_g (lw_at lw_m1 171 rfl) rfl
theorem q418 : (Jvm.Cond.fieldLink "TransportPair$Tally" (43 : Nat) "TransportPair$Tally" "low" "J") ∈ lw_all := lw_g (lw_at lw_m1 172 rfl) rfl
theorem q419 : (Jvm.Cond.fieldLink "TransportPair$Tally" (47 : Nat) "TransportPair$Tally" "high" "J") ∈ lw_all := lw_g (lw_at lw_m1 173 rfl) rfl
theorem q435 : (Jvm.Cond.arrayClass Jvm.ClassFile.FieldType.long) ∈ lw_all := lw_g (lw_at lw_m1 189 rfl) rfl
theorem q436 : (Jvm.Cond.fieldLink "TransportPair$Bench" (12 : Nat) "TransportPair$Bench" "stretch" "LTransportPair$Stretch;") ∈ lw_all := lw_g (lw_at lw_m1 190 rfl) rfl
theorem q437 : (Jvm.Cond.fieldLinkNest "TransportPair$Guard" (24 : Nat) "TransportPair$Bench" "stretch" "LTransportPair$Stretch;" "TransportPair") ∈ lw_tbl := lw_at lw_m1 191 rfl
theorem q438 : (Jvm.Cond.fieldLink "TransportPair$Bench" (21 : Nat) "TransportPair$Bench" "stream" "LTransportPair$Keystream;") ∈ lw_all := lw_g (lw_at lw_m1 192 rfl) rfl
theorem q439 : (Jvm.Cond.fieldLinkNest "TransportPair$Guard" (75 : Nat) "TransportPair$Bench" "stream" "LTransportPair$Keystream;" "TransportPair") ∈ lw_tbl := lw_at lw_m1 193 rfl
theorem q440 : (Jvm.Cond.fieldLink "TransportPair$Bench" (28 : Nat) "TransportPair$Bench" "tally" "LTransportPair$Tally;") ∈ lw_all := lw_g (lw_at lw_m1 194 rfl) rfl
theorem q441 : (Jvm.Cond.fieldLinkNest "TransportPair$Guard" (91 : Nat) "TransportPair$Bench" "tally" "LTransportPair$Tally;" "TransportPair") ∈ lw_tbl := lw_at lw_m1 195 rfl
theorem q442 : (Jvm.Cond.fieldLink "TransportPair$Bench" (32 : Nat) "TransportPair$Bench" "none" "[B") ∈ lw_all := lw_g (lw_at lw_m1 196 rfl) rfl
theorem q443 : (Jvm.Cond.fieldLinkNest "TransportPair$Guard" (36 : Nat) "TransportPair$Bench" "none" "[B" "TransportPair") ∈ lw_tbl := lw_at lw_m1 197 rfl
theorem q444 : (Jvm.Cond.fieldLink "TransportPair$Bench" (36 : Nat) "TransportPair$Bench" "nonce" "[B") ∈ lw_all := lw_g (lw_at lw_m1 198 rfl) rfl
theorem q445 : (Jvm.Cond.fieldLinkNest "TransportPair$Guard" (72 : Nat) "TransportPair$Bench" "nonce" "[B" "TransportPair") ∈ lw_tbl := lw_at lw_m1 199 rfl
theorem q446 : (Jvm.Cond.fieldLink "TransportPair$Bench" (39 : Nat) "TransportPair$Bench" "counts" "[B") ∈ lw_all := lw_g (lw_at lw_m1 200 rfl) rfl
theorem q447 : (Jvm.Cond.fieldLinkNest "TransportPair$Guard" (110 : Nat) "TransportPair$Bench" "counts" "[B" "TransportPair") ∈ lw_tbl := lw_at lw_m1 201 rfl
theorem q448 : (Jvm.Cond.fieldLink "TransportPair$Bench" (42 : Nat) "TransportPair$Bench" "tag" "[B") ∈ lw_all := lw_g (lw_at lw_m1 202 rfl) rfl
theorem q449 : (Jvm.Cond.fieldLinkNest "TransportPair$Guard" (113 : Nat) "TransportPair$Bench" "tag" "[B" "TransportPair") ∈ lw_tbl := lw_at lw_m1 203 rfl
theorem q465 : (Jvm.Cond.classLink "TransportPair$Side" (18 : Nat) "TransportPair$Guard") ∈ lw_all := lw_g (lw_at lw_m1 219 rfl) rfl
theorem q466 : (Jvm.Cond.arrayOver (Jvm.ClassFile.FieldType.object "TransportPair$Guard")) ∈ lw_tbl := lw_at lw_m1 220 rfl
theorem q467 : (Jvm.Cond.instantiable "TransportPair$Guard" (6 : Nat)) ∈ lw_all := lw_g (lw_at lw_m1 221 rfl) rfl
theorem q468 : (Jvm.Cond.methodLinkNest "TransportPair$Side" (20 : Nat) ({ cls := "TransportPair$Guard", name := "<init>", desc := "()V" } : Jvm.MethodName) "TransportPair") ∈ lw_tbl := lw_at lw_m1 222 rfl
theorem q469 : (Jvm.Cond.instanceMethod ({ cls := "TransportPair$Guard", name := "<init>", desc := "()V" } : Jvm.MethodName)) ∈ lw_all := lw_g (lw_at lw_m1 223 rfl) rfl
theorem q470 : (Jvm.Cond.code ({ cls := "TransportPair$Guard", name := "<init>", desc := "()V" } : Jvm.MethodName) prog_11_method_1_code (1 : Nat) (Option.none : Option Jvm.ClassFile.FieldType)) ∈ lw_all := lw_g (lw_at lw_m1 224 rfl) rfl
theorem q471 : (Jvm.Cond.methodLink "TransportPair$Guard" (3 : Nat) ({ cls := "java/lang/Object", name := "<init>", desc := "()V" } : Jvm.MethodName)) ∈ lw_all := lw_g (lw_at lw_m1 225 rfl) rfl
theorem q472 : (Jvm.Cond.fieldLink "TransportPair$Guard" (9 : Nat) "TransportPair$Guard" "secret" "[B") ∈ lw_all := lw_g (lw_at lw_m1 226 rfl) rfl
theorem q473 : (Jvm.Cond.fieldLink "TransportPair$Guard" (15 : Nat) "TransportPair$Guard" "key" "[B") ∈ lw_all := lw_g (lw_at lw_m1 227 rfl) rfl
theorem q474 : (Jvm.Cond.fieldLink "TransportPair$Guard" (18 : Nat) "TransportPair$Guard" "iv" "[B") ∈ lw_all := lw_g (lw_at lw_m1 228 rfl) rfl
theorem q475 : (Jvm.Cond.fieldLink "TransportPair$Guard" (21 : Nat) "TransportPair$Guard" "hide" "[B") ∈ lw_all := lw_g (lw_at lw_m1 229 rfl) rfl
theorem q476 : (Jvm.Cond.fieldLink "TransportPair$Guard" (61 : Nat) "TransportPair$Guard" "armed" "Z") ∈ lw_all := lw_g (lw_at lw_m1 230 rfl) rfl
theorem q477 : (Jvm.Cond.fieldLink "TransportPair$Guard" (65 : Nat) "TransportPair$Guard" "phase" "I") ∈ lw_all := lw_g (lw_at lw_m1 231 rfl) rfl
theorem q491 : (Jvm.Cond.classLink "TransportPair$Side" (32 : Nat) "TransportPair$Crypto") ∈ lw_all := lw_g (lw_at lw_m2 5 rfl) rfl
theorem q492 : (Jvm.Cond.arrayOver (Jvm.ClassFile.FieldType.object "TransportPair$Crypto")) ∈ lw_tbl := lw_at lw_m2 6 rfl
theorem q493 : (Jvm.Cond.instantiable "TransportPair$Crypto" (5 : Nat)) ∈ lw_all := lw_g (lw_at lw_m2 7 rfl) rfl
theorem q494 : (Jvm.Cond.methodLinkNest "TransportPair$Side" (34 : Nat) ({ cls := "TransportPair$Crypto", name := "<init>", desc := "()V" } : Jvm.MethodName) "TransportPair") ∈ lw_tbl := lw_at lw_m2 8 rfl
theorem q495 : (Jvm.Cond.instanceMethod ({ cls := "TransportPair$Crypto", name := "<init>", desc := "()V" } : Jvm.MethodName)) ∈ lw_all := lw_g (lw_at lw_m2 9 rfl) rfl
theorem q496 : (Jvm.Cond.code ({ cls := "TransportPair$Crypto", name := "<init>", desc := "()V" } : Jvm.MethodName) prog_8_method_1_code (1 : Nat) (Option.none : Option Jvm.ClassFile.FieldType)) ∈ lw_all := lw_g (lw_at lw_m2 10 rfl) rfl
theorem q497 : (Jvm.Cond.methodLink "TransportPair$Crypto" (1 : Nat) ({ cls := "java/lang/Object", name := "<init>", desc := "()V" } : Jvm.MethodName)) ∈ lw_all := lw_g (lw_at lw_m2 11 rfl) rfl
theorem q498 : (Jvm.Cond.fieldLink "TransportPair$Crypto" (9 : Nat) "TransportPair$Crypto" "states" "[B") ∈ lw_all := lw_g (lw_at lw_m2 12 rfl) rfl
theorem q499 : (Jvm.Cond.fieldLink "TransportPair$Crypto" (20 : Nat) "TransportPair$Crypto" "sent" "I") ∈ lw_all := lw_g (lw_at lw_m2 13 rfl) rfl
theorem q500 : (Jvm.Cond.fieldLink "TransportPair$Crypto" (13 : Nat) "TransportPair$Crypto" "came" "[B") ∈ lw_all := lw_g (lw_at lw_m2 14 rfl) rfl
theorem q501 : (Jvm.Cond.fieldLinkNest "TransportPair$Side" (519 : Nat) "TransportPair$Crypto" "came" "[B" "TransportPair") ∈ lw_tbl := lw_at lw_m2 15 rfl
theorem q502 : (Jvm.Cond.fieldLink "TransportPair$Crypto" (16 : Nat) "TransportPair$Crypto" "has" "[Z") ∈ lw_all := lw_g (lw_at lw_m2 16 rfl) rfl
theorem q503 : (Jvm.Cond.fieldLink "TransportPair$Crypto" (69 : Nat) "TransportPair$Crypto" "ready" "I") ∈ lw_all := lw_g (lw_at lw_m2 17 rfl) rfl
theorem q504 : (Jvm.Cond.fieldLinkNest "TransportPair$Side" (517 : Nat) "TransportPair$Crypto" "ready" "I" "TransportPair") ∈ lw_tbl := lw_at lw_m2 18 rfl
theorem q516 : (Jvm.Cond.arrayClass Jvm.ClassFile.FieldType.boolean) ∈ lw_all := lw_g (lw_at lw_m2 30 rfl) rfl
theorem q517 : (Jvm.Cond.classLink "TransportPair$Side" (39 : Nat) "TransportPair$Book") ∈ lw_all := lw_g (lw_at lw_m2 31 rfl) rfl
theorem q518 : (Jvm.Cond.instantiable "TransportPair$Book" (11 : Nat)) ∈ lw_all := lw_g (lw_at lw_m2 32 rfl) rfl
theorem q519 : (Jvm.Cond.methodLink "TransportPair$Side" (41 : Nat) ({ cls := "TransportPair$Book", name := "<init>", desc := "()V" } : Jvm.MethodName)) ∈ lw_all := lw_g (lw_at lw_m2 33 rfl) rfl
theorem q520 : (Jvm.Cond.instanceMethod ({ cls := "TransportPair$Book", name := "<init>", desc := "()V" } : Jvm.MethodName)) ∈ lw_all := lw_g (lw_at lw_m2 34 rfl) rfl
theorem q521 : (Jvm.Cond.code ({ cls := "TransportPair$Book", name := "<init>", desc := "()V" } : Jvm.MethodName) prog_4_method_1_code (2 : Nat) (Option.none : Option Jvm.ClassFile.FieldType)) ∈ lw_all := lw_g (lw_at lw_m2 35 rfl) rfl
theorem q522 : (Jvm.Cond.methodLink "TransportPair$Book" (3 : Nat) ({ cls := "java/lang/Object", name := "<init>", desc := "()V" } : Jvm.MethodName)) ∈ lw_all := lw_g (lw_at lw_m2 36 rfl) rfl
theorem q523 : (Jvm.Cond.classLink "TransportPair$Book" (9 : Nat) "TransportPair$Space") ∈ lw_all := lw_g (lw_at lw_m2 37 rfl) rfl
theorem q524 : (Jvm.Cond.arrayOver (Jvm.ClassFile.FieldType.object "TransportPair$Space")) ∈ lw_tbl := lw_at lw_m2 38 rfl
theorem q525 : (Jvm.Cond.classLink "TransportPair$Book" (17 : Nat) "TransportPair$Trip") ∈ lw_all := lw_g (lw_at lw_m2 39 rfl) rfl
theorem q526 : (Jvm.Cond.instantiable "TransportPair$Trip" (5 : Nat)) ∈ lw_all := lw_g (lw_at lw_m2 40 rfl) rfl
theorem q527 : (Jvm.Cond.methodLinkNest "TransportPair$Book" (19 : Nat) ({ cls := "TransportPair$Trip", name := "<init>", desc := "()V" } : Jvm.MethodName) "TransportPair") ∈ lw_tbl := lw_at lw_m2 41 rfl
theorem q528 : (Jvm.Cond.instanceMethod ({ cls := "TransportPair$Trip", name := "<init>", desc := "()V" } : Jvm.MethodName)) ∈ lw_all := lw_g (lw_at lw_m2 42 rfl) rfl
theorem q529 : (Jvm.Cond.code ({ cls := "TransportPair$Trip", name := "<init>", desc := "()V" } : Jvm.MethodName) prog_31_method_1_code (1 : Nat) (Option.none : Option Jvm.ClassFile.FieldType)) ∈ lw_all := lw_g (lw_at lw_m2 43 rfl) rfl
theorem q530 : (Jvm.Cond.methodLink "TransportPair$Trip" (3 : Nat) ({ cls := "java/lang/Object", name := "<init>", desc := "()V" } : Jvm.MethodName)) ∈ lw_all := lw_g (lw_at lw_m2 44 rfl) rfl
theorem q531 : (Jvm.Cond.fieldLink "TransportPair$Trip" (9 : Nat) "TransportPair$Trip" "smooth" "I") ∈ lw_all := lw_g (lw_at lw_m2 45 rfl) rfl
theorem q532 : (Jvm.Cond.fieldLinkNest "TransportPair$Book" (216 : Nat) "TransportPair$Trip" "smooth" "I" "TransportPair") ∈ lw_tbl := lw_at lw_m2 46 rfl
theorem q533 : (Jvm.Cond.fieldLink "TransportPair$Trip" (15 : Nat) "TransportPair$Trip" "vary" "I") ∈ lw_all := lw_g (lw_at lw_m2 47 rfl) rfl
theorem q534 : (Jvm.Cond.fieldLinkNest "TransportPair$Book" (219 : Nat) "TransportPair$Trip" "vary" "I" "TransportPair") ∈ lw_tbl := lw_at lw_m2 48 rfl
theorem q535 : (Jvm.Cond.fieldLink "TransportPair$Trip" (24 : Nat) "TransportPair$Trip" "latest" "I") ∈ lw_all := lw_g (lw_at lw_m2 49 rfl) rfl
theorem q536 : (Jvm.Cond.fieldLinkNest "TransportPair$Book" (222 : Nat) "TransportPair$Trip" "latest" "I" "TransportPair") ∈ lw_tbl := lw_at lw_m2 50 rfl
theorem q537 : (Jvm.Cond.fieldLink "TransportPair$Trip" (18 : Nat) "TransportPair$Trip" "least" "I") ∈ lw_all := lw_g (lw_at lw_m2 51 rfl) rfl
theorem q538 : (Jvm.Cond.fieldLinkNest "TransportPair$Book" (223 : Nat) "TransportPair$Trip" "least" "I" "TransportPair") ∈ lw_tbl := lw_at lw_m2 52 rfl
theorem q539 : (Jvm.Cond.fieldLink "TransportPair$Trip" (21 : Nat) "TransportPair$Trip" "first" "I") ∈ lw_all := lw_g (lw_at lw_m2 53 rfl) rfl
theorem q540 : (Jvm.Cond.fieldLinkNest "TransportPair$Book" (132 : Nat) "TransportPair$Trip" "first" "I" "TransportPair") ∈ lw_tbl := lw_at lw_m2 54 rfl
theorem q552 : (Jvm.Cond.classLink "TransportPair$Book" (24 : Nat) "TransportPair$Window") ∈ lw_all := lw_g (lw_at lw_m2 66 rfl) rfl
theorem q553 : (Jvm.Cond.instantiable "TransportPair$Window" (4 : Nat)) ∈ lw_all := lw_g (lw_at lw_m2 67 rfl) rfl
theorem q554 : (Jvm.Cond.methodLinkNest "TransportPair$Book" (26 : Nat) ({ cls := "TransportPair$Window", name := "<init>", desc := "()V" } : Jvm.MethodName) "TransportPair") ∈ lw_tbl := lw_at lw_m2 68 rfl
theorem q555 : (Jvm.Cond.instanceMethod ({ cls := "TransportPair$Window", name := "<init>", desc := "()V" } : Jvm.MethodName)) ∈ lw_all := lw_g (lw_at lw_m2 69 rfl) rfl
theorem q556 : (Jvm.Cond.code ({ cls := "TransportPair$Window", name := "<init>", desc := "()V" } : Jvm.MethodName) prog_33_method_1_code (1 : Nat) (Option.none : Option Jvm.ClassFile.FieldType)) ∈ lw_all := lw_g (lw_at lw_m2 70 rfl) rfl
theorem q557 : (Jvm.Cond.methodLink "TransportPair$Window" (3 : Nat) ({ cls := "java/lang/Object", name := "<init>", desc := "()V" } : Jvm.MethodName)) ∈ lw_all := lw_g (lw_at lw_m2 71 rfl) rfl
theorem q558 : (Jvm.Cond.fieldLink "TransportPair$Window" (9 : Nat) "TransportPair$Window" "size" "I") ∈ lw_all := lw_g (lw_at lw_m2 72 rfl) rfl
theorem q559 : (Jvm.Cond.fieldLinkNest "TransportPair$Book" (43 : Nat) "TransportPair$Window" "size" "I" "TransportPair") ∈ lw_tbl := lw_at lw_m2 73 rfl
theorem q560 : (Jvm.Cond.fieldLinkNest "TransportPair$Side" (661 : Nat) "TransportPair$Window" "size" "I" "TransportPair") ∈ lw_tbl := lw_at lw_m2 74 rfl
theorem q561 : (Jvm.Cond.fieldLink "TransportPair$Window" (15 : Nat) "TransportPair$Window" "threshold" "I") ∈ lw_all := lw_g (lw_at lw_m2 75 rfl) rfl
theorem q562 : (Jvm.Cond.fieldLinkNest "TransportPair$Book" (210 : Nat) "TransportPair$Window" "threshold" "I" "TransportPair") ∈ lw_tbl := lw_at lw_m2 76 rfl
theorem q563 : (Jvm.Cond.fieldLink "TransportPair$Window" (18 : Nat) "TransportPair$Window" "recovery" "I") ∈ lw_all := lw_g (lw_at lw_m2 77 rfl) rfl
theorem q564 : (Jvm.Cond.fieldLinkNest "TransportPair$Book" (213 : Nat) "TransportPair$Window" "recovery" "I" "TransportPair") ∈ lw_tbl := lw_at lw_m2 78 rfl
theorem q565 : (Jvm.Cond.fieldLinkNest "TransportPair$Book" (39 : Nat) "TransportPair$Window" "inFlight" "I" "TransportPair") ∈ lw_tbl := lw_at lw_m2 79 rfl
theorem q566 : (Jvm.Cond.fieldLinkNest "TransportPair$Side" (656 : Nat) "TransportPair$Window" "inFlight" "I" "TransportPair") ∈ lw_tbl := lw_at lw_m2 80 rfl
theorem q576 : (Jvm.Cond.instantiable "TransportPair$Space" (18 : Nat)) ∈ lw_all := lw_g (lw_at lw_m2 90 rfl) rfl
theorem q577 : (Jvm.Cond.methodLinkNest "TransportPair$Book" (38 : Nat) ({ cls := "TransportPair$Space", name := "<init>", desc := "()V" } : Jvm.MethodName) "TransportPair") ∈ lw_tbl := lw_at lw_m2 91 rfl
theorem q578 : (Jvm.Cond.instanceMethod ({ cls := "TransportPair$Space", name := "<init>", desc := "()V" } : Jvm.MethodName)) ∈ lw_all := lw_g (lw_at lw_m2 92 rfl) rfl
theorem q579 : (Jvm.Cond.code ({ cls := "TransportPair$Space", name := "<init>", desc := "()V" } : Jvm.MethodName) prog_26_method_1_code (1 : Nat) (Option.none : Option Jvm.ClassFile.FieldType)) ∈ lw_all := lw_g (lw_at lw_m2 93 rfl) rfl
theorem q580 : (Jvm.Cond.methodLink "TransportPair$Space" (3 : Nat) ({ cls := "java/lang/Object", name := "<init>", desc := "()V" } : Jvm.MethodName)) ∈ lw_all := lw_g (lw_at lw_m2 94 rfl) rfl
theorem q581 : (Jvm.Cond.classLink "TransportPair$Space" (33 : Nat) "TransportPair$Queue") ∈ lw_all := lw_g (lw_at lw_m2 95 rfl) rfl
theorem q582 : (Jvm.Cond.instantiable "TransportPair$Queue" (3 : Nat)) ∈ lw_all := lw_g (lw_at lw_m2 96 rfl) rfl
theorem q583 : (Jvm.Cond.methodLinkNest "TransportPair$Space" (35 : Nat) ({ cls := "TransportPair$Queue", name := "<init>", desc := "()V" } : Jvm.MethodName) "TransportPair") ∈ lw_tbl := lw_at lw_m2 97 rfl
theorem q584 : (Jvm.Cond.instanceMethod ({ cls := "TransportPair$Queue", name := "<init>", desc := "()V" } : Jvm.MethodName)) ∈ lw_all := lw_g (lw_at lw_m2 98 rfl) rfl
theorem q585 : (Jvm.Cond.code ({ cls := "TransportPair$Queue", name := "<init>", desc := "()V" } : Jvm.MethodName) prog_20_method_1_code (1 : Nat) (Option.none : Option Jvm.ClassFile.FieldType)) ∈ lw_all := lw_g (lw_at lw_m2 99 rfl) rfl
theorem q586 : (Jvm.Cond.methodLink "TransportPair$Queue" (1 : Nat) ({ cls := "java/lang/Object", name := "<init>", desc := "()V" } : Jvm.MethodName)) ∈ lw_all := lw_g (lw_at lw_m2 100 rfl) rfl
theorem q587 : (Jvm.Cond.fieldLink "TransportPair$Queue" (7 : Nat) "TransportPair$Queue" "row" "[I") ∈ lw_all := lw_g (lw_at lw_m2 101 rfl) rfl
theorem q588 : (Jvm.Cond.fieldLink "TransportPair$Queue" (13 : Nat) "TransportPair$Queue" "first" "I") ∈ lw_all := lw_g (lw_at lw_m2 102 rfl) rfl
theorem q589 : (Jvm.Cond.fieldLink "TransportPair$Queue" (17 : Nat) "TransportPair$Queue" "end" "I") ∈ lw_all := lw_g (lw_at lw_m2 103 rfl) rfl
theorem q597 : (Jvm.Cond.arrayClass Jvm.ClassFile.FieldType.short) ∈ lw_all := lw_g (lw_at lw_m2 111 rfl) rfl
theorem q598 : (Jvm.Cond.classLink "TransportPair$Space" (43 : Nat) "TransportPair$Ranges") ∈ lw_all := lw_g (lw_at lw_m2 112 rfl) rfl
theorem q599 : (Jvm.Cond.instantiable "TransportPair$Ranges" (4 : Nat)) ∈ lw_all := lw_g (lw_at lw_m2 113 rfl) rfl
theorem q600 : (Jvm.Cond.methodLinkNest "TransportPair$Space" (45 : Nat) ({ cls := "TransportPair$Ranges", name := "<init>", desc := "()V" } : Jvm.MethodName) "TransportPair") ∈ lw_tbl := lw_at lw_m2 114 rfl
theorem q601 : (Jvm.Cond.instanceMethod ({ cls := "TransportPair$Ranges", name := "<init>", desc := "()V" } : Jvm.MethodName)) ∈ lw_all := lw_g (lw_at lw_m2 115 rfl) rfl
theorem q602 : (Jvm.Cond.code ({ cls := "TransportPair$Ranges", name := "<init>", desc := "()V" } : Jvm.MethodName) prog_21_method_1_code (1 : Nat) (Option.none : Option Jvm.ClassFile.FieldType)) ∈ lw_all := lw_g (lw_at lw_m2 116 rfl) rfl
theorem q603 : (Jvm.Cond.methodLink "TransportPair$Ranges" (3 : Nat) ({ cls := "java/lang/Object", name := "<init>", desc := "()V" } : Jvm.MethodName)) ∈ lw_all := lw_g (lw_at lw_m2 117 rfl) rfl
theorem q604 : (Jvm.Cond.fieldLink "TransportPair$Ranges" (9 : Nat) "TransportPair$Ranges" "lows" "[J") ∈ lw_all := lw_g (lw_at lw_m2 118 rfl) rfl
theorem q605 : (Jvm.Cond.fieldLinkNest "TransportPair$Side" (693 : Nat) "TransportPair$Ranges" "lows" "[J" "TransportPair") ∈ lw_tbl := lw_at lw_m2 119 rfl
theorem q606 : (Jvm.Cond.fieldLink "TransportPair$Ranges" (15 : Nat) "TransportPair$Ranges" "highs" "[J") ∈ lw_all := lw_g (lw_at lw_m2 120 rfl) rfl
theorem q607 : (Jvm.Cond.fieldLinkNest "TransportPair$Space" (96 : Nat) "TransportPair$Ranges" "highs" "[J" "TransportPair") ∈ lw_tbl := lw_at lw_m2 121 rfl
theorem q608 : (Jvm.Cond.fieldLinkNest "TransportPair$Side" (412 : Nat) "TransportPair$Ranges" "highs" "[J" "TransportPair") ∈ lw_tbl := lw_at lw_m2 122 rfl
theorem q609 : (Jvm.Cond.fieldLink "TransportPair$Ranges" (18 : Nat) "TransportPair$Ranges" "many" "I") ∈ lw_all := lw_g (lw_at lw_m2 123 rfl) rfl
theorem q610 : (Jvm.Cond.fieldLinkNest "TransportPair$Space" (93 : Nat) "TransportPair$Ranges" "many" "I" "TransportPair") ∈ lw_tbl := lw_at lw_m2 124 rfl
theorem q611 : (Jvm.Cond.fieldLinkNest "TransportPair$Book" (199 : Nat) "TransportPair$Ranges" "many" "I" "TransportPair") ∈ lw_tbl := lw_at lw_m2 125 rfl
theorem q612 : (Jvm.Cond.fieldLinkNest "TransportPair$Side" (408 : Nat) "TransportPair$Ranges" "many" "I" "TransportPair") ∈ lw_tbl := lw_at lw_m2 126 rfl
theorem q613 : (Jvm.Cond.fieldLink "TransportPair$Ranges" (22 : Nat) "TransportPair$Ranges" "floor" "J") ∈ lw_all := lw_g (lw_at lw_m2 127 rfl) rfl
theorem q614 : (Jvm.Cond.fieldLinkNest "TransportPair$Book" (229 : Nat) "TransportPair$Ranges" "floor" "J" "TransportPair") ∈ lw_tbl := lw_at lw_m2 128 rfl
theorem q624 : (Jvm.Cond.fieldLink "TransportPair$Space" (9 : Nat) "TransportPair$Space" "times" "[I") ∈ lw_all := lw_g (lw_at lw_m2 138 rfl) rfl
theorem q625 : (Jvm.Cond.fieldLinkNest "TransportPair$Book" (85 : Nat) "TransportPair$Space" "times" "[I" "TransportPair") ∈ lw_tbl := lw_at lw_m2 139 rfl
theorem q626 : (Jvm.Cond.fieldLink "TransportPair$Space" (15 : Nat) "TransportPair$Space" "sizes" "[S") ∈ lw_all := lw_g (lw_at lw_m2 140 rfl) rfl
theorem q627 : (Jvm.Cond.fieldLink "TransportPair$Space" (19 : Nat) "TransportPair$Space" "marks" "[B") ∈ lw_all := lw_g (lw_at lw_m2 141 rfl) rfl
theorem q628 : (Jvm.Cond.fieldLinkNest "TransportPair$Book" (56 : Nat) "TransportPair$Space" "sent" "I" "TransportPair") ∈ lw_tbl := lw_at lw_m2 142 rfl
theorem q629 : (Jvm.Cond.fieldLink "TransportPair$Space" (54 : Nat) "TransportPair$Space" "sent" "I") ∈ lw_all := lw_g (lw_at lw_m2 143 rfl) rfl
theorem q630 : (Jvm.Cond.fieldLinkNest "TransportPair$Side" (589 : Nat) "TransportPair$Space" "sent" "I" "TransportPair") ∈ lw_tbl := lw_at lw_m2 144 rfl
theorem q631 : (Jvm.Cond.fieldLink "TransportPair$Space" (66 : Nat) "TransportPair$Space" "out" "I") ∈ lw_all := lw_g (lw_at lw_m2 145 rfl) rfl
theorem q632 : (Jvm.Cond.fieldLinkNest "TransportPair$Book" (226 : Nat) "TransportPair$Space" "out" "I" "TransportPair") ∈ lw_tbl := lw_at lw_m2 146 rfl
theorem q633 : (Jvm.Cond.fieldLink "TransportPair$Space" (69 : Nat) "TransportPair$Space" "eliciting" "I") ∈ lw_all := lw_g (lw_at lw_m2 147 rfl) rfl
theorem q634 : (Jvm.Cond.fieldLinkNest "TransportPair$Book" (154 : Nat) "TransportPair$Space" "eliciting" "I" "TransportPair") ∈ lw_tbl := lw_at lw_m2 148 rfl
theorem q635 : (Jvm.Cond.fieldLink "TransportPair$Space" (23 : Nat) "TransportPair$Space" "greatest" "I") ∈ lw_all := lw_g (lw_at lw_m2 149 rfl) rfl
theorem q636 : (Jvm.Cond.fieldLinkNest "TransportPair$Book" (59 : Nat) "TransportPair$Space" "greatest" "I" "TransportPair") ∈ lw_tbl := lw_at lw_m2 150 rfl
theorem q637 : (Jvm.Cond.fieldLinkNest "TransportPair$Side" (629 : Nat) "TransportPair$Space" "greatest" "I" "TransportPair") ∈ lw_tbl := lw_at lw_m2 151 rfl
theorem q638 : (Jvm.Cond.fieldLink "TransportPair$Space" (27 : Nat) "TransportPair$Space" "latest" "I") ∈ lw_all := lw_g (lw_at lw_m2 152 rfl) rfl
theorem q639 : (Jvm.Cond.fieldLinkNest "TransportPair$Book" (162 : Nat) "TransportPair$Space" "latest" "I" "TransportPair") ∈ lw_tbl := lw_at lw_m2 153 rfl
theorem q640 : (Jvm.Cond.fieldLink "TransportPair$Space" (30 : Nat) "TransportPair$Space" "lossTime" "I") ∈ lw_all := lw_g (lw_at lw_m2 154 rfl) rfl
theorem q641 : (Jvm.Cond.fieldLinkNest "TransportPair$Book" (126 : Nat) "TransportPair$Space" "lossTime" "I" "TransportPair") ∈ lw_tbl := lw_at lw_m2 155 rfl
theorem q642 : (Jvm.Cond.fieldLinkNest "TransportPair$Book" (75 : Nat) "TransportPair$Space" "firstOut" "I" "TransportPair") ∈ lw_tbl := lw_at lw_m2 156 rfl
theorem q643 : (Jvm.Cond.fieldLink "TransportPair$Space" (76 : Nat) "TransportPair$Space" "firstOut" "I") ∈ lw_all := lw_g (lw_at lw_m2 157 rfl) rfl
theorem q644 : (Jvm.Cond.fieldLinkNest "TransportPair$Side" (586 : Nat) "TransportPair$Space" "firstOut" "I" "TransportPair") ∈ lw_tbl := lw_at lw_m2 158 rfl
theorem q645 : (Jvm.Cond.fieldLink "TransportPair$Space" (50 : Nat) "TransportPair$Space" "discarded" "Z") ∈ lw_all := lw_g (lw_at lw_m2 159 rfl) rfl
theorem q646 : (Jvm.Cond.fieldLinkNest "TransportPair$Book" (157 : Nat) "TransportPair$Space" "discarded" "Z" "TransportPair") ∈ lw_tbl := lw_at lw_m2 160 rfl
theorem q647 : (Jvm.Cond.fieldLinkNest "TransportPair$Side" (232 : Nat) "TransportPair$Space" "discarded" "Z" "TransportPair") ∈ lw_tbl := lw_at lw_m2 161 rfl
theorem q648 : (Jvm.Cond.fieldLink "TransportPair$Space" (36 : Nat) "TransportPair$Space" "done" "LTransportPair$Queue;") ∈ lw_all := lw_g (lw_at lw_m2 162 rfl) rfl
theorem q649 : (Jvm.Cond.fieldLinkNest "TransportPair$Book" (114 : Nat) "TransportPair$Space" "done" "LTransportPair$Queue;" "TransportPair") ∈ lw_tbl := lw_at lw_m2 163 rfl
theorem q650 : (Jvm.Cond.fieldLinkNest "TransportPair$Side" (527 : Nat) "TransportPair$Space" "done" "LTransportPair$Queue;" "TransportPair") ∈ lw_tbl := lw_at lw_m2 164 rfl
theorem q651 : (Jvm.Cond.fieldLink "TransportPair$Space" (40 : Nat) "TransportPair$Space" "lost" "LTransportPair$Queue;") ∈ lw_all := lw_g (lw_at lw_m2 165 rfl) rfl
theorem q652 : (Jvm.Cond.fieldLinkNest "TransportPair$Book" (129 : Nat) "TransportPair$Space" "lost" "LTransportPair$Queue;" "TransportPair") ∈ lw_tbl := lw_at lw_m2 166 rfl
theorem q653 : (Jvm.Cond.fieldLinkNest "TransportPair$Side" (540 : Nat) "TransportPair$Space" "lost" "LTransportPair$Queue;" "TransportPair") ∈ lw_tbl := lw_at lw_m2 167 rfl
theorem q654 : (Jvm.Cond.fieldLink "TransportPair$Space" (46 : Nat) "TransportPair$Space" "came" "LTransportPair$Ranges;") ∈ lw_all := lw_g (lw_at lw_m2 168 rfl) rfl
theorem q655 : (Jvm.Cond.fieldLinkNest "TransportPair$Book" (195 : Nat) "TransportPair$Space" "came" "LTransportPair$Ranges;" "TransportPair") ∈ lw_tbl := lw_at lw_m2 169 rfl
theorem q656 : (Jvm.Cond.fieldLinkNest "TransportPair$Side" (405 : Nat) "TransportPair$Space" "came" "LTransportPair$Ranges;" "TransportPair") ∈ lw_tbl := lw_at lw_m2 170 rfl
theorem q657 : (Jvm.Cond.fieldLink "TransportPair$Space" (83 : Nat) "TransportPair$Space" "pending" "I") ∈ lw_all := lw_g (lw_at lw_m2 171 rfl) rfl
theorem q658 : (Jvm.Cond.fieldLinkNest "TransportPair$Book" (186 : Nat) "TransportPair$Space" "pending" "I" "TransportPair") ∈ lw_tbl := lw_at lw_m2 172 rfl
theorem q659 : (Jvm.Cond.fieldLinkNest "TransportPair$Side" (646 : Nat) "TransportPair$Space" "pending" "I" "TransportPair") ∈ lw_tbl := lw_at lw_m2 173 rfl
theorem q660 : (Jvm.Cond.fieldLink "TransportPair$Space" (103 : Nat) "TransportPair$Space" "since" "I") ∈ lw_all := lw_g (lw_at lw_m2 174 rfl) rfl
theorem q661 : (Jvm.Cond.fieldLinkNest "TransportPair$Book" (192 : Nat) "TransportPair$Space" "since" "I" "TransportPair") ∈ lw_tbl := lw_at lw_m2 175 rfl
theorem q662 : (Jvm.Cond.fieldLink "TransportPair$Space" (100 : Nat) "TransportPair$Space" "arrived" "I") ∈ lw_all := lw_g (lw_at lw_m2 176 rfl) rfl
theorem q663 : (Jvm.Cond.fieldLinkNest "TransportPair$Book" (204 : Nat) "TransportPair$Space" "arrived" "I" "TransportPair") ∈ lw_tbl := lw_at lw_m2 177 rfl
theorem q664 : (Jvm.Cond.fieldLink "TransportPair$Space" (86 : Nat) "TransportPair$Space" "hurry" "Z") ∈ lw_all := lw_g (lw_at lw_m2 178 rfl) rfl
theorem q665 : (Jvm.Cond.fieldLinkNest "TransportPair$Book" (189 : Nat) "TransportPair$Space" "hurry" "Z" "TransportPair") ∈ lw_tbl := lw_at lw_m2 179 rfl
theorem q703 : (Jvm.Cond.fieldLink "TransportPair$Book" (11 : Nat) "TransportPair$Book" "spaces" "[LTransportPair$Space;") ∈ lw_all := lw_g (lw_at lw_m2 217 rfl) rfl
theorem q704 : (Jvm.Cond.fieldLinkNest "TransportPair$Side" (228 : Nat) "TransportPair$Book" "spaces" "[LTransportPair$Space;" "TransportPair") ∈ lw_tbl := lw_at lw_m2 218 rfl
theorem q705 : (Jvm.Cond.fieldLink "TransportPair$Book" (20 : Nat) "TransportPair$Book" "way" "LTransportPair$Trip;") ∈ lw_all := lw_g (lw_at lw_m2 219 rfl) rfl
theorem q706 : (Jvm.Cond.fieldLinkNest "TransportPair$Side" (291 : Nat) "TransportPair$Book" "way" "LTransportPair$Trip;" "TransportPair") ∈ lw_tbl := lw_at lw_m2 220 rfl
theorem q707 : (Jvm.Cond.fieldLink "TransportPair$Book" (27 : Nat) "TransportPair$Book" "window" "LTransportPair$Window;") ∈ lw_all := lw_g (lw_at lw_m2 221 rfl) rfl
theorem q708 : (Jvm.Cond.fieldLinkNest "TransportPair$Side" (652 : Nat) "TransportPair$Book" "window" "LTransportPair$Window;" "TransportPair") ∈ lw_tbl := lw_at lw_m2 222 rfl
theorem q709 : (Jvm.Cond.fieldLink "TransportPair$Book" (46 : Nat) "TransportPair$Book" "time" "I") ∈ lw_all := lw_g (lw_at lw_m2 223 rfl) rfl
theorem q710 : (Jvm.Cond.fieldLinkNest "TransportPair$Side" (222 : Nat) "TransportPair$Book" "time" "I" "TransportPair") ∈ lw_tbl := lw_at lw_m2 224 rfl
theorem q711 : (Jvm.Cond.fieldLink "TransportPair$Book" (104 : Nat) "TransportPair$Book" "backoff" "I") ∈ lw_all := lw_g (lw_at lw_m2 225 rfl) rfl
theorem q712 : (Jvm.Cond.fieldLink "TransportPair$Book" (49 : Nat) "TransportPair$Book" "sentLast" "I") ∈ lw_all := lw_g (lw_at lw_m2 226 rfl) rfl
theorem q713 : (Jvm.Cond.fieldLink "TransportPair$Book" (150 : Nat) "TransportPair$Book" "confirmed" "Z") ∈ lw_all := lw_g (lw_at lw_m2 227 rfl) rfl
theorem q714 : (Jvm.Cond.fieldLinkNest "TransportPair$Side" (284 : Nat) "TransportPair$Book" "confirmed" "Z" "TransportPair") ∈ lw_tbl := lw_at lw_m2 228 rfl
theorem q715 : (Jvm.Cond.fieldLinkNest "TransportPair" (247 : Nat) "TransportPair$Book" "confirmed" "Z" "TransportPair") ∈ lw_tbl := lw_at lw_m2 229 rfl
theorem q716 : (Jvm.Cond.fieldLinkNest "TransportPair$Side" (218 : Nat) "TransportPair$Book" "anxious" "Z" "TransportPair") ∈ lw_tbl := lw_at lw_m2 230 rfl
theorem q717 : (Jvm.Cond.fieldLink "TransportPair$Book" (165 : Nat) "TransportPair$Book" "anxious" "Z") ∈ lw_all := lw_g (lw_at lw_m2 231 rfl) rfl
theorem q718 : (Jvm.Cond.fieldLink "TransportPair$Book" (31 : Nat) "TransportPair$Book" "lows" "[J") ∈ lw_all := lw_g (lw_at lw_m2 232 rfl) rfl
theorem q719 : (Jvm.Cond.fieldLinkNest "TransportPair$Side" (493 : Nat) "TransportPair$Book" "lows" "[J" "TransportPair") ∈ lw_tbl := lw_at lw_m2 233 rfl
theorem q720 : (Jvm.Cond.fieldLink "TransportPair$Book" (35 : Nat) "TransportPair$Book" "highs" "[J") ∈ lw_all := lw_g (lw_at lw_m2 234 rfl) rfl
theorem q721 : (Jvm.Cond.fieldLinkNest "TransportPair$Side" (495 : Nat) "TransportPair$Book" "highs" "[J" "TransportPair") ∈ lw_tbl := lw_at lw_m2 235 rfl
theorem q722 : (Jvm.Cond.fieldLink "TransportPair$Book" (72 : Nat) "TransportPair$Book" "spans" "I") ∈ lw_all := lw_g (lw_at lw_m2 236 rfl) rfl
theorem q723 : (Jvm.Cond.fieldLinkNest "TransportPair$Side" (496 : Nat) "TransportPair$Book" "spans" "I" "TransportPair") ∈ lw_tbl := lw_at lw_m2 237 rfl
theorem q747 : (Jvm.Cond.classLink "TransportPair$Side" (46 : Nat) "TransportPair$Cargo") ∈ lw_all := lw_g (lw_at lw_m3 21 rfl) rfl
theorem q748 : (Jvm.Cond.arrayOver (Jvm.ClassFile.FieldType.object "TransportPair$Cargo")) ∈ lw_tbl := lw_at lw_m3 22 rfl
theorem q749 : (Jvm.Cond.instantiable "TransportPair$Cargo" (8 : Nat)) ∈ lw_all := lw_g (lw_at lw_m3 23 rfl) rfl
theorem q750 : (Jvm.Cond.methodLinkNest "TransportPair$Side" (48 : Nat) ({ cls := "TransportPair$Cargo", name := "<init>", desc := "()V" } : Jvm.MethodName) "TransportPair") ∈ lw_tbl := lw_at lw_m3 24 rfl
theorem q751 : (Jvm.Cond.instanceMethod ({ cls := "TransportPair$Cargo", name := "<init>", desc := "()V" } : Jvm.MethodName)) ∈ lw_all := lw_g (lw_at lw_m3 25 rfl) rfl
theorem q752 : (Jvm.Cond.code ({ cls := "TransportPair$Cargo", name := "<init>", desc := "()V" } : Jvm.MethodName) prog_6_method_1_code (1 : Nat) (Option.none : Option Jvm.ClassFile.FieldType)) ∈ lw_all := lw_g (lw_at lw_m3 26 rfl) rfl
theorem q753 : (Jvm.Cond.methodLink "TransportPair$Cargo" (1 : Nat) ({ cls := "java/lang/Object", name := "<init>", desc := "()V" } : Jvm.MethodName)) ∈ lw_all := lw_g (lw_at lw_m3 27 rfl) rfl
theorem q754 : (Jvm.Cond.fieldLink "TransportPair$Cargo" (7 : Nat) "TransportPair$Cargo" "begins" "[I") ∈ lw_all := lw_g (lw_at lw_m3 28 rfl) rfl
theorem q755 : (Jvm.Cond.fieldLinkNest "TransportPair$Side" (543 : Nat) "TransportPair$Cargo" "begins" "[I" "TransportPair") ∈ lw_tbl := lw_at lw_m3 29 rfl
theorem q756 : (Jvm.Cond.fieldLink "TransportPair$Cargo" (13 : Nat) "TransportPair$Cargo" "sizes" "[I") ∈ lw_all := lw_g (lw_at lw_m3 30 rfl) rfl
theorem q757 : (Jvm.Cond.fieldLinkNest "TransportPair$Side" (554 : Nat) "TransportPair$Cargo" "sizes" "[I" "TransportPair") ∈ lw_tbl := lw_at lw_m3 31 rfl
theorem q758 : (Jvm.Cond.fieldLink "TransportPair$Cargo" (16 : Nat) "TransportPair$Cargo" "kinds" "[B") ∈ lw_all := lw_g (lw_at lw_m3 32 rfl) rfl
theorem q759 : (Jvm.Cond.fieldLinkNest "TransportPair$Side" (548 : Nat) "TransportPair$Cargo" "kinds" "[B" "TransportPair") ∈ lw_tbl := lw_at lw_m3 33 rfl
theorem q760 : (Jvm.Cond.fieldLink "TransportPair$Cargo" (20 : Nat) "TransportPair$Cargo" "as" "[J") ∈ lw_all := lw_g (lw_at lw_m3 34 rfl) rfl
theorem q761 : (Jvm.Cond.fieldLinkNest "TransportPair$Side" (561 : Nat) "TransportPair$Cargo" "as" "[J" "TransportPair") ∈ lw_tbl := lw_at lw_m3 35 rfl
theorem q762 : (Jvm.Cond.fieldLink "TransportPair$Cargo" (24 : Nat) "TransportPair$Cargo" "bs" "[J") ∈ lw_all := lw_g (lw_at lw_m3 36 rfl) rfl
theorem q763 : (Jvm.Cond.fieldLinkNest "TransportPair$Side" (551 : Nat) "TransportPair$Cargo" "bs" "[J" "TransportPair") ∈ lw_tbl := lw_at lw_m3 37 rfl
theorem q764 : (Jvm.Cond.fieldLink "TransportPair$Cargo" (27 : Nat) "TransportPair$Cargo" "cs" "[J") ∈ lw_all := lw_g (lw_at lw_m3 38 rfl) rfl
theorem q765 : (Jvm.Cond.fieldLinkNest "TransportPair$Side" (564 : Nat) "TransportPair$Cargo" "cs" "[J" "TransportPair") ∈ lw_tbl := lw_at lw_m3 39 rfl
theorem q766 : (Jvm.Cond.fieldLink "TransportPair$Cargo" (30 : Nat) "TransportPair$Cargo" "packets" "I") ∈ lw_all := lw_g (lw_at lw_m3 40 rfl) rfl
theorem q767 : (Jvm.Cond.fieldLinkNest "TransportPair$Side" (674 : Nat) "TransportPair$Cargo" "packets" "I" "TransportPair") ∈ lw_tbl := lw_at lw_m3 41 rfl
theorem q768 : (Jvm.Cond.fieldLink "TransportPair$Cargo" (38 : Nat) "TransportPair$Cargo" "many" "I") ∈ lw_all := lw_g (lw_at lw_m3 42 rfl) rfl
theorem q769 : (Jvm.Cond.fieldLinkNest "TransportPair$Side" (628 : Nat) "TransportPair$Cargo" "many" "I" "TransportPair") ∈ lw_tbl := lw_at lw_m3 43 rfl
theorem q770 : (Jvm.Cond.fieldLinkNest "TransportPair" (275 : Nat) "TransportPair$Cargo" "many" "I" "TransportPair") ∈ lw_tbl := lw_at lw_m3 44 rfl
theorem q788 : (Jvm.Cond.classLink "TransportPair$Side" (64 : Nat) "TransportPair$Parameters") ∈ lw_all := lw_g (lw_at lw_m3 62 rfl) rfl
theorem q789 : (Jvm.Cond.instantiable "TransportPair$Parameters" (5 : Nat)) ∈ lw_all := lw_g (lw_at lw_m3 63 rfl) rfl
theorem q790 : (Jvm.Cond.methodLink "TransportPair$Side" (66 : Nat) ({ cls := "TransportPair$Parameters", name := "<init>", desc := "()V" } : Jvm.MethodName)) ∈ lw_all := lw_g (lw_at lw_m3 64 rfl) rfl
theorem q791 : (Jvm.Cond.instanceMethod ({ cls := "TransportPair$Parameters", name := "<init>", desc := "()V" } : Jvm.MethodName)) ∈ lw_all := lw_g (lw_at lw_m3 65 rfl) rfl
theorem q792 : (Jvm.Cond.code ({ cls := "TransportPair$Parameters", name := "<init>", desc := "()V" } : Jvm.MethodName) prog_19_method_1_code (1 : Nat) (Option.none : Option Jvm.ClassFile.FieldType)) ∈ lw_all := lw_g (lw_at lw_m3 66 rfl) rfl
theorem q793 : (Jvm.Cond.methodLink "TransportPair$Parameters" (3 : Nat) ({ cls := "java/lang/Object", name := "<init>", desc := "()V" } : Jvm.MethodName)) ∈ lw_all := lw_g (lw_at lw_m3 67 rfl) rfl
theorem q794 : (Jvm.Cond.methodLink "TransportPair$Parameters" (23 : Nat) ({ cls := "TransportPair$Parameters", name := "forget", desc := "()V" } : Jvm.MethodName)) ∈ lw_all := lw_g (lw_at lw_m3 68 rfl) rfl
theorem q795 : (Jvm.Cond.instanceMethod ({ cls := "TransportPair$Parameters", name := "forget", desc := "()V" } : Jvm.MethodName)) ∈ lw_all := lw_g (lw_at lw_m3 69 rfl) rfl
theorem q796 : (Jvm.Cond.selects "TransportPair$Parameters" ({ cls := "TransportPair$Parameters", name := "forget", desc := "()V" } : Jvm.MethodName) ({ cls := "TransportPair$Parameters", name := "forget", desc := "()V" } : Jvm.MethodName)) ∈ lw_all := lw_g (lw_at lw_m3 70 rfl) rfl
theorem q797 : (Jvm.Cond.code ({ cls := "TransportPair$Parameters", name := "forget", desc := "()V" } : Jvm.MethodName) prog_19_method_2_code (2 : Nat) (Option.none : Option Jvm.ClassFile.FieldType)) ∈ lw_all := lw_g (lw_at lw_m3 71 rfl) rfl
theorem q798 : (Jvm.Cond.methodLink "TransportPair$Parameters" (26 : Nat) ({ cls := "TransportPair$Parameters", name := "isBytes", desc := "(I)Z" } : Jvm.MethodName)) ∈ lw_all := lw_g (lw_at lw_m3 72 rfl) rfl
theorem q799 : (Jvm.Cond.static ({ cls := "TransportPair$Parameters", name := "isBytes", desc := "(I)Z" } : Jvm.MethodName)) ∈ lw_all := lw_g (lw_at lw_m3 73 rfl) rfl
theorem q800 : (Jvm.Cond.code ({ cls := "TransportPair$Parameters", name := "isBytes", desc := "(I)Z" } : Jvm.MethodName) prog_19_method_3_code (1 : Nat) (Option.some Jvm.ClassFile.FieldType.boolean)) ∈ lw_all := lw_g (lw_at lw_m3 74 rfl) rfl
theorem q801 : (Jvm.Cond.constantLong "TransportPair$Parameters" (30 : Nat) (-1 : Int64)) ∈ lw_all := lw_g (lw_at lw_m3 75 rfl) rfl
theorem q802 : (Jvm.Cond.constantLong "TransportPair$Parameters" (32 : Nat) (65527 : Int64)) ∈ lw_all := lw_g (lw_at lw_m3 76 rfl) rfl
theorem q803 : (Jvm.Cond.constantLong "TransportPair$Parameters" (34 : Nat) (3 : Int64)) ∈ lw_all := lw_g (lw_at lw_m3 77 rfl) rfl
theorem q804 : (Jvm.Cond.constantLong "TransportPair$Parameters" (36 : Nat) (25 : Int64)) ∈ lw_all := lw_g (lw_at lw_m3 78 rfl) rfl
theorem q805 : (Jvm.Cond.constantLong "TransportPair$Parameters" (38 : Nat) (2 : Int64)) ∈ lw_all := lw_g (lw_at lw_m3 79 rfl) rfl
theorem q806 : (Jvm.Cond.fieldLink "TransportPair$Parameters" (9 : Nat) "TransportPair$Parameters" "values" "[J") ∈ lw_all := lw_g (lw_at lw_m3 80 rfl) rfl
theorem q807 : (Jvm.Cond.fieldLinkNest "TransportPair$Side" (273 : Nat) "TransportPair$Parameters" "values" "[J" "TransportPair") ∈ lw_tbl := lw_at lw_m3 81 rfl
theorem q808 : (Jvm.Cond.fieldLink "TransportPair$Parameters" (15 : Nat) "TransportPair$Parameters" "there" "[Z") ∈ lw_all := lw_g (lw_at lw_m3 82 rfl) rfl
theorem q809 : (Jvm.Cond.fieldLink "TransportPair$Parameters" (19 : Nat) "TransportPair$Parameters" "places" "[I") ∈ lw_all := lw_g (lw_at lw_m3 83 rfl) rfl
theorem q810 : (Jvm.Cond.fieldLinkNest "TransportPair$Side" (281 : Nat) "TransportPair$Parameters" "places" "[I" "TransportPair") ∈ lw_tbl := lw_at lw_m3 84 rfl
theorem q811 : (Jvm.Cond.fieldLink "TransportPair$Parameters" (40 : Nat) "TransportPair$Parameters" "fault" "I") ∈ lw_all := lw_g (lw_at lw_m3 85 rfl) rfl
theorem q812 : (Jvm.Cond.fieldLink "TransportPair$Parameters" (44 : Nat) "TransportPair$Parameters" "wrong" "I") ∈ lw_all := lw_g (lw_at lw_m3 86 rfl) rfl
theorem q824 : (Jvm.Cond.classLink "TransportPair$Side" (71 : Nat) "TransportPair$Bytes") ∈ lw_all := lw_g (lw_at lw_m3 98 rfl) rfl
theorem q825 : (Jvm.Cond.instantiable "TransportPair$Bytes" (4 : Nat)) ∈ lw_all := lw_g (lw_at lw_m3 99 rfl) rfl
theorem q826 : (Jvm.Cond.methodLinkNest "TransportPair$Side" (73 : Nat) ({ cls := "TransportPair$Bytes", name := "<init>", desc := "()V" } : Jvm.MethodName) "TransportPair") ∈ lw_tbl := lw_at lw_m3 100 rfl
theorem q827 : (Jvm.Cond.instanceMethod ({ cls := "TransportPair$Bytes", name := "<init>", desc := "()V" } : Jvm.MethodName)) ∈ lw_all := lw_g (lw_at lw_m3 101 rfl) rfl
theorem q828 : (Jvm.Cond.code ({ cls := "TransportPair$Bytes", name := "<init>", desc := "()V" } : Jvm.MethodName) prog_5_method_1_code (1 : Nat) (Option.none : Option Jvm.ClassFile.FieldType)) ∈ lw_all := lw_g (lw_at lw_m3 102 rfl) rfl
theorem q829 : (Jvm.Cond.methodLink "TransportPair$Bytes" (3 : Nat) ({ cls := "java/lang/Object", name := "<init>", desc := "()V" } : Jvm.MethodName)) ∈ lw_all := lw_g (lw_at lw_m3 103 rfl) rfl
theorem q830 : (Jvm.Cond.fieldLink "TransportPair$Bytes" (9 : Nat) "TransportPair$Bytes" "row" "[B") ∈ lw_all := lw_g (lw_at lw_m3 104 rfl) rfl
theorem q831 : (Jvm.Cond.fieldLinkNest "TransportPair$Parameters" (77 : Nat) "TransportPair$Bytes" "row" "[B" "TransportPair") ∈ lw_tbl := lw_at lw_m3 105 rfl
theorem q832 : (Jvm.Cond.fieldLinkNest "TransportPair$Frame" (66 : Nat) "TransportPair$Bytes" "row" "[B" "TransportPair") ∈ lw_tbl := lw_at lw_m3 106 rfl
theorem q833 : (Jvm.Cond.fieldLink "TransportPair$Bytes" (15 : Nat) "TransportPair$Bytes" "at" "I") ∈ lw_all := lw_g (lw_at lw_m3 107 rfl) rfl
theorem q834 : (Jvm.Cond.fieldLinkNest "TransportPair$Header" (31 : Nat) "TransportPair$Bytes" "at" "I" "TransportPair") ∈ lw_tbl := lw_at lw_m3 108 rfl
theorem q835 : (Jvm.Cond.fieldLinkNest "TransportPair$Side" (173 : Nat) "TransportPair$Bytes" "at" "I" "TransportPair") ∈ lw_tbl := lw_at lw_m3 109 rfl
theorem q836 : (Jvm.Cond.fieldLinkNest "TransportPair$Parameters" (53 : Nat) "TransportPair$Bytes" "at" "I" "TransportPair") ∈ lw_tbl := lw_at lw_m3 110 rfl
theorem q837 : (Jvm.Cond.fieldLinkNest "TransportPair$Frame" (130 : Nat) "TransportPair$Bytes" "at" "I" "TransportPair") ∈ lw_tbl := lw_at lw_m3 111 rfl
theorem q838 : (Jvm.Cond.fieldLink "TransportPair$Bytes" (19 : Nat) "TransportPair$Bytes" "end" "I") ∈ lw_all := lw_g (lw_at lw_m3 112 rfl) rfl
theorem q839 : (Jvm.Cond.fieldLinkNest "TransportPair$Header" (77 : Nat) "TransportPair$Bytes" "end" "I" "TransportPair") ∈ lw_tbl := lw_at lw_m3 113 rfl
theorem q840 : (Jvm.Cond.fieldLinkNest "TransportPair$Side" (689 : Nat) "TransportPair$Bytes" "end" "I" "TransportPair") ∈ lw_tbl := lw_at lw_m3 114 rfl
theorem q841 : (Jvm.Cond.fieldLink "TransportPair$Bytes" (22 : Nat) "TransportPair$Bytes" "bad" "Z") ∈ lw_all := lw_g (lw_at lw_m3 115 rfl) rfl
theorem q842 : (Jvm.Cond.fieldLinkNest "TransportPair$Header" (43 : Nat) "TransportPair$Bytes" "bad" "Z" "TransportPair") ∈ lw_tbl := lw_at lw_m3 116 rfl
theorem q843 : (Jvm.Cond.fieldLinkNest "TransportPair$Parameters" (60 : Nat) "TransportPair$Bytes" "bad" "Z" "TransportPair") ∈ lw_tbl := lw_at lw_m3 117 rfl
theorem q844 : (Jvm.Cond.fieldLinkNest "TransportPair$Frame" (92 : Nat) "TransportPair$Bytes" "bad" "Z" "TransportPair") ∈ lw_tbl := lw_at lw_m3 118 rfl
theorem q845 : (Jvm.Cond.fieldLinkNest "TransportPair$Side" (686 : Nat) "TransportPair$Bytes" "bad" "Z" "TransportPair") ∈ lw_tbl := lw_at lw_m3 119 rfl
theorem q855 : (Jvm.Cond.classLink "TransportPair$Side" (81 : Nat) "TransportPair$Header") ∈ lw_all := lw_g (lw_at lw_m3 129 rfl) rfl
theorem q856 : (Jvm.Cond.instantiable "TransportPair$Header" (13 : Nat)) ∈ lw_all := lw_g (lw_at lw_m3 130 rfl) rfl
theorem q857 : (Jvm.Cond.methodLinkNest "TransportPair$Side" (83 : Nat) ({ cls := "TransportPair$Header", name := "<init>", desc := "()V" } : Jvm.MethodName) "TransportPair") ∈ lw_tbl := lw_at lw_m3 131 rfl
theorem q858 : (Jvm.Cond.instanceMethod ({ cls := "TransportPair$Header", name := "<init>", desc := "()V" } : Jvm.MethodName)) ∈ lw_all := lw_g (lw_at lw_m3 132 rfl) rfl
theorem q859 : (Jvm.Cond.code ({ cls := "TransportPair$Header", name := "<init>", desc := "()V" } : Jvm.MethodName) prog_14_method_1_code (1 : Nat) (Option.none : Option Jvm.ClassFile.FieldType)) ∈ lw_all := lw_g (lw_at lw_m3 133 rfl) rfl
theorem q860 : (Jvm.Cond.methodLink "TransportPair$Header" (3 : Nat) ({ cls := "java/lang/Object", name := "<init>", desc := "()V" } : Jvm.MethodName)) ∈ lw_all := lw_g (lw_at lw_m3 134 rfl) rfl
theorem q861 : (Jvm.Cond.fieldLink "TransportPair$Header" (59 : Nat) "TransportPair$Header" "kind" "I") ∈ lw_all := lw_g (lw_at lw_m3 135 rfl) rfl
theorem q862 : (Jvm.Cond.fieldLinkNest "TransportPair$Side" (370 : Nat) "TransportPair$Header" "kind" "I" "TransportPair") ∈ lw_tbl := lw_at lw_m3 136 rfl
theorem q863 : (Jvm.Cond.fieldLink "TransportPair$Header" (62 : Nat) "TransportPair$Header" "bits" "I") ∈ lw_all := lw_g (lw_at lw_m3 137 rfl) rfl
theorem q864 : (Jvm.Cond.fieldLink "TransportPair$Header" (9 : Nat) "TransportPair$Header" "fault" "I") ∈ lw_all := lw_g (lw_at lw_m3 138 rfl) rfl
theorem q865 : (Jvm.Cond.fieldLink "TransportPair$Header" (36 : Nat) "TransportPair$Header" "from" "I") ∈ lw_all := lw_g (lw_at lw_m3 139 rfl) rfl
theorem q866 : (Jvm.Cond.fieldLinkNest "TransportPair$Side" (391 : Nat) "TransportPair$Header" "from" "I" "TransportPair") ∈ lw_tbl := lw_at lw_m3 140 rfl
theorem q867 : (Jvm.Cond.fieldLink "TransportPair$Header" (74 : Nat) "TransportPair$Header" "number" "I") ∈ lw_all := lw_g (lw_at lw_m3 141 rfl) rfl
theorem q868 : (Jvm.Cond.fieldLinkNest "TransportPair$Side" (394 : Nat) "TransportPair$Header" "number" "I" "TransportPair") ∈ lw_tbl := lw_at lw_m3 142 rfl
theorem q869 : (Jvm.Cond.fieldLink "TransportPair$Header" (80 : Nat) "TransportPair$Header" "end" "I") ∈ lw_all := lw_g (lw_at lw_m3 143 rfl) rfl
theorem q870 : (Jvm.Cond.fieldLinkNest "TransportPair$Side" (364 : Nat) "TransportPair$Header" "end" "I" "TransportPair") ∈ lw_tbl := lw_at lw_m3 144 rfl
theorem q871 : (Jvm.Cond.fieldLink "TransportPair$Header" (15 : Nat) "TransportPair$Header" "version" "J") ∈ lw_all := lw_g (lw_at lw_m3 145 rfl) rfl
theorem q872 : (Jvm.Cond.fieldLink "TransportPair$Header" (71 : Nat) "TransportPair$Header" "to" "I") ∈ lw_all := lw_g (lw_at lw_m3 146 rfl) rfl
theorem q873 : (Jvm.Cond.fieldLinkNest "TransportPair$Side" (355 : Nat) "TransportPair$Header" "to" "I" "TransportPair") ∈ lw_tbl := lw_at lw_m3 147 rfl
theorem q874 : (Jvm.Cond.fieldLink "TransportPair$Header" (65 : Nat) "TransportPair$Header" "toSize" "I") ∈ lw_all := lw_g (lw_at lw_m3 148 rfl) rfl
theorem q875 : (Jvm.Cond.fieldLinkNest "TransportPair$Side" (358 : Nat) "TransportPair$Header" "toSize" "I" "TransportPair") ∈ lw_tbl := lw_at lw_m3 149 rfl
theorem q876 : (Jvm.Cond.fieldLink "TransportPair$Header" (19 : Nat) "TransportPair$Header" "by" "I") ∈ lw_all := lw_g (lw_at lw_m3 150 rfl) rfl
theorem q877 : (Jvm.Cond.fieldLinkNest "TransportPair$Side" (436 : Nat) "TransportPair$Header" "by" "I" "TransportPair") ∈ lw_tbl := lw_at lw_m3 151 rfl
theorem q878 : (Jvm.Cond.fieldLink "TransportPair$Header" (22 : Nat) "TransportPair$Header" "bySize" "I") ∈ lw_all := lw_g (lw_at lw_m3 152 rfl) rfl
theorem q879 : (Jvm.Cond.fieldLinkNest "TransportPair$Side" (371 : Nat) "TransportPair$Header" "bySize" "I" "TransportPair") ∈ lw_tbl := lw_at lw_m3 153 rfl
theorem q880 : (Jvm.Cond.fieldLink "TransportPair$Header" (25 : Nat) "TransportPair$Header" "token" "I") ∈ lw_all := lw_g (lw_at lw_m3 154 rfl) rfl
theorem q881 : (Jvm.Cond.fieldLink "TransportPair$Header" (28 : Nat) "TransportPair$Header" "tokenSize" "I") ∈ lw_all := lw_g (lw_at lw_m3 155 rfl) rfl
theorem q909 : (Jvm.Cond.classLink "TransportPair$Side" (88 : Nat) "TransportPair$Frame") ∈ lw_all := lw_g (lw_at lw_m3 183 rfl) rfl
theorem q910 : (Jvm.Cond.instantiable "TransportPair$Frame" (14 : Nat)) ∈ lw_all := lw_g (lw_at lw_m3 184 rfl) rfl
theorem q911 : (Jvm.Cond.methodLinkNest "TransportPair$Side" (90 : Nat) ({ cls := "TransportPair$Frame", name := "<init>", desc := "()V" } : Jvm.MethodName) "TransportPair") ∈ lw_tbl := lw_at lw_m3 185 rfl
theorem q912 : (Jvm.Cond.instanceMethod ({ cls := "TransportPair$Frame", name := "<init>", desc := "()V" } : Jvm.MethodName)) ∈ lw_all := lw_g (lw_at lw_m3 186 rfl) rfl
theorem q913 : (Jvm.Cond.code ({ cls := "TransportPair$Frame", name := "<init>", desc := "()V" } : Jvm.MethodName) prog_9_method_1_code (1 : Nat) (Option.none : Option Jvm.ClassFile.FieldType)) ∈ lw_all := lw_g (lw_at lw_m3 187 rfl) rfl
theorem q914 : (Jvm.Cond.methodLink "TransportPair$Frame" (3 : Nat) ({ cls := "java/lang/Object", name := "<init>", desc := "()V" } : Jvm.MethodName)) ∈ lw_all := lw_g (lw_at lw_m3 188 rfl) rfl
theorem q915 : (Jvm.Cond.fieldLink "TransportPair$Frame" (21 : Nat) "TransportPair$Frame" "kind" "I") ∈ lw_all := lw_g (lw_at lw_m3 189 rfl) rfl
theorem q916 : (Jvm.Cond.fieldLinkNest "TransportPair$Crypto" (44 : Nat) "TransportPair$Frame" "kind" "I" "TransportPair") ∈ lw_tbl := lw_at lw_m3 190 rfl
theorem q917 : (Jvm.Cond.fieldLinkNest "TransportPair$Cargo" (55 : Nat) "TransportPair$Frame" "kind" "I" "TransportPair") ∈ lw_tbl := lw_at lw_m3 191 rfl
theorem q918 : (Jvm.Cond.fieldLinkNest "TransportPair$Side" (322 : Nat) "TransportPair$Frame" "kind" "I" "TransportPair") ∈ lw_tbl := lw_at lw_m3 192 rfl
theorem q919 : (Jvm.Cond.fieldLink "TransportPair$Frame" (25 : Nat) "TransportPair$Frame" "fault" "I") ∈ lw_all := lw_g (lw_at lw_m3 193 rfl) rfl
theorem q920 : (Jvm.Cond.fieldLink "TransportPair$Frame" (28 : Nat) "TransportPair$Frame" "a" "J") ∈ lw_all := lw_g (lw_at lw_m3 194 rfl) rfl
theorem q921 : (Jvm.Cond.fieldLinkNest "TransportPair$Cargo" (58 : Nat) "TransportPair$Frame" "a" "J" "TransportPair") ∈ lw_tbl := lw_at lw_m3 195 rfl
theorem q922 : (Jvm.Cond.fieldLinkNest "TransportPair$Side" (325 : Nat) "TransportPair$Frame" "a" "J" "TransportPair") ∈ lw_tbl := lw_at lw_m3 196 rfl
theorem q923 : (Jvm.Cond.fieldLink "TransportPair$Frame" (32 : Nat) "TransportPair$Frame" "b" "J") ∈ lw_all := lw_g (lw_at lw_m3 197 rfl) rfl
theorem q924 : (Jvm.Cond.fieldLinkNest "TransportPair$Crypto" (47 : Nat) "TransportPair$Frame" "b" "J" "TransportPair") ∈ lw_tbl := lw_at lw_m3 198 rfl
theorem q925 : (Jvm.Cond.fieldLinkNest "TransportPair$Cargo" (62 : Nat) "TransportPair$Frame" "b" "J" "TransportPair") ∈ lw_tbl := lw_at lw_m3 199 rfl
theorem q926 : (Jvm.Cond.fieldLinkNest "TransportPair$Side" (469 : Nat) "TransportPair$Frame" "b" "J" "TransportPair") ∈ lw_tbl := lw_at lw_m3 200 rfl
theorem q927 : (Jvm.Cond.fieldLink "TransportPair$Frame" (35 : Nat) "TransportPair$Frame" "c" "J") ∈ lw_all := lw_g (lw_at lw_m3 201 rfl) rfl
theorem q928 : (Jvm.Cond.fieldLinkNest "TransportPair$Cargo" (68 : Nat) "TransportPair$Frame" "c" "J" "TransportPair") ∈ lw_tbl := lw_at lw_m3 202 rfl
theorem q929 : (Jvm.Cond.fieldLinkNest "TransportPair$Side" (472 : Nat) "TransportPair$Frame" "c" "J" "TransportPair") ∈ lw_tbl := lw_at lw_m3 203 rfl
theorem q930 : (Jvm.Cond.fieldLink "TransportPair$Frame" (38 : Nat) "TransportPair$Frame" "d" "J") ∈ lw_all := lw_g (lw_at lw_m3 204 rfl) rfl
theorem q931 : (Jvm.Cond.fieldLinkNest "TransportPair$Side" (714 : Nat) "TransportPair$Frame" "d" "J" "TransportPair") ∈ lw_tbl := lw_at lw_m3 205 rfl
theorem q932 : (Jvm.Cond.fieldLink "TransportPair$Frame" (9 : Nat) "TransportPair$Frame" "counts" "[J") ∈ lw_all := lw_g (lw_at lw_m3 206 rfl) rfl
theorem q933 : (Jvm.Cond.fieldLinkNest "TransportPair$Crypto" (54 : Nat) "TransportPair$Frame" "row" "[B" "TransportPair") ∈ lw_tbl := lw_at lw_m3 207 rfl
theorem q934 : (Jvm.Cond.fieldLink "TransportPair$Frame" (72 : Nat) "TransportPair$Frame" "row" "[B") ∈ lw_all := lw_g (lw_at lw_m3 208 rfl) rfl
theorem q935 : (Jvm.Cond.fieldLinkNest "TransportPair$Side" (475 : Nat) "TransportPair$Frame" "row" "[B" "TransportPair") ∈ lw_tbl := lw_at lw_m3 209 rfl
theorem q936 : (Jvm.Cond.fieldLink "TransportPair$Frame" (41 : Nat) "TransportPair$Frame" "from" "I") ∈ lw_all := lw_g (lw_at lw_m3 210 rfl) rfl
theorem q937 : (Jvm.Cond.fieldLinkNest "TransportPair$Crypto" (57 : Nat) "TransportPair$Frame" "from" "I" "TransportPair") ∈ lw_tbl := lw_at lw_m3 211 rfl
theorem q938 : (Jvm.Cond.fieldLinkNest "TransportPair$Side" (478 : Nat) "TransportPair$Frame" "from" "I" "TransportPair") ∈ lw_tbl := lw_at lw_m3 212 rfl
theorem q939 : (Jvm.Cond.fieldLink "TransportPair$Frame" (44 : Nat) "TransportPair$Frame" "size" "I") ∈ lw_all := lw_g (lw_at lw_m3 213 rfl) rfl
theorem q940 : (Jvm.Cond.fieldLinkNest "TransportPair$Crypto" (60 : Nat) "TransportPair$Frame" "size" "I" "TransportPair") ∈ lw_tbl := lw_at lw_m3 214 rfl
theorem q941 : (Jvm.Cond.fieldLinkNest "TransportPair$Cargo" (65 : Nat) "TransportPair$Frame" "size" "I" "TransportPair") ∈ lw_tbl := lw_at lw_m3 215 rfl
theorem q942 : (Jvm.Cond.fieldLinkNest "TransportPair$Side" (479 : Nat) "TransportPair$Frame" "size" "I" "TransportPair") ∈ lw_tbl := lw_at lw_m3 216 rfl
theorem q943 : (Jvm.Cond.fieldLink "TransportPair$Frame" (47 : Nat) "TransportPair$Frame" "secret" "I") ∈ lw_all := lw_g (lw_at lw_m3 217 rfl) rfl
theorem q944 : (Jvm.Cond.fieldLink "TransportPair$Frame" (50 : Nat) "TransportPair$Frame" "many" "I") ∈ lw_all := lw_g (lw_at lw_m3 218 rfl) rfl
theorem q945 : (Jvm.Cond.fieldLinkNest "TransportPair$Side" (486 : Nat) "TransportPair$Frame" "many" "I" "TransportPair") ∈ lw_tbl := lw_at lw_m3 219 rfl
theorem q946 : (Jvm.Cond.fieldLink "TransportPair$Frame" (15 : Nat) "TransportPair$Frame" "lows" "[J") ∈ lw_all := lw_g (lw_at lw_m3 220 rfl) rfl
theorem q947 : (Jvm.Cond.fieldLinkNest "TransportPair$Side" (490 : Nat) "TransportPair$Frame" "lows" "[J" "TransportPair") ∈ lw_tbl := lw_at lw_m3 221 rfl
theorem q948 : (Jvm.Cond.fieldLink "TransportPair$Frame" (18 : Nat) "TransportPair$Frame" "highs" "[J") ∈ lw_all := lw_g (lw_at lw_m3 222 rfl) rfl
theorem q949 : (Jvm.Cond.fieldLinkNest "TransportPair$Side" (494 : Nat) "TransportPair$Frame" "highs" "[J" "TransportPair") ∈ lw_tbl := lw_at lw_m3 223 rfl
theorem q979 : (Jvm.Cond.classLink "TransportPair$Side" (101 : Nat) "[[B") ∈ lw_all := lw_g (lw_at lw_m4 13 rfl) rfl
theorem q981 : (Jvm.Cond.classLink "TransportPair$Side" (122 : Nat) "TransportPair$Greeting") ∈ lw_all := lw_g (lw_at lw_m4 15 rfl) rfl
theorem q982 : (Jvm.Cond.instantiable "TransportPair$Greeting" (23 : Nat)) ∈ lw_all := lw_g (lw_at lw_m4 16 rfl) rfl
theorem q983 : (Jvm.Cond.methodLink "TransportPair$Side" (124 : Nat) ({ cls := "TransportPair$Greeting", name := "<init>", desc := "(I)V" } : Jvm.MethodName)) ∈ lw_all := lw_g (lw_at lw_m4 17 rfl) rfl
theorem q984 : (Jvm.Cond.instanceMethod ({ cls := "TransportPair$Greeting", name := "<init>", desc := "(I)V" } : Jvm.MethodName)) ∈ lw_all := lw_g (lw_at lw_m4 18 rfl) rfl
theorem q985 : (Jvm.Cond.code ({ cls := "TransportPair$Greeting", name := "<init>", desc := "(I)V" } : Jvm.MethodName) prog_10_method_1_code (2 : Nat) (Option.none : Option Jvm.ClassFile.FieldType)) ∈ lw_all := lw_g (lw_at lw_m4 19 rfl) rfl
theorem q986 : (Jvm.Cond.methodLink "TransportPair$Greeting" (3 : Nat) ({ cls := "java/lang/Object", name := "<init>", desc := "()V" } : Jvm.MethodName)) ∈ lw_all := lw_g (lw_at lw_m4 20 rfl) rfl
theorem q987 : (Jvm.Cond.classLink "TransportPair$Greeting" (21 : Nat) "TransportPair$Hash") ∈ lw_all := lw_g (lw_at lw_m4 21 rfl) rfl
theorem q988 : (Jvm.Cond.methodLinkNest "TransportPair$Greeting" (23 : Nat) ({ cls := "TransportPair$Hash", name := "<init>", desc := "()V" } : Jvm.MethodName) "TransportPair") ∈ lw_tbl := lw_at lw_m4 22 rfl
theorem q989 : (Jvm.Cond.classLink "TransportPair$Greeting" (28 : Nat) "TransportPair$Stretch") ∈ lw_all := lw_g (lw_at lw_m4 23 rfl) rfl
theorem q990 : (Jvm.Cond.methodLinkNest "TransportPair$Greeting" (30 : Nat) ({ cls := "TransportPair$Stretch", name := "<init>", desc := "()V" } : Jvm.MethodName) "TransportPair") ∈ lw_tbl := lw_at lw_m4 24 rfl
theorem q991 : (Jvm.Cond.classLink "TransportPair$Greeting" (35 : Nat) "TransportPair$Row") ∈ lw_all := lw_g (lw_at lw_m4 25 rfl) rfl
theorem q992 : (Jvm.Cond.instantiable "TransportPair$Row" (2 : Nat)) ∈ lw_all := lw_g (lw_at lw_m4 26 rfl) rfl
theorem q993 : (Jvm.Cond.methodLinkNest "TransportPair$Greeting" (37 : Nat) ({ cls := "TransportPair$Row", name := "<init>", desc := "()V" } : Jvm.MethodName) "TransportPair") ∈ lw_tbl := lw_at lw_m4 27 rfl
theorem q994 : (Jvm.Cond.instanceMethod ({ cls := "TransportPair$Row", name := "<init>", desc := "()V" } : Jvm.MethodName)) ∈ lw_all := lw_g (lw_at lw_m4 28 rfl) rfl
theorem q995 : (Jvm.Cond.code ({ cls := "TransportPair$Row", name := "<init>", desc := "()V" } : Jvm.MethodName) prog_23_method_1_code (1 : Nat) (Option.none : Option Jvm.ClassFile.FieldType)) ∈ lw_all := lw_g (lw_at lw_m4 29 rfl) rfl
theorem q996 : (Jvm.Cond.methodLink "TransportPair$Row" (3 : Nat) ({ cls := "java/lang/Object", name := "<init>", desc := "()V" } : Jvm.MethodName)) ∈ lw_all := lw_g (lw_at lw_m4 30 rfl) rfl
theorem q997 : (Jvm.Cond.fieldLink "TransportPair$Row" (9 : Nat) "TransportPair$Row" "bytes" "[B") ∈ lw_all := lw_g (lw_at lw_m4 31 rfl) rfl
theorem q998 : (Jvm.Cond.fieldLinkNest "TransportPair$Greeting" (86 : Nat) "TransportPair$Row" "bytes" "[B" "TransportPair") ∈ lw_tbl := lw_at lw_m4 32 rfl
theorem q999 : (Jvm.Cond.fieldLinkNest "TransportPair$Crypto" (51 : Nat) "TransportPair$Row" "bytes" "[B" "TransportPair") ∈ lw_tbl := lw_at lw_m4 33 rfl
theorem q1000 : (Jvm.Cond.fieldLink "TransportPair$Row" (15 : Nat) "TransportPair$Row" "size" "I") ∈ lw_all := lw_g (lw_at lw_m4 34 rfl) rfl
theorem q1001 : (Jvm.Cond.fieldLinkNest "TransportPair$Greeting" (89 : Nat) "TransportPair$Row" "size" "I" "TransportPair") ∈ lw_tbl := lw_at lw_m4 35 rfl
theorem q1002 : (Jvm.Cond.fieldLinkNest "TransportPair$Crypto" (24 : Nat) "TransportPair$Row" "size" "I" "TransportPair") ∈ lw_tbl := lw_at lw_m4 36 rfl
theorem q1008 : (Jvm.Cond.arrayOver (Jvm.ClassFile.FieldType.object "TransportPair$Row")) ∈ lw_tbl := lw_at lw_m4 42 rfl
theorem q1009 : (Jvm.Cond.classLink "TransportPair$Greeting" (49 : Nat) "[[B") ∈ lw_all := lw_g (lw_at lw_m4 43 rfl) rfl
theorem q1010 : (Jvm.Cond.fieldLink "TransportPair$Greeting" (80 : Nat) "TransportPair$Greeting" "side" "I") ∈ lw_all := lw_g (lw_at lw_m4 44 rfl) rfl
theorem q1011 : (Jvm.Cond.fieldLink "TransportPair$Greeting" (9 : Nat) "TransportPair$Greeting" "key" "[B") ∈ lw_all := lw_g (lw_at lw_m4 45 rfl) rfl
theorem q1012 : (Jvm.Cond.fieldLinkNest "TransportPair" (88 : Nat) "TransportPair$Greeting" "key" "[B" "TransportPair") ∈ lw_tbl := lw_at lw_m4 46 rfl
theorem q1013 : (Jvm.Cond.fieldLink "TransportPair$Greeting" (15 : Nat) "TransportPair$Greeting" "random" "[B") ∈ lw_all := lw_g (lw_at lw_m4 47 rfl) rfl
theorem q1014 : (Jvm.Cond.fieldLinkNest "TransportPair$Side" (190 : Nat) "TransportPair$Greeting" "random" "[B" "TransportPair") ∈ lw_tbl := lw_at lw_m4 48 rfl
theorem q1015 : (Jvm.Cond.fieldLinkNest "TransportPair" (93 : Nat) "TransportPair$Greeting" "random" "[B" "TransportPair") ∈ lw_tbl := lw_at lw_m4 49 rfl
theorem q1016 : (Jvm.Cond.fieldLink "TransportPair$Greeting" (18 : Nat) "TransportPair$Greeting" "own" "[B") ∈ lw_all := lw_g (lw_at lw_m4 50 rfl) rfl
theorem q1017 : (Jvm.Cond.fieldLinkNest "TransportPair$Side" (148 : Nat) "TransportPair$Greeting" "own" "[B" "TransportPair") ∈ lw_tbl := lw_at lw_m4 51 rfl
theorem q1018 : (Jvm.Cond.fieldLinkNest "TransportPair$Side" (176 : Nat) "TransportPair$Greeting" "ownSize" "I" "TransportPair") ∈ lw_tbl := lw_at lw_m4 52 rfl
theorem q1019 : (Jvm.Cond.fieldLink "TransportPair$Greeting" (159 : Nat) "TransportPair$Greeting" "ownSize" "I") ∈ lw_all := lw_g (lw_at lw_m4 53 rfl) rfl
theorem q1020 : (Jvm.Cond.fieldLink "TransportPair$Greeting" (24 : Nat) "TransportPair$Greeting" "hash" "LTransportPair$Hash;") ∈ lw_all := lw_g (lw_at lw_m4 54 rfl) rfl
theorem q1021 : (Jvm.Cond.fieldLink "TransportPair$Greeting" (31 : Nat) "TransportPair$Greeting" "stretch" "LTransportPair$Stretch;") ∈ lw_all := lw_g (lw_at lw_m4 55 rfl) rfl
theorem q1022 : (Jvm.Cond.fieldLink "TransportPair$Greeting" (38 : Nat) "TransportPair$Greeting" "told" "LTransportPair$Row;") ∈ lw_all := lw_g (lw_at lw_m4 56 rfl) rfl
theorem q1023 : (Jvm.Cond.fieldLink "TransportPair$Greeting" (42 : Nat) "TransportPair$Greeting" "sent" "[LTransportPair$Row;") ∈ lw_all := lw_g (lw_at lw_m4 57 rfl) rfl
theorem q1024 : (Jvm.Cond.fieldLinkNest "TransportPair$Side" (700 : Nat) "TransportPair$Greeting" "sent" "[LTransportPair$Row;" "TransportPair") ∈ lw_tbl := lw_at lw_m4 58 rfl
theorem q1025 : (Jvm.Cond.fieldLink "TransportPair$Greeting" (46 : Nat) "TransportPair$Greeting" "waiting" "[LTransportPair$Row;") ∈ lw_all := lw_g (lw_at lw_m4 59 rfl) rfl
theorem q1026 : (Jvm.Cond.fieldLink "TransportPair$Greeting" (51 : Nat) "TransportPair$Greeting" "secrets" "[[B") ∈ lw_all := lw_g (lw_at lw_m4 60 rfl) rfl
theorem q1027 : (Jvm.Cond.fieldLinkNest "TransportPair$Side" (202 : Nat) "TransportPair$Greeting" "secrets" "[[B" "TransportPair") ∈ lw_tbl := lw_at lw_m4 61 rfl
theorem q1028 : (Jvm.Cond.fieldLink "TransportPair$Greeting" (54 : Nat) "TransportPair$Greeting" "ready" "[Z") ∈ lw_all := lw_g (lw_at lw_m4 62 rfl) rfl
theorem q1029 : (Jvm.Cond.fieldLinkNest "TransportPair$Side" (199 : Nat) "TransportPair$Greeting" "ready" "[Z" "TransportPair") ∈ lw_tbl := lw_at lw_m4 63 rfl
theorem q1030 : (Jvm.Cond.fieldLinkNest "TransportPair" (259 : Nat) "TransportPair$Greeting" "ready" "[Z" "TransportPair") ∈ lw_tbl := lw_at lw_m4 64 rfl
theorem q1031 : (Jvm.Cond.fieldLink "TransportPair$Greeting" (58 : Nat) "TransportPair$Greeting" "greet" "[B") ∈ lw_all := lw_g (lw_at lw_m4 65 rfl) rfl
theorem q1032 : (Jvm.Cond.fieldLink "TransportPair$Greeting" (61 : Nat) "TransportPair$Greeting" "talk" "[B") ∈ lw_all := lw_g (lw_at lw_m4 66 rfl) rfl
theorem q1033 : (Jvm.Cond.fieldLink "TransportPair$Greeting" (64 : Nat) "TransportPair$Greeting" "digest" "[B") ∈ lw_all := lw_g (lw_at lw_m4 67 rfl) rfl
theorem q1034 : (Jvm.Cond.fieldLink "TransportPair$Greeting" (67 : Nat) "TransportPair$Greeting" "proof" "[B") ∈ lw_all := lw_g (lw_at lw_m4 68 rfl) rfl
theorem q1035 : (Jvm.Cond.fieldLink "TransportPair$Greeting" (70 : Nat) "TransportPair$Greeting" "none" "[B") ∈ lw_all := lw_g (lw_at lw_m4 69 rfl) rfl
theorem q1036 : (Jvm.Cond.fieldLink "TransportPair$Greeting" (73 : Nat) "TransportPair$Greeting" "theirs" "[B") ∈ lw_all := lw_g (lw_at lw_m4 70 rfl) rfl
theorem q1037 : (Jvm.Cond.fieldLinkNest "TransportPair$Side" (263 : Nat) "TransportPair$Greeting" "theirs" "[B" "TransportPair") ∈ lw_tbl := lw_at lw_m4 71 rfl
theorem q1038 : (Jvm.Cond.fieldLink "TransportPair$Greeting" (76 : Nat) "TransportPair$Greeting" "theirSize" "I") ∈ lw_all := lw_g (lw_at lw_m4 72 rfl) rfl
theorem q1039 : (Jvm.Cond.fieldLinkNest "TransportPair$Side" (247 : Nat) "TransportPair$Greeting" "theirSize" "I" "TransportPair") ∈ lw_tbl := lw_at lw_m4 73 rfl
theorem q1040 : (Jvm.Cond.fieldLinkNest "TransportPair$Side" (237 : Nat) "TransportPair$Greeting" "fault" "I" "TransportPair") ∈ lw_tbl := lw_at lw_m4 74 rfl
theorem q1041 : (Jvm.Cond.fieldLink "TransportPair$Greeting" (171 : Nat) "TransportPair$Greeting" "fault" "I") ∈ lw_all := lw_g (lw_at lw_m4 75 rfl) rfl
theorem q1042 : (Jvm.Cond.fieldLink "TransportPair$Greeting" (156 : Nat) "TransportPair$Greeting" "waits" "I") ∈ lw_all := lw_g (lw_at lw_m4 76 rfl) rfl
theorem q1043 : (Jvm.Cond.fieldLinkNest "TransportPair" (256 : Nat) "TransportPair$Greeting" "waits" "I" "TransportPair") ∈ lw_tbl := lw_at lw_m4 77 rfl
theorem q1044 : (Jvm.Cond.fieldLink "TransportPair$Greeting" (152 : Nat) "TransportPair$Greeting" "begun" "Z") ∈ lw_all := lw_g (lw_at lw_m4 78 rfl) rfl
theorem q1045 : (Jvm.Cond.fieldLinkNest "TransportPair$Side" (254 : Nat) "TransportPair$Greeting" "finished" "Z" "TransportPair") ∈ lw_tbl := lw_at lw_m4 79 rfl
theorem q1046 : (Jvm.Cond.fieldLink "TransportPair$Greeting" (212 : Nat) "TransportPair$Greeting" "finished" "Z") ∈ lw_all := lw_g (lw_at lw_m4 80 rfl) rfl
theorem q1094 : (Jvm.Cond.classLink "TransportPair$Side" (131 : Nat) "TransportPair$Hall") ∈ lw_all := lw_g (lw_at lw_m4 128 rfl) rfl
theorem q1095 : (Jvm.Cond.instantiable "TransportPair$Hall" (23 : Nat)) ∈ lw_all := lw_g (lw_at lw_m4 129 rfl) rfl
theorem q1096 : (Jvm.Cond.methodLink "TransportPair$Side" (133 : Nat) ({ cls := "TransportPair$Hall", name := "<init>", desc := "(I)V" } : Jvm.MethodName)) ∈ lw_all := lw_g (lw_at lw_m4 130 rfl) rfl
theorem q1097 : (Jvm.Cond.instanceMethod ({ cls := "TransportPair$Hall", name := "<init>", desc := "(I)V" } : Jvm.MethodName)) ∈ lw_all := lw_g (lw_at lw_m4 131 rfl) rfl
theorem q1098 : (Jvm.Cond.code ({ cls := "TransportPair$Hall", name := "<init>", desc := "(I)V" } : Jvm.MethodName) prog_12_method_1_code (2 : Nat) (Option.none : Option Jvm.ClassFile.FieldType)) ∈ lw_all := lw_g (lw_at lw_m4 132 rfl) rfl
theorem q1099 : (Jvm.Cond.methodLink "TransportPair$Hall" (3 : Nat) ({ cls := "java/lang/Object", name := "<init>", desc := "()V" } : Jvm.MethodName)) ∈ lw_all := lw_g (lw_at lw_m4 133 rfl) rfl
theorem q1100 : (Jvm.Cond.classLink "TransportPair$Hall" (9 : Nat) "TransportPair$Sending") ∈ lw_all := lw_g (lw_at lw_m4 134 rfl) rfl
theorem q1101 : (Jvm.Cond.arrayOver (Jvm.ClassFile.FieldType.object "TransportPair$Sending")) ∈ lw_tbl := lw_at lw_m4 135 rfl
theorem q1102 : (Jvm.Cond.classLink "TransportPair$Hall" (17 : Nat) "TransportPair$Receiving") ∈ lw_all := lw_g (lw_at lw_m4 136 rfl) rfl
theorem q1103 : (Jvm.Cond.arrayOver (Jvm.ClassFile.FieldType.object "TransportPair$Receiving")) ∈ lw_tbl := lw_at lw_m4 137 rfl
theorem q1104 : (Jvm.Cond.classLink "TransportPair$Hall" (23 : Nat) "TransportPair$Way") ∈ lw_all := lw_g (lw_at lw_m4 138 rfl) rfl
theorem q1105 : (Jvm.Cond.arrayOver (Jvm.ClassFile.FieldType.object "TransportPair$Way")) ∈ lw_tbl := lw_at lw_m4 139 rfl
theorem q1106 : (Jvm.Cond.instantiable "TransportPair$Way" (7 : Nat)) ∈ lw_all := lw_g (lw_at lw_m4 140 rfl) rfl
theorem q1107 : (Jvm.Cond.methodLinkNest "TransportPair$Hall" (25 : Nat) ({ cls := "TransportPair$Way", name := "<init>", desc := "()V" } : Jvm.MethodName) "TransportPair") ∈ lw_tbl := lw_at lw_m4 141 rfl
theorem q1108 : (Jvm.Cond.instanceMethod ({ cls := "TransportPair$Way", name := "<init>", desc := "()V" } : Jvm.MethodName)) ∈ lw_all := lw_g (lw_at lw_m4 142 rfl) rfl
theorem q1109 : (Jvm.Cond.code ({ cls := "TransportPair$Way", name := "<init>", desc := "()V" } : Jvm.MethodName) prog_32_method_1_code (1 : Nat) (Option.none : Option Jvm.ClassFile.FieldType)) ∈ lw_all := lw_g (lw_at lw_m4 143 rfl) rfl
theorem q1110 : (Jvm.Cond.methodLink "TransportPair$Way" (3 : Nat) ({ cls := "java/lang/Object", name := "<init>", desc := "()V" } : Jvm.MethodName)) ∈ lw_all := lw_g (lw_at lw_m4 144 rfl) rfl
theorem q1111 : (Jvm.Cond.constantLong "TransportPair$Way" (9 : Nat) (-1 : Int64)) ∈ lw_all := lw_g (lw_at lw_m4 145 rfl) rfl
theorem q1112 : (Jvm.Cond.fieldLinkNest "TransportPair$Hall" (115 : Nat) "TransportPair$Way" "opened" "I" "TransportPair") ∈ lw_tbl := lw_at lw_m4 146 rfl
theorem q1113 : (Jvm.Cond.fieldLinkNest "TransportPair$Hall" (128 : Nat) "TransportPair$Way" "there" "I" "TransportPair") ∈ lw_tbl := lw_at lw_m4 147 rfl
theorem q1114 : (Jvm.Cond.fieldLinkNest "TransportPair$Hall" (79 : Nat) "TransportPair$Way" "granted" "I" "TransportPair") ∈ lw_tbl := lw_at lw_m4 148 rfl
theorem q1115 : (Jvm.Cond.fieldLinkNest "TransportPair$Hall" (93 : Nat) "TransportPair$Way" "limit" "J" "TransportPair") ∈ lw_tbl := lw_at lw_m4 149 rfl
theorem q1116 : (Jvm.Cond.fieldLink "TransportPair$Way" (11 : Nat) "TransportPair$Way" "refusedAt" "J") ∈ lw_all := lw_g (lw_at lw_m4 150 rfl) rfl
theorem q1117 : (Jvm.Cond.fieldLinkNest "TransportPair$Hall" (118 : Nat) "TransportPair$Way" "refusedAt" "J" "TransportPair") ∈ lw_tbl := lw_at lw_m4 151 rfl
theorem q1118 : (Jvm.Cond.fieldLink "TransportPair$Way" (17 : Nat) "TransportPair$Way" "toldAt" "J") ∈ lw_all := lw_g (lw_at lw_m4 152 rfl) rfl
theorem q1119 : (Jvm.Cond.fieldLinkNest "TransportPair$Hall" (318 : Nat) "TransportPair$Way" "toldAt" "J" "TransportPair") ∈ lw_tbl := lw_at lw_m4 153 rfl
theorem q1120 : (Jvm.Cond.fieldLinkNest "TransportPair$Hall" (135 : Nat) "TransportPair$Way" "tells" "Z" "TransportPair") ∈ lw_tbl := lw_at lw_m4 154 rfl
theorem q1136 : (Jvm.Cond.classLink "TransportPair$Hall" (38 : Nat) "TransportPair$Spans") ∈ lw_all := lw_g (lw_at lw_m4 170 rfl) rfl
theorem q1137 : (Jvm.Cond.instantiable "TransportPair$Spans" (5 : Nat)) ∈ lw_all := lw_g (lw_at lw_m4 171 rfl) rfl
theorem q1138 : (Jvm.Cond.methodLinkNest "TransportPair$Hall" (40 : Nat) ({ cls := "TransportPair$Spans", name := "<init>", desc := "()V" } : Jvm.MethodName) "TransportPair") ∈ lw_tbl := lw_at lw_m4 172 rfl
theorem q1139 : (Jvm.Cond.instanceMethod ({ cls := "TransportPair$Spans", name := "<init>", desc := "()V" } : Jvm.MethodName)) ∈ lw_all := lw_g (lw_at lw_m4 173 rfl) rfl
theorem q1140 : (Jvm.Cond.code ({ cls := "TransportPair$Spans", name := "<init>", desc := "()V" } : Jvm.MethodName) prog_27_method_1_code (1 : Nat) (Option.none : Option Jvm.ClassFile.FieldType)) ∈ lw_all := lw_g (lw_at lw_m4 174 rfl) rfl
theorem q1141 : (Jvm.Cond.methodLink "TransportPair$Spans" (3 : Nat) ({ cls := "java/lang/Object", name := "<init>", desc := "()V" } : Jvm.MethodName)) ∈ lw_all := lw_g (lw_at lw_m4 175 rfl) rfl
theorem q1142 : (Jvm.Cond.fieldLink "TransportPair$Spans" (9 : Nat) "TransportPair$Spans" "from" "[I") ∈ lw_all := lw_g (lw_at lw_m4 176 rfl) rfl
theorem q1143 : (Jvm.Cond.fieldLinkNest "TransportPair$Hall" (328 : Nat) "TransportPair$Spans" "from" "[I" "TransportPair") ∈ lw_tbl := lw_at lw_m4 177 rfl
theorem q1144 : (Jvm.Cond.fieldLink "TransportPair$Spans" (15 : Nat) "TransportPair$Spans" "to" "[I") ∈ lw_all := lw_g (lw_at lw_m4 178 rfl) rfl
theorem q1145 : (Jvm.Cond.fieldLinkNest "TransportPair$Hall" (331 : Nat) "TransportPair$Spans" "to" "[I" "TransportPair") ∈ lw_tbl := lw_at lw_m4 179 rfl
theorem q1146 : (Jvm.Cond.fieldLink "TransportPair$Spans" (18 : Nat) "TransportPair$Spans" "next" "[I") ∈ lw_all := lw_g (lw_at lw_m4 180 rfl) rfl
theorem q1147 : (Jvm.Cond.fieldLinkNest "TransportPair$Hall" (361 : Nat) "TransportPair$Spans" "next" "[I" "TransportPair") ∈ lw_tbl := lw_at lw_m4 181 rfl
theorem q1148 : (Jvm.Cond.fieldLink "TransportPair$Spans" (25 : Nat) "TransportPair$Spans" "made" "I") ∈ lw_all := lw_g (lw_at lw_m4 182 rfl) rfl
theorem q1149 : (Jvm.Cond.fieldLink "TransportPair$Spans" (21 : Nat) "TransportPair$Spans" "free" "I") ∈ lw_all := lw_g (lw_at lw_m4 183 rfl) rfl
theorem q1161 : (Jvm.Cond.classLink "TransportPair$Hall" (45 : Nat) "TransportPair$Store") ∈ lw_all := lw_g (lw_at lw_m4 195 rfl) rfl
theorem q1162 : (Jvm.Cond.instantiable "TransportPair$Store" (6 : Nat)) ∈ lw_all := lw_g (lw_at lw_m4 196 rfl) rfl
theorem q1163 : (Jvm.Cond.methodLinkNest "TransportPair$Hall" (47 : Nat) ({ cls := "TransportPair$Store", name := "<init>", desc := "()V" } : Jvm.MethodName) "TransportPair") ∈ lw_tbl := lw_at lw_m4 197 rfl
theorem q1164 : (Jvm.Cond.instanceMethod ({ cls := "TransportPair$Store", name := "<init>", desc := "()V" } : Jvm.MethodName)) ∈ lw_all := lw_g (lw_at lw_m4 198 rfl) rfl
theorem q1165 : (Jvm.Cond.code ({ cls := "TransportPair$Store", name := "<init>", desc := "()V" } : Jvm.MethodName) prog_28_method_1_code (1 : Nat) (Option.none : Option Jvm.ClassFile.FieldType)) ∈ lw_all := lw_g (lw_at lw_m4 199 rfl) rfl
theorem q1166 : (Jvm.Cond.methodLink "TransportPair$Store" (3 : Nat) ({ cls := "java/lang/Object", name := "<init>", desc := "()V" } : Jvm.MethodName)) ∈ lw_all := lw_g (lw_at lw_m4 200 rfl) rfl
theorem q1167 : (Jvm.Cond.constant "TransportPair$Store" (9 : Nat) (65536 : Int32)) ∈ lw_all := lw_g (lw_at lw_m4 201 rfl) rfl
theorem q1168 : (Jvm.Cond.fieldLink "TransportPair$Store" (10 : Nat) "TransportPair$Store" "bytes" "[B") ∈ lw_all := lw_g (lw_at lw_m4 202 rfl) rfl
theorem q1169 : (Jvm.Cond.fieldLink "TransportPair$Store" (36 : Nat) "TransportPair$Store" "used" "I") ∈ lw_all := lw_g (lw_at lw_m4 203 rfl) rfl
theorem q1170 : (Jvm.Cond.fieldLinkNest "TransportPair$Hall" (364 : Nat) "TransportPair$Store" "used" "I" "TransportPair") ∈ lw_tbl := lw_at lw_m4 204 rfl
theorem q1171 : (Jvm.Cond.fieldLink "TransportPair$Store" (16 : Nat) "TransportPair$Store" "at" "[I") ∈ lw_all := lw_g (lw_at lw_m4 205 rfl) rfl
theorem q1172 : (Jvm.Cond.fieldLink "TransportPair$Store" (20 : Nat) "TransportPair$Store" "size" "[I") ∈ lw_all := lw_g (lw_at lw_m4 206 rfl) rfl
theorem q1173 : (Jvm.Cond.fieldLink "TransportPair$Store" (23 : Nat) "TransportPair$Store" "next" "[I") ∈ lw_all := lw_g (lw_at lw_m4 207 rfl) rfl
theorem q1174 : (Jvm.Cond.fieldLink "TransportPair$Store" (26 : Nat) "TransportPair$Store" "pieces" "I") ∈ lw_all := lw_g (lw_at lw_m4 208 rfl) rfl
theorem q1188 : (Jvm.Cond.classLink "TransportPair$Hall" (52 : Nat) "TransportPair$Blocks") ∈ lw_all := lw_g (lw_at lw_m4 222 rfl) rfl
theorem q1189 : (Jvm.Cond.instantiable "TransportPair$Blocks" (6 : Nat)) ∈ lw_all := lw_g (lw_at lw_m4 223 rfl) rfl
theorem q1190 : (Jvm.Cond.methodLinkNest "TransportPair$Hall" (54 : Nat) ({ cls := "TransportPair$Blocks", name := "<init>", desc := "()V" } : Jvm.MethodName) "TransportPair") ∈ lw_tbl := lw_at lw_m4 224 rfl
theorem q1191 : (Jvm.Cond.instanceMethod ({ cls := "TransportPair$Blocks", name := "<init>", desc := "()V" } : Jvm.MethodName)) ∈ lw_all := lw_g (lw_at lw_m4 225 rfl) rfl
theorem q1192 : (Jvm.Cond.code ({ cls := "TransportPair$Blocks", name := "<init>", desc := "()V" } : Jvm.MethodName) prog_3_method_1_code (1 : Nat) (Option.none : Option Jvm.ClassFile.FieldType)) ∈ lw_all := lw_g (lw_at lw_m4 226 rfl) rfl
theorem q1193 : (Jvm.Cond.methodLink "TransportPair$Blocks" (3 : Nat) ({ cls := "java/lang/Object", name := "<init>", desc := "()V" } : Jvm.MethodName)) ∈ lw_all := lw_g (lw_at lw_m4 227 rfl) rfl
theorem q1194 : (Jvm.Cond.fieldLink "TransportPair$Blocks" (9 : Nat) "TransportPair$Blocks" "bytes" "[B") ∈ lw_all := lw_g (lw_at lw_m4 228 rfl) rfl
theorem q1195 : (Jvm.Cond.fieldLink "TransportPair$Blocks" (15 : Nat) "TransportPair$Blocks" "marks" "[J") ∈ lw_all := lw_g (lw_at lw_m4 229 rfl) rfl
theorem q1196 : (Jvm.Cond.fieldLink "TransportPair$Blocks" (19 : Nat) "TransportPair$Blocks" "index" "[I") ∈ lw_all := lw_g (lw_at lw_m4 230 rfl) rfl
theorem q1197 : (Jvm.Cond.fieldLink "TransportPair$Blocks" (23 : Nat) "TransportPair$Blocks" "next" "[I") ∈ lw_all := lw_g (lw_at lw_m4 231 rfl) rfl
theorem q1198 : (Jvm.Cond.fieldLink "TransportPair$Blocks" (30 : Nat) "TransportPair$Blocks" "made" "I") ∈ lw_all := lw_g (lw_at lw_m4 232 rfl) rfl
theorem q1199 : (Jvm.Cond.fieldLink "TransportPair$Blocks" (26 : Nat) "TransportPair$Blocks" "free" "I") ∈ lw_all := lw_g (lw_at lw_m4 233 rfl) rfl
theorem q1213 : (Jvm.Cond.constantLong "TransportPair$Hall" (59 : Nat) (-1 : Int64)) ∈ lw_all := lw_g (lw_at lw_m5 7 rfl) rfl
theorem q1214 : (Jvm.Cond.fieldLink "TransportPair$Hall" (73 : Nat) "TransportPair$Hall" "side" "I") ∈ lw_all := lw_g (lw_at lw_m5 8 rfl) rfl
theorem q1215 : (Jvm.Cond.fieldLink "TransportPair$Hall" (11 : Nat) "TransportPair$Hall" "sendings" "[LTransportPair$Sending;") ∈ lw_all := lw_g (lw_at lw_m5 9 rfl) rfl
theorem q1216 : (Jvm.Cond.fieldLink "TransportPair$Hall" (19 : Nat) "TransportPair$Hall" "receivings" "[LTransportPair$Receiving;") ∈ lw_all := lw_g (lw_at lw_m5 10 rfl) rfl
theorem q1217 : (Jvm.Cond.fieldLink "TransportPair$Hall" (26 : Nat) "TransportPair$Hall" "ways" "[LTransportPair$Way;") ∈ lw_all := lw_g (lw_at lw_m5 11 rfl) rfl
theorem q1218 : (Jvm.Cond.fieldLink "TransportPair$Hall" (30 : Nat) "TransportPair$Hall" "grants" "[I") ∈ lw_all := lw_g (lw_at lw_m5 12 rfl) rfl
theorem q1219 : (Jvm.Cond.fieldLink "TransportPair$Hall" (34 : Nat) "TransportPair$Hall" "limits" "[J") ∈ lw_all := lw_g (lw_at lw_m5 13 rfl) rfl
theorem q1220 : (Jvm.Cond.fieldLink "TransportPair$Hall" (41 : Nat) "TransportPair$Hall" "spans" "LTransportPair$Spans;") ∈ lw_all := lw_g (lw_at lw_m5 14 rfl) rfl
theorem q1221 : (Jvm.Cond.fieldLink "TransportPair$Hall" (48 : Nat) "TransportPair$Hall" "store" "LTransportPair$Store;") ∈ lw_all := lw_g (lw_at lw_m5 15 rfl) rfl
theorem q1222 : (Jvm.Cond.fieldLink "TransportPair$Hall" (55 : Nat) "TransportPair$Hall" "blocks" "LTransportPair$Blocks;") ∈ lw_all := lw_g (lw_at lw_m5 16 rfl) rfl
theorem q1223 : (Jvm.Cond.fieldLink "TransportPair$Hall" (82 : Nat) "TransportPair$Hall" "limitAll" "J") ∈ lw_all := lw_g (lw_at lw_m5 17 rfl) rfl
theorem q1224 : (Jvm.Cond.fieldLink "TransportPair$Hall" (61 : Nat) "TransportPair$Hall" "blockedAt" "J") ∈ lw_all := lw_g (lw_at lw_m5 18 rfl) rfl
theorem q1225 : (Jvm.Cond.fieldLink "TransportPair$Hall" (310 : Nat) "TransportPair$Hall" "sentAll" "I") ∈ lw_all := lw_g (lw_at lw_m5 19 rfl) rfl
theorem q1226 : (Jvm.Cond.fieldLink "TransportPair$Hall" (226 : Nat) "TransportPair$Hall" "receivedAll" "I") ∈ lw_all := lw_g (lw_at lw_m5 20 rfl) rfl
theorem q1227 : (Jvm.Cond.fieldLink "TransportPair$Hall" (191 : Nat) "TransportPair$Hall" "consumedAll" "I") ∈ lw_all := lw_g (lw_at lw_m5 21 rfl) rfl
theorem q1228 : (Jvm.Cond.fieldLink "TransportPair$Hall" (76 : Nat) "TransportPair$Hall" "grantAll" "I") ∈ lw_all := lw_g (lw_at lw_m5 22 rfl) rfl
theorem q1229 : (Jvm.Cond.fieldLink "TransportPair$Hall" (65 : Nat) "TransportPair$Hall" "lastStream" "I") ∈ lw_all := lw_g (lw_at lw_m5 23 rfl) rfl
theorem q1230 : (Jvm.Cond.fieldLink "TransportPair$Hall" (208 : Nat) "TransportPair$Hall" "tellsAll" "Z") ∈ lw_all := lw_g (lw_at lw_m5 24 rfl) rfl
theorem q1231 : (Jvm.Cond.fieldLink "TransportPair$Hall" (271 : Nat) "TransportPair$Hall" "kind" "I") ∈ lw_all := lw_g (lw_at lw_m5 25 rfl) rfl
theorem q1232 : (Jvm.Cond.fieldLinkNest "TransportPair$Side" (710 : Nat) "TransportPair$Hall" "kind" "I" "TransportPair") ∈ lw_tbl := lw_at lw_m5 26 rfl
theorem q1233 : (Jvm.Cond.fieldLink "TransportPair$Hall" (283 : Nat) "TransportPair$Hall" "size" "I") ∈ lw_all := lw_g (lw_at lw_m5 27 rfl) rfl
theorem q1234 : (Jvm.Cond.fieldLinkNest "TransportPair$Side" (718 : Nat) "TransportPair$Hall" "size" "I" "TransportPair") ∈ lw_tbl := lw_at lw_m5 28 rfl
theorem q1235 : (Jvm.Cond.fieldLink "TransportPair$Hall" (274 : Nat) "TransportPair$Hall" "a" "J") ∈ lw_all := lw_g (lw_at lw_m5 29 rfl) rfl
theorem q1236 : (Jvm.Cond.fieldLinkNest "TransportPair$Side" (711 : Nat) "TransportPair$Hall" "a" "J" "TransportPair") ∈ lw_tbl := lw_at lw_m5 30 rfl
theorem q1237 : (Jvm.Cond.fieldLink "TransportPair$Hall" (277 : Nat) "TransportPair$Hall" "b" "J") ∈ lw_all := lw_g (lw_at lw_m5 31 rfl) rfl
theorem q1238 : (Jvm.Cond.fieldLinkNest "TransportPair$Side" (712 : Nat) "TransportPair$Hall" "b" "J" "TransportPair") ∈ lw_tbl := lw_at lw_m5 32 rfl
theorem q1239 : (Jvm.Cond.fieldLink "TransportPair$Hall" (280 : Nat) "TransportPair$Hall" "c" "J") ∈ lw_all := lw_g (lw_at lw_m5 33 rfl) rfl
theorem q1240 : (Jvm.Cond.fieldLinkNest "TransportPair$Side" (713 : Nat) "TransportPair$Hall" "c" "J" "TransportPair") ∈ lw_tbl := lw_at lw_m5 34 rfl
theorem q1241 : (Jvm.Cond.fieldLink "TransportPair$Hall" (69 : Nat) "TransportPair$Hall" "row" "[B") ∈ lw_all := lw_g (lw_at lw_m5 35 rfl) rfl
theorem q1242 : (Jvm.Cond.fieldLinkNest "TransportPair$Side" (717 : Nat) "TransportPair$Hall" "row" "[B" "TransportPair") ∈ lw_tbl := lw_at lw_m5 36 rfl
theorem q1290 : (Jvm.Cond.constant "TransportPair$Side" (138 : Nat) (65536 : Int32)) ∈ lw_all := lw_g (lw_at lw_m5 84 rfl) rfl
theorem q1291 : (Jvm.Cond.methodLink "TransportPair$Side" (139 : Nat) ({ cls := "TransportPair$Side", name := "grants", desc := "()V" } : Jvm.MethodName)) ∈ lw_all := lw_g (lw_at lw_m5 85 rfl) rfl
theorem q1292 : (Jvm.Cond.instanceMethod ({ cls := "TransportPair$Side", name := "grants", desc := "()V" } : Jvm.MethodName)) ∈ lw_all := lw_g (lw_at lw_m5 86 rfl) rfl
theorem q1293 : (Jvm.Cond.selects "TransportPair$Side" ({ cls := "TransportPair$Side", name := "grants", desc := "()V" } : Jvm.MethodName) ({ cls := "TransportPair$Side", name := "grants", desc := "()V" } : Jvm.MethodName)) ∈ lw_all := lw_g (lw_at lw_m5 87 rfl) rfl
theorem q1294 : (Jvm.Cond.code ({ cls := "TransportPair$Side", name := "grants", desc := "()V" } : Jvm.MethodName) prog_25_method_2_code (1 : Nat) (Option.none : Option Jvm.ClassFile.FieldType)) ∈ lw_all := lw_g (lw_at lw_m5 88 rfl) rfl
theorem q1295 : (Jvm.Cond.methodLink "TransportPair$Side" (142 : Nat) ({ cls := "TransportPair$Hall", name := "grants", desc := "(IIIIII)V" } : Jvm.MethodName)) ∈ lw_all := lw_g (lw_at lw_m5 89 rfl) rfl
theorem q1296 : (Jvm.Cond.instanceMethod ({ cls := "TransportPair$Hall", name := "grants", desc := "(IIIIII)V" } : Jvm.MethodName)) ∈ lw_all := lw_g (lw_at lw_m5 90 rfl) rfl
theorem q1297 : (Jvm.Cond.selects "TransportPair$Hall" ({ cls := "TransportPair$Hall", name := "grants", desc := "(IIIIII)V" } : Jvm.MethodName) ({ cls := "TransportPair$Hall", name := "grants", desc := "(IIIIII)V" } : Jvm.MethodName)) ∈ lw_all := lw_g (lw_at lw_m5 91 rfl) rfl
theorem q1298 : (Jvm.Cond.code ({ cls := "TransportPair$Hall", name := "grants", desc := "(IIIIII)V" } : Jvm.MethodName) prog_12_method_2_code (7 : Nat) (Option.none : Option Jvm.ClassFile.FieldType)) ∈ lw_all := lw_g (lw_at lw_m5 92 rfl) rfl
theorem q1299 : (Jvm.Cond.fieldLink "TransportPair$Side" (118 : Nat) "TransportPair$Side" "side" "I") ∈ lw_all := lw_g (lw_at lw_m5 93 rfl) rfl
theorem q1300 : (Jvm.Cond.fieldLink "TransportPair$Side" (145 : Nat) "TransportPair$Side" "state" "I") ∈ lw_all := lw_g (lw_at lw_m5 94 rfl) rfl
theorem q1301 : (Jvm.Cond.fieldLinkNest "TransportPair" (81 : Nat) "TransportPair$Side" "state" "I" "TransportPair") ∈ lw_tbl := lw_at lw_m5 95 rfl
theorem q1302 : (Jvm.Cond.fieldLink "TransportPair$Side" (304 : Nat) "TransportPair$Side" "reason" "I") ∈ lw_all := lw_g (lw_at lw_m5 96 rfl) rfl
theorem q1303 : (Jvm.Cond.fieldLinkNest "TransportPair" (240 : Nat) "TransportPair$Side" "reason" "I" "TransportPair") ∈ lw_tbl := lw_at lw_m5 97 rfl
theorem q1304 : (Jvm.Cond.fieldLink "TransportPair$Side" (12 : Nat) "TransportPair$Side" "bench" "LTransportPair$Bench;") ∈ lw_all := lw_g (lw_at lw_m5 98 rfl) rfl
theorem q1305 : (Jvm.Cond.fieldLink "TransportPair$Side" (21 : Nat) "TransportPair$Side" "seals" "[LTransportPair$Guard;") ∈ lw_all := lw_g (lw_at lw_m5 99 rfl) rfl
theorem q1306 : (Jvm.Cond.fieldLink "TransportPair$Side" (25 : Nat) "TransportPair$Side" "opens" "[LTransportPair$Guard;") ∈ lw_all := lw_g (lw_at lw_m5 100 rfl) rfl
theorem q1307 : (Jvm.Cond.fieldLink "TransportPair$Side" (28 : Nat) "TransportPair$Side" "armed" "[Z") ∈ lw_all := lw_g (lw_at lw_m5 101 rfl) rfl
theorem q1308 : (Jvm.Cond.fieldLinkNest "TransportPair" (286 : Nat) "TransportPair$Side" "armed" "[Z" "TransportPair") ∈ lw_tbl := lw_at lw_m5 102 rfl
theorem q1309 : (Jvm.Cond.fieldLink "TransportPair$Side" (127 : Nat) "TransportPair$Side" "greeting" "LTransportPair$Greeting;") ∈ lw_all := lw_g (lw_at lw_m5 103 rfl) rfl
theorem q1310 : (Jvm.Cond.fieldLinkNest "TransportPair" (84 : Nat) "TransportPair$Side" "greeting" "LTransportPair$Greeting;" "TransportPair") ∈ lw_tbl := lw_at lw_m5 104 rfl
theorem q1311 : (Jvm.Cond.fieldLink "TransportPair$Side" (35 : Nat) "TransportPair$Side" "crypto" "[LTransportPair$Crypto;") ∈ lw_all := lw_g (lw_at lw_m5 105 rfl) rfl
theorem q1312 : (Jvm.Cond.fieldLink "TransportPair$Side" (42 : Nat) "TransportPair$Side" "book" "LTransportPair$Book;") ∈ lw_all := lw_g (lw_at lw_m5 106 rfl) rfl
theorem q1313 : (Jvm.Cond.fieldLinkNest "TransportPair" (243 : Nat) "TransportPair$Side" "book" "LTransportPair$Book;" "TransportPair") ∈ lw_tbl := lw_at lw_m5 107 rfl
theorem q1314 : (Jvm.Cond.fieldLink "TransportPair$Side" (49 : Nat) "TransportPair$Side" "cargo" "[LTransportPair$Cargo;") ∈ lw_all := lw_g (lw_at lw_m5 108 rfl) rfl
theorem q1315 : (Jvm.Cond.fieldLinkNest "TransportPair" (271 : Nat) "TransportPair$Side" "cargo" "[LTransportPair$Cargo;" "TransportPair") ∈ lw_tbl := lw_at lw_m5 109 rfl
theorem q1316 : (Jvm.Cond.fieldLink "TransportPair$Side" (134 : Nat) "TransportPair$Side" "hall" "LTransportPair$Hall;") ∈ lw_all := lw_g (lw_at lw_m5 110 rfl) rfl
theorem q1317 : (Jvm.Cond.fieldLinkNest "TransportPair" (128 : Nat) "TransportPair$Side" "hall" "LTransportPair$Hall;" "TransportPair") ∈ lw_tbl := lw_at lw_m5 111 rfl
theorem q1318 : (Jvm.Cond.fieldLink "TransportPair$Side" (53 : Nat) "TransportPair$Side" "names" "[B") ∈ lw_all := lw_g (lw_at lw_m5 112 rfl) rfl
theorem q1319 : (Jvm.Cond.fieldLink "TransportPair$Side" (433 : Nat) "TransportPair$Side" "named" "Z") ∈ lw_all := lw_g (lw_at lw_m5 113 rfl) rfl
theorem q1320 : (Jvm.Cond.fieldLink "TransportPair$Side" (439 : Nat) "TransportPair$Side" "validated" "Z") ∈ lw_all := lw_g (lw_at lw_m5 114 rfl) rfl
theorem q1321 : (Jvm.Cond.fieldLinkNest "TransportPair" (253 : Nat) "TransportPair$Side" "validated" "Z" "TransportPair") ∈ lw_tbl := lw_at lw_m5 115 rfl
theorem q1322 : (Jvm.Cond.fieldLink "TransportPair$Side" (257 : Nat) "TransportPair$Side" "doneDue" "Z") ∈ lw_all := lw_g (lw_at lw_m5 116 rfl) rfl
theorem q1323 : (Jvm.Cond.fieldLink "TransportPair$Side" (558 : Nat) "TransportPair$Side" "doneArrived" "Z") ∈ lw_all := lw_g (lw_at lw_m5 117 rfl) rfl
theorem q1324 : (Jvm.Cond.fieldLink "TransportPair$Side" (459 : Nat) "TransportPair$Side" "answerDue" "Z") ∈ lw_all := lw_g (lw_at lw_m5 118 rfl) rfl
theorem q1325 : (Jvm.Cond.fieldLink "TransportPair$Side" (313 : Nat) "TransportPair$Side" "closeDue" "Z") ∈ lw_all := lw_g (lw_at lw_m5 119 rfl) rfl
theorem q1326 : (Jvm.Cond.fieldLink "TransportPair$Side" (462 : Nat) "TransportPair$Side" "answer" "J") ∈ lw_all := lw_g (lw_at lw_m5 120 rfl) rfl
theorem q1327 : (Jvm.Cond.fieldLink "TransportPair$Side" (342 : Nat) "TransportPair$Side" "came" "I") ∈ lw_all := lw_g (lw_at lw_m5 121 rfl) rfl
theorem q1328 : (Jvm.Cond.fieldLinkNest "TransportPair" (262 : Nat) "TransportPair$Side" "came" "I" "TransportPair") ∈ lw_tbl := lw_at lw_m5 122 rfl
theorem q1329 : (Jvm.Cond.fieldLink "TransportPair$Side" (605 : Nat) "TransportPair$Side" "went" "I") ∈ lw_all := lw_g (lw_at lw_m5 123 rfl) rfl
theorem q1330 : (Jvm.Cond.fieldLinkNest "TransportPair" (265 : Nat) "TransportPair$Side" "went" "I" "TransportPair") ∈ lw_tbl := lw_at lw_m5 124 rfl
theorem q1331 : (Jvm.Cond.fieldLink "TransportPair$Side" (319 : Nat) "TransportPair$Side" "closeAt" "I") ∈ lw_all := lw_g (lw_at lw_m5 125 rfl) rfl
theorem q1332 : (Jvm.Cond.fieldLink "TransportPair$Side" (310 : Nat) "TransportPair$Side" "closeCode" "I") ∈ lw_all := lw_g (lw_at lw_m5 126 rfl) rfl
theorem q1333 : (Jvm.Cond.fieldLink "TransportPair$Side" (307 : Nat) "TransportPair$Side" "closeKind" "I") ∈ lw_all := lw_g (lw_at lw_m5 127 rfl) rfl
theorem q1334 : (Jvm.Cond.fieldLink "TransportPair$Side" (345 : Nat) "TransportPair$Side" "closing" "I") ∈ lw_all := lw_g (lw_at lw_m5 128 rfl) rfl
theorem q1335 : (Jvm.Cond.fieldLink "TransportPair$Side" (225 : Nat) "TransportPair$Side" "quietSince" "I") ∈ lw_all := lw_g (lw_at lw_m5 129 rfl) rfl
theorem q1336 : (Jvm.Cond.fieldLink "TransportPair$Side" (244 : Nat) "TransportPair$Side" "told" "I") ∈ lw_all := lw_g (lw_at lw_m5 130 rfl) rfl
theorem q1337 : (Jvm.Cond.fieldLink "TransportPair$Side" (361 : Nat) "TransportPair$Side" "firstSize" "I") ∈ lw_all := lw_g (lw_at lw_m5 131 rfl) rfl
theorem q1338 : (Jvm.Cond.fieldLink "TransportPair$Side" (430 : Nat) "TransportPair$Side" "framesAt" "I") ∈ lw_all := lw_g (lw_at lw_m5 132 rfl) rfl
theorem q1339 : (Jvm.Cond.fieldLink "TransportPair$Side" (421 : Nat) "TransportPair$Side" "number" "J") ∈ lw_all := lw_g (lw_at lw_m5 133 rfl) rfl
theorem q1340 : (Jvm.Cond.fieldLink "TransportPair$Side" (442 : Nat) "TransportPair$Side" "stirred" "Z") ∈ lw_all := lw_g (lw_at lw_m5 134 rfl) rfl
theorem q1341 : (Jvm.Cond.fieldLink "TransportPair$Side" (57 : Nat) "TransportPair$Side" "probes" "[I") ∈ lw_all := lw_g (lw_at lw_m5 135 rfl) rfl
theorem q1342 : (Jvm.Cond.fieldLinkNest "TransportPair" (268 : Nat) "TransportPair$Side" "probes" "[I" "TransportPair") ∈ lw_tbl := lw_at lw_m5 136 rfl
theorem q1343 : (Jvm.Cond.fieldLink "TransportPair$Side" (61 : Nat) "TransportPair$Side" "parameters" "[I") ∈ lw_all := lw_g (lw_at lw_m5 137 rfl) rfl
theorem q1344 : (Jvm.Cond.fieldLinkNest "TransportPair" (118 : Nat) "TransportPair$Side" "parameters" "[I" "TransportPair") ∈ lw_tbl := lw_at lw_m5 138 rfl
theorem q1345 : (Jvm.Cond.fieldLink "TransportPair$Side" (67 : Nat) "TransportPair$Side" "theirs" "LTransportPair$Parameters;") ∈ lw_all := lw_g (lw_at lw_m5 139 rfl) rfl
theorem q1346 : (Jvm.Cond.fieldLink "TransportPair$Side" (74 : Nat) "TransportPair$Side" "in" "LTransportPair$Bytes;") ∈ lw_all := lw_g (lw_at lw_m5 140 rfl) rfl
theorem q1347 : (Jvm.Cond.fieldLink "TransportPair$Side" (78 : Nat) "TransportPair$Side" "out" "LTransportPair$Bytes;") ∈ lw_all := lw_g (lw_at lw_m5 141 rfl) rfl
theorem q1348 : (Jvm.Cond.fieldLink "TransportPair$Side" (84 : Nat) "TransportPair$Side" "header" "LTransportPair$Header;") ∈ lw_all := lw_g (lw_at lw_m5 142 rfl) rfl
theorem q1349 : (Jvm.Cond.fieldLink "TransportPair$Side" (91 : Nat) "TransportPair$Side" "frame" "LTransportPair$Frame;") ∈ lw_all := lw_g (lw_at lw_m5 143 rfl) rfl
theorem q1350 : (Jvm.Cond.fieldLink "TransportPair$Side" (95 : Nat) "TransportPair$Side" "work" "[B") ∈ lw_all := lw_g (lw_at lw_m5 144 rfl) rfl
theorem q1351 : (Jvm.Cond.fieldLink "TransportPair$Side" (98 : Nat) "TransportPair$Side" "raw" "[B") ∈ lw_all := lw_g (lw_at lw_m5 145 rfl) rfl
theorem q1352 : (Jvm.Cond.fieldLinkNest "TransportPair" (184 : Nat) "TransportPair$Side" "raw" "[B" "TransportPair") ∈ lw_tbl := lw_at lw_m5 146 rfl
theorem q1353 : (Jvm.Cond.fieldLinkNest "TransportPair" (187 : Nat) "TransportPair$Side" "rawSize" "I" "TransportPair") ∈ lw_tbl := lw_at lw_m5 147 rfl
theorem q1354 : (Jvm.Cond.fieldLink "TransportPair$Side" (640 : Nat) "TransportPair$Side" "rawSize" "I") ∈ lw_all := lw_g (lw_at lw_m5 148 rfl) rfl
theorem q1355 : (Jvm.Cond.fieldLink "TransportPair$Side" (103 : Nat) "TransportPair$Side" "drafts" "[[B") ∈ lw_all := lw_g (lw_at lw_m5 149 rfl) rfl
theorem q1356 : (Jvm.Cond.fieldLink "TransportPair$Side" (106 : Nat) "TransportPair$Side" "sizes" "[I") ∈ lw_all := lw_g (lw_at lw_m5 150 rfl) rfl
theorem q1357 : (Jvm.Cond.fieldLink "TransportPair$Side" (109 : Nat) "TransportPair$Side" "elicits" "[Z") ∈ lw_all := lw_g (lw_at lw_m5 151 rfl) rfl
theorem q1358 : (Jvm.Cond.fieldLink "TransportPair$Side" (112 : Nat) "TransportPair$Side" "pads" "[Z") ∈ lw_all := lw_g (lw_at lw_m5 152 rfl) rfl
theorem q1359 : (Jvm.Cond.fieldLink "TransportPair$Side" (115 : Nat) "TransportPair$Side" "drafted" "[Z") ∈ lw_all := lw_g (lw_at lw_m5 153 rfl) rfl
theorem q1455 : (Jvm.Cond.classLink "TransportPair" (35 : Nat) "TransportPair$Line") ∈ lw_all := lw_g (lw_at lw_m6 9 rfl) rfl
theorem q1456 : (Jvm.Cond.arrayOver (Jvm.ClassFile.FieldType.object "TransportPair$Line")) ∈ lw_tbl := lw_at lw_m6 10 rfl
theorem q1457 : (Jvm.Cond.instantiable "TransportPair$Line" (6 : Nat)) ∈ lw_all := lw_g (lw_at lw_m6 11 rfl) rfl
theorem q1458 : (Jvm.Cond.methodLinkNest "TransportPair" (37 : Nat) ({ cls := "TransportPair$Line", name := "<init>", desc := "()V" } : Jvm.MethodName) "TransportPair") ∈ lw_tbl := lw_at lw_m6 12 rfl
theorem q1459 : (Jvm.Cond.instanceMethod ({ cls := "TransportPair$Line", name := "<init>", desc := "()V" } : Jvm.MethodName)) ∈ lw_all := lw_g (lw_at lw_m6 13 rfl) rfl
theorem q1460 : (Jvm.Cond.code ({ cls := "TransportPair$Line", name := "<init>", desc := "()V" } : Jvm.MethodName) prog_17_method_1_code (1 : Nat) (Option.none : Option Jvm.ClassFile.FieldType)) ∈ lw_all := lw_g (lw_at lw_m6 14 rfl) rfl
theorem q1461 : (Jvm.Cond.methodLink "TransportPair$Line" (3 : Nat) ({ cls := "java/lang/Object", name := "<init>", desc := "()V" } : Jvm.MethodName)) ∈ lw_all := lw_g (lw_at lw_m6 15 rfl) rfl
theorem q1462 : (Jvm.Cond.classLink "TransportPair$Line" (11 : Nat) "[[B") ∈ lw_all := lw_g (lw_at lw_m6 16 rfl) rfl
theorem q1463 : (Jvm.Cond.fieldLink "TransportPair$Line" (13 : Nat) "TransportPair$Line" "rows" "[[B") ∈ lw_all := lw_g (lw_at lw_m6 17 rfl) rfl
theorem q1464 : (Jvm.Cond.fieldLinkNest "TransportPair" (193 : Nat) "TransportPair$Line" "rows" "[[B" "TransportPair") ∈ lw_tbl := lw_at lw_m6 18 rfl
theorem q1465 : (Jvm.Cond.fieldLink "TransportPair$Line" (16 : Nat) "TransportPair$Line" "sizes" "[I") ∈ lw_all := lw_g (lw_at lw_m6 19 rfl) rfl
theorem q1466 : (Jvm.Cond.fieldLinkNest "TransportPair" (190 : Nat) "TransportPair$Line" "sizes" "[I" "TransportPair") ∈ lw_tbl := lw_at lw_m6 20 rfl
theorem q1467 : (Jvm.Cond.fieldLink "TransportPair$Line" (20 : Nat) "TransportPair$Line" "times" "[I") ∈ lw_all := lw_g (lw_at lw_m6 21 rfl) rfl
theorem q1468 : (Jvm.Cond.fieldLinkNest "TransportPair" (210 : Nat) "TransportPair$Line" "times" "[I" "TransportPair") ∈ lw_tbl := lw_at lw_m6 22 rfl
theorem q1469 : (Jvm.Cond.fieldLink "TransportPair$Line" (27 : Nat) "TransportPair$Line" "many" "I") ∈ lw_all := lw_g (lw_at lw_m6 23 rfl) rfl
theorem q1470 : (Jvm.Cond.fieldLinkNest "TransportPair" (64 : Nat) "TransportPair$Line" "many" "I" "TransportPair") ∈ lw_tbl := lw_at lw_m6 24 rfl
theorem q1471 : (Jvm.Cond.fieldLink "TransportPair$Line" (23 : Nat) "TransportPair$Line" "sent" "I") ∈ lw_all := lw_g (lw_at lw_m6 25 rfl) rfl
theorem q1472 : (Jvm.Cond.fieldLinkNest "TransportPair" (232 : Nat) "TransportPair$Line" "sent" "I" "TransportPair") ∈ lw_tbl := lw_at lw_m6 26 rfl
theorem q1473 : (Jvm.Cond.fieldLink "TransportPair$Line" (30 : Nat) "TransportPair$Line" "lost" "I") ∈ lw_all := lw_g (lw_at lw_m6 27 rfl) rfl
theorem q1474 : (Jvm.Cond.fieldLinkNest "TransportPair" (235 : Nat) "TransportPair$Line" "lost" "I" "TransportPair") ∈ lw_tbl := lw_at lw_m6 28 rfl
theorem q1488 : (Jvm.Cond.classLink "TransportPair" (42 : Nat) "[[Z") ∈ lw_all := lw_g (lw_at lw_m6 42 rfl) rfl
theorem q1490 : (Jvm.Cond.fieldLink "TransportPair" (16 : Nat) "TransportPair" "tape" "[B") ∈ lw_all := lw_g (lw_at lw_m6 44 rfl) rfl
theorem q1491 : (Jvm.Cond.fieldLink "TransportPair" (20 : Nat) "TransportPair" "taken" "[B") ∈ lw_all := lw_g (lw_at lw_m6 45 rfl) rfl
theorem q1492 : (Jvm.Cond.fieldLink "TransportPair" (71 : Nat) "TransportPair" "taped" "I") ∈ lw_all := lw_g (lw_at lw_m6 46 rfl) rfl
theorem q1493 : (Jvm.Cond.fieldLink "TransportPair" (220 : Nat) "TransportPair" "time" "I") ∈ lw_all := lw_g (lw_at lw_m6 47 rfl) rfl
theorem q1494 : (Jvm.Cond.fieldLink "TransportPair" (217 : Nat) "TransportPair" "flow" "I") ∈ lw_all := lw_g (lw_at lw_m6 48 rfl) rfl
theorem q1495 : (Jvm.Cond.fieldLink "TransportPair" (23 : Nat) "TransportPair" "output" "[B") ∈ lw_all := lw_g (lw_at lw_m6 49 rfl) rfl
theorem q1496 : (Jvm.Cond.fieldLink "TransportPair" (164 : Nat) "TransportPair" "outputs" "I") ∈ lw_all := lw_g (lw_at lw_m6 50 rfl) rfl
theorem q1497 : (Jvm.Cond.fieldLink "TransportPair" (31 : Nat) "TransportPair" "sides" "[LTransportPair$Side;") ∈ lw_all := lw_g (lw_at lw_m6 51 rfl) rfl
theorem q1498 : (Jvm.Cond.fieldLink "TransportPair" (38 : Nat) "TransportPair" "lines" "[LTransportPair$Line;") ∈ lw_all := lw_g (lw_at lw_m6 52 rfl) rfl
theorem q1499 : (Jvm.Cond.fieldLink "TransportPair" (44 : Nat) "TransportPair" "has" "[[Z") ∈ lw_all := lw_g (lw_at lw_m6 53 rfl) rfl
theorem q1521 : (Jvm.Cond.methodLink "TransportPairLaw" (116 : Nat) ({ cls := "TransportPairLaw", name := "feed", desc := "(LTransportPair;IIIII[J)I" } : Jvm.MethodName)) ∈ lw_all := lw_g (lw_at lw_m6 75 rfl) rfl
theorem q1522 : (Jvm.Cond.static ({ cls := "TransportPairLaw", name := "feed", desc := "(LTransportPair;IIIII[J)I" } : Jvm.MethodName)) ∈ lw_all := lw_g (lw_at lw_m6 76 rfl) rfl
theorem q1523 : (Jvm.Cond.codeWith ({ cls := "TransportPairLaw", name := "feed", desc := "(LTransportPair;IIIII[J)I" } : Jvm.MethodName) method_3_code (8 : Nat) (Option.some Jvm.ClassFile.FieldType.int) [((0 : Nat), (16 : Nat), (19 : Nat), (13 : Nat))]) ∈ lw_all := lw_g (lw_at lw_m6 77 rfl) rfl
theorem q1524 : (Jvm.Cond.classLink "TransportPairLaw" (13 : Nat) "java/lang/IllegalStateException") ∈ lw_all := lw_g (lw_at lw_m6 78 rfl) rfl
theorem q1525 : (Jvm.Cond.methodLink "TransportPairLaw" (7 : Nat) ({ cls := "TransportPair", name := "feed", desc := "(IIIII)I" } : Jvm.MethodName)) ∈ lw_all := lw_g (lw_at lw_m6 79 rfl) rfl
theorem q1526 : (Jvm.Cond.instanceMethod ({ cls := "TransportPair", name := "feed", desc := "(IIIII)I" } : Jvm.MethodName)) ∈ lw_all := lw_g (lw_at lw_m6 80 rfl) rfl
theorem q1527 : (Jvm.Cond.selects "TransportPair" ({ cls := "TransportPair", name := "feed", desc := "(IIIII)I" } : Jvm.MethodName) ({ cls := "TransportPair", name := "feed", desc := "(IIIII)I" } : Jvm.MethodName)) ∈ lw_all := lw_g (lw_at lw_m6 81 rfl) rfl
theorem q1528 : (Jvm.Cond.code ({ cls := "TransportPair", name := "feed", desc := "(IIIII)I" } : Jvm.MethodName) prog_1_method_11_code (8 : Nat) (Option.some Jvm.ClassFile.FieldType.int)) ∈ lw_all := lw_g (lw_at lw_m6 82 rfl) rfl
theorem q1529 : (Jvm.Cond.methodLink "TransportPair" (74 : Nat) ({ cls := "TransportPair", name := "ready", desc := "(Z)V" } : Jvm.MethodName)) ∈ lw_all := lw_g (lw_at lw_m6 83 rfl) rfl
theorem q1530 : (Jvm.Cond.static ({ cls := "TransportPair", name := "ready", desc := "(Z)V" } : Jvm.MethodName)) ∈ lw_all := lw_g (lw_at lw_m6 84 rfl) rfl
theorem q1531 : (Jvm.Cond.code ({ cls := "TransportPair", name := "ready", desc := "(Z)V" } : Jvm.MethodName) prog_1_method_5_code (1 : Nat) (Option.none : Option Jvm.ClassFile.FieldType)) ∈ lw_all := lw_g (lw_at lw_m6 85 rfl) rfl
theorem q1532 : (Jvm.Cond.classLink "TransportPair" (50 : Nat) "java/lang/IllegalStateException") ∈ lw_all := lw_g (lw_at lw_m6 86 rfl) rfl
theorem q1533 : (Jvm.Cond.instantiable "java/lang/IllegalStateException" (6 : Nat)) ∈ lw_all := lw_g (lw_at lw_m6 87 rfl) rfl
theorem q1534 : (Jvm.Cond.castable "java/lang/IllegalStateException" "java/lang/IllegalStateException") ∈ lw_tbl := lw_at lw_m6 88 rfl
theorem q1595 : (Jvm.Cond.methodLink "TransportPairLaw" (126 : Nat) ({ cls := "TransportPairLaw", name := "end", desc := "(LTransportPair;I[J)I" } : Jvm.MethodName)) ∈ lw_all := lw_g (lw_at lw_m6 149 rfl) rfl
theorem q1596 : (Jvm.Cond.static ({ cls := "TransportPairLaw", name := "end", desc := "(LTransportPair;I[J)I" } : Jvm.MethodName)) ∈ lw_all := lw_g (lw_at lw_m6 150 rfl) rfl
theorem q1597 : (Jvm.Cond.codeWith ({ cls := "TransportPairLaw", name := "end", desc := "(LTransportPair;I[J)I" } : Jvm.MethodName) method_4_code (4 : Nat) (Option.some Jvm.ClassFile.FieldType.int) [((0 : Nat), (9 : Nat), (12 : Nat), (19 : Nat))]) ∈ lw_all := lw_g (lw_at lw_m6 151 rfl) rfl
theorem q1598 : (Jvm.Cond.classLink "TransportPairLaw" (19 : Nat) "java/lang/IllegalArgumentException") ∈ lw_all := lw_g (lw_at lw_m6 152 rfl) rfl
theorem q1599 : (Jvm.Cond.methodLink "TransportPairLaw" (15 : Nat) ({ cls := "TransportPair", name := "end", desc := "(I)I" } : Jvm.MethodName)) ∈ lw_all := lw_g (lw_at lw_m6 153 rfl) rfl
theorem q1600 : (Jvm.Cond.instanceMethod ({ cls := "TransportPair", name := "end", desc := "(I)I" } : Jvm.MethodName)) ∈ lw_all := lw_g (lw_at lw_m6 154 rfl) rfl
theorem q1601 : (Jvm.Cond.selects "TransportPair" ({ cls := "TransportPair", name := "end", desc := "(I)I" } : Jvm.MethodName) ({ cls := "TransportPair", name := "end", desc := "(I)I" } : Jvm.MethodName)) ∈ lw_all := lw_g (lw_at lw_m6 155 rfl) rfl
theorem q1602 : (Jvm.Cond.code ({ cls := "TransportPair", name := "end", desc := "(I)I" } : Jvm.MethodName) prog_1_method_12_code (3 : Nat) (Option.some Jvm.ClassFile.FieldType.int)) ∈ lw_all := lw_g (lw_at lw_m6 156 rfl) rfl
theorem q1603 : (Jvm.Cond.methodLink "TransportPair" (56 : Nat) ({ cls := "TransportPair", name := "in", desc := "(JJJ)Z" } : Jvm.MethodName)) ∈ lw_all := lw_g (lw_at lw_m6 157 rfl) rfl
theorem q1604 : (Jvm.Cond.static ({ cls := "TransportPair", name := "in", desc := "(JJJ)Z" } : Jvm.MethodName)) ∈ lw_all := lw_g (lw_at lw_m6 158 rfl) rfl
theorem q1605 : (Jvm.Cond.code ({ cls := "TransportPair", name := "in", desc := "(JJJ)Z" } : Jvm.MethodName) prog_1_method_7_code (6 : Nat) (Option.some Jvm.ClassFile.FieldType.boolean)) ∈ lw_all := lw_g (lw_at lw_m6 159 rfl) rfl
theorem q1606 : (Jvm.Cond.methodLink "TransportPair" (60 : Nat) ({ cls := "TransportPair", name := "need", desc := "(Z)V" } : Jvm.MethodName)) ∈ lw_all := lw_g (lw_at lw_m6 160 rfl) rfl
theorem q1607 : (Jvm.Cond.static ({ cls := "TransportPair", name := "need", desc := "(Z)V" } : Jvm.MethodName)) ∈ lw_all := lw_g (lw_at lw_m6 161 rfl) rfl
theorem q1608 : (Jvm.Cond.code ({ cls := "TransportPair", name := "need", desc := "(Z)V" } : Jvm.MethodName) prog_1_method_4_code (1 : Nat) (Option.none : Option Jvm.ClassFile.FieldType)) ∈ lw_all := lw_g (lw_at lw_m6 162 rfl) rfl
theorem q1609 : (Jvm.Cond.classLink "TransportPair" (47 : Nat) "java/lang/IllegalArgumentException") ∈ lw_all := lw_g (lw_at lw_m6 163 rfl) rfl
theorem q1610 : (Jvm.Cond.instantiable "java/lang/IllegalArgumentException" (6 : Nat)) ∈ lw_all := lw_g (lw_at lw_m6 164 rfl) rfl
theorem q1611 : (Jvm.Cond.castable "java/lang/IllegalArgumentException" "java/lang/IllegalArgumentException") ∈ lw_tbl := lw_at lw_m6 165 rfl
theorem q1624 : (Jvm.Cond.methodLink "TransportPairLaw" (130 : Nat) ({ cls := "TransportPairLaw", name := "key", desc := "(LTransportPair;I)I" } : Jvm.MethodName)) ∈ lw_all := lw_g (lw_at lw_m6 178 rfl) rfl
theorem q1625 : (Jvm.Cond.static ({ cls := "TransportPairLaw", name := "key", desc := "(LTransportPair;I)I" } : Jvm.MethodName)) ∈ lw_all := lw_g (lw_at lw_m6 179 rfl) rfl
theorem q1626 : (Jvm.Cond.codeWith ({ cls := "TransportPairLaw", name := "key", desc := "(LTransportPair;I)I" } : Jvm.MethodName) method_5_code (3 : Nat) (Option.some Jvm.ClassFile.FieldType.int) [((0 : Nat), (5 : Nat), (8 : Nat), (19 : Nat)), ((0 : Nat), (5 : Nat), (11 : Nat), (13 : Nat))]) ∈ lw_all := lw_g (lw_at lw_m6 180 rfl) rfl
theorem q1627 : (Jvm.Cond.methodLink "TransportPairLaw" (21 : Nat) ({ cls := "TransportPair", name := "key", desc := "(I)V" } : Jvm.MethodName)) ∈ lw_all := lw_g (lw_at lw_m6 181 rfl) rfl
theorem q1628 : (Jvm.Cond.instanceMethod ({ cls := "TransportPair", name := "key", desc := "(I)V" } : Jvm.MethodName)) ∈ lw_all := lw_g (lw_at lw_m6 182 rfl) rfl
theorem q1629 : (Jvm.Cond.selects "TransportPair" ({ cls := "TransportPair", name := "key", desc := "(I)V" } : Jvm.MethodName) ({ cls := "TransportPair", name := "key", desc := "(I)V" } : Jvm.MethodName)) ∈ lw_all := lw_g (lw_at lw_m6 183 rfl) rfl
theorem q1630 : (Jvm.Cond.code ({ cls := "TransportPair", name := "key", desc := "(I)V" } : Jvm.MethodName) prog_1_method_14_code (2 : Nat) (Option.none : Option Jvm.ClassFile.FieldType)) ∈ lw_all := lw_g (lw_at lw_m6 184 rfl) rfl
theorem q1631 : (Jvm.Cond.methodLink "TransportPair" (106 : Nat) ({ cls := "TransportPair", name := "told", desc := "(II)V" } : Jvm.MethodName)) ∈ lw_all := lw_g (lw_at lw_m6 185 rfl) rfl
theorem q1633 : (Jvm.Cond.instanceMethod ({ cls := "TransportPair", name := "told", desc := "(II)V" } : Jvm.MethodName)) ∈ lw_all := lw_g (lw_at lw_m6 187 rfl) rfl
theorem q1634 : (Jvm.Cond.code ({ cls := "TransportPair", name := "told", desc := "(II)V" } : Jvm.MethodName) prog_1_method_13_code (4 : Nat) (Option.none : Option Jvm.ClassFile.FieldType)) ∈ lw_all := lw_g (lw_at lw_m6 188 rfl) rfl
theorem q1635 : (Jvm.Cond.methodLink "TransportPair" (77 : Nat) ({ cls := "TransportPair", name := "of", desc := "(I)LTransportPair$Side;" } : Jvm.MethodName)) ∈ lw_all := lw_g (lw_at lw_m6 189 rfl) rfl
theorem q1637 : (Jvm.Cond.instanceMethod ({ cls := "TransportPair", name := "of", desc := "(I)LTransportPair$Side;" } : Jvm.MethodName)) ∈ lw_all := lw_g (lw_at lw_m6 191 rfl) rfl
theorem q1638 : (Jvm.Cond.code ({ cls := "TransportPair", name := "of", desc := "(I)LTransportPair$Side;" } : Jvm.MethodName) prog_1_method_8_code (2 : Nat) (Option.some (Jvm.ClassFile.FieldType.object "TransportPair$Side"))) ∈ lw_all := lw_g (lw_at lw_m6 192 rfl) rfl
theorem q1639 : (Jvm.Cond.methodLink "TransportPair" (96 : Nat) ({ cls := "TransportPair", name := "used", desc := "()I" } : Jvm.MethodName)) ∈ lw_all := lw_g (lw_at lw_m6 193 rfl) rfl
theorem q1641 : (Jvm.Cond.instanceMethod ({ cls := "TransportPair", name := "used", desc := "()I" } : Jvm.MethodName)) ∈ lw_all := lw_g (lw_at lw_m6 195 rfl) rfl
theorem q1642 : (Jvm.Cond.code ({ cls := "TransportPair", name := "used", desc := "()I" } : Jvm.MethodName) prog_1_method_10_code (2 : Nat) (Option.some Jvm.ClassFile.FieldType.int)) ∈ lw_all := lw_g (lw_at lw_m6 196 rfl) rfl
theorem q1643 : (Jvm.Cond.methodLink "TransportPair" (100 : Nat) ({ cls := "java/lang/System", name := "arraycopy", desc := "(Ljava/lang/Object;ILjava/lang/Object;II)V" } : Jvm.MethodName)) ∈ lw_all := lw_g (lw_at lw_m6 197 rfl) rfl
theorem q1644 : (Jvm.Cond.static ({ cls := "java/lang/System", name := "arraycopy", desc := "(Ljava/lang/Object;ILjava/lang/Object;II)V" } : Jvm.MethodName)) ∈ lw_all := lw_g (lw_at lw_m6 198 rfl) rfl
theorem q1645 : (Jvm.Cond.native ({ cls := "java/lang/System", name := "arraycopy", desc := "(Ljava/lang/Object;ILjava/lang/Object;II)V" } : Jvm.MethodName)) ∈ lw_all := lw_g (lw_at lw_m6 199 rfl) rfl
theorem q1646 : (Jvm.Cond.methodLink "TransportPairLaw" (134 : Nat) ({ cls := "TransportPairLaw", name := "random", desc := "(LTransportPair;I)I" } : Jvm.MethodName)) ∈ lw_all := lw_g (lw_at lw_m6 200 rfl) rfl
theorem q1647 : (Jvm.Cond.static ({ cls := "TransportPairLaw", name := "random", desc := "(LTransportPair;I)I" } : Jvm.MethodName)) ∈ lw_all := lw_g (lw_at lw_m6 201 rfl) rfl
theorem q1648 : (Jvm.Cond.codeWith ({ cls := "TransportPairLaw", name := "random", desc := "(LTransportPair;I)I" } : Jvm.MethodName) method_6_code (3 : Nat) (Option.some Jvm.ClassFile.FieldType.int) [((0 : Nat), (5 : Nat), (8 : Nat), (19 : Nat)), ((0 : Nat), (5 : Nat), (11 : Nat), (13 : Nat))]) ∈ lw_all := lw_g (lw_at lw_m6 202 rfl) rfl
theorem q1649 : (Jvm.Cond.methodLink "TransportPairLaw" (25 : Nat) ({ cls := "TransportPair", name := "random", desc := "(I)V" } : Jvm.MethodName)) ∈ lw_all := lw_g (lw_at lw_m6 203 rfl) rfl
theorem q1650 : (Jvm.Cond.instanceMethod ({ cls := "TransportPair", name := "random", desc := "(I)V" } : Jvm.MethodName)) ∈ lw_all := lw_g (lw_at lw_m6 204 rfl) rfl
theorem q1651 : (Jvm.Cond.selects "TransportPair" ({ cls := "TransportPair", name := "random", desc := "(I)V" } : Jvm.MethodName) ({ cls := "TransportPair", name := "random", desc := "(I)V" } : Jvm.MethodName)) ∈ lw_all := lw_g (lw_at lw_m6 205 rfl) rfl
theorem q1652 : (Jvm.Cond.code ({ cls := "TransportPair", name := "random", desc := "(I)V" } : Jvm.MethodName) prog_1_method_15_code (2 : Nat) (Option.none : Option Jvm.ClassFile.FieldType)) ∈ lw_all := lw_g (lw_at lw_m6 206 rfl) rfl
theorem q1653 : (Jvm.Cond.methodLink "TransportPairLaw" (137 : Nat) ({ cls := "TransportPairLaw", name := "parameter", desc := "(LTransportPair;III)I" } : Jvm.MethodName)) ∈ lw_all := lw_g (lw_at lw_m6 207 rfl) rfl
theorem q1654 : (Jvm.Cond.static ({ cls := "TransportPairLaw", name := "parameter", desc := "(LTransportPair;III)I" } : Jvm.MethodName)) ∈ lw_all := lw_g (lw_at lw_m6 208 rfl) rfl
theorem q1655 : (Jvm.Cond.codeWith ({ cls := "TransportPairLaw", name := "parameter", desc := "(LTransportPair;III)I" } : Jvm.MethodName) method_7_code (5 : Nat) (Option.some Jvm.ClassFile.FieldType.int) [((0 : Nat), (7 : Nat), (10 : Nat), (19 : Nat)), ((0 : Nat), (7 : Nat), (14 : Nat), (13 : Nat))]) ∈ lw_all := lw_g (lw_at lw_m6 209 rfl) rfl
theorem q1656 : (Jvm.Cond.methodLink "TransportPairLaw" (28 : Nat) ({ cls := "TransportPair", name := "parameter", desc := "(III)V" } : Jvm.MethodName)) ∈ lw_all := lw_g (lw_at lw_m6 210 rfl) rfl
theorem q1657 : (Jvm.Cond.instanceMethod ({ cls := "TransportPair", name := "parameter", desc := "(III)V" } : Jvm.MethodName)) ∈ lw_all := lw_g (lw_at lw_m6 211 rfl) rfl
theorem q1658 : (Jvm.Cond.selects "TransportPair" ({ cls := "TransportPair", name := "parameter", desc := "(III)V" } : Jvm.MethodName) ({ cls := "TransportPair", name := "parameter", desc := "(III)V" } : Jvm.MethodName)) ∈ lw_all := lw_g (lw_at lw_m6 212 rfl) rfl
theorem q1659 : (Jvm.Cond.code ({ cls := "TransportPair", name := "parameter", desc := "(III)V" } : Jvm.MethodName) prog_1_method_16_code (5 : Nat) (Option.none : Option Jvm.ClassFile.FieldType)) ∈ lw_all := lw_g (lw_at lw_m6 213 rfl) rfl
theorem q1660 : (Jvm.Cond.constantLong "TransportPair" (110 : Nat) (4 : Int64)) ∈ lw_all := lw_g (lw_at lw_m6 214 rfl) rfl
theorem q1661 : (Jvm.Cond.constantLong "TransportPair" (112 : Nat) (9 : Int64)) ∈ lw_all := lw_g (lw_at lw_m6 215 rfl) rfl
theorem q1662 : (Jvm.Cond.constantLong "TransportPair" (114 : Nat) (200000 : Int64)) ∈ lw_all := lw_g (lw_at lw_m6 216 rfl) rfl
theorem q1663 : (Jvm.Cond.constantLong "TransportPair" (1 : Nat) (64 : Int64)) ∈ lw_all := lw_g (lw_at lw_m6 217 rfl) rfl
theorem q1664 : (Jvm.Cond.constantLong "TransportPair" (116 : Nat) (65536 : Int64)) ∈ lw_all := lw_g (lw_at lw_m6 218 rfl) rfl
theorem q1665 : (Jvm.Cond.methodLink "TransportPair" (122 : Nat) ({ cls := "TransportPair$Side", name := "grants", desc := "()V" } : Jvm.MethodName)) ∈ lw_all := lw_g (lw_at lw_m6 219 rfl) rfl
theorem q1666 : (Jvm.Cond.methodLink "TransportPairLaw" (141 : Nat) ({ cls := "TransportPairLaw", name := "begin", desc := "(LTransportPair;)I" } : Jvm.MethodName)) ∈ lw_all := lw_g (lw_at lw_m6 220 rfl) rfl
theorem q1667 : (Jvm.Cond.static ({ cls := "TransportPairLaw", name := "begin", desc := "(LTransportPair;)I" } : Jvm.MethodName)) ∈ lw_all := lw_g (lw_at lw_m6 221 rfl) rfl
theorem q1668 : (Jvm.Cond.codeWith ({ cls := "TransportPairLaw", name := "begin", desc := "(LTransportPair;)I" } : Jvm.MethodName) method_8_code (2 : Nat) (Option.some Jvm.ClassFile.FieldType.int) [((0 : Nat), (4 : Nat), (7 : Nat), (13 : Nat))]) ∈ lw_all := lw_g (lw_at lw_m6 222 rfl) rfl
theorem q1669 : (Jvm.Cond.methodLink "TransportPairLaw" (32 : Nat) ({ cls := "TransportPair", name := "begin", desc := "()V" } : Jvm.MethodName)) ∈ lw_all := lw_g (lw_at lw_m6 223 rfl) rfl
theorem q1670 : (Jvm.Cond.instanceMethod ({ cls := "TransportPair", name := "begin", desc := "()V" } : Jvm.MethodName)) ∈ lw_all := lw_g (lw_at lw_m6 224 rfl) rfl
theorem q1671 : (Jvm.Cond.selects "TransportPair" ({ cls := "TransportPair", name := "begin", desc := "()V" } : Jvm.MethodName) ({ cls := "TransportPair", name := "begin", desc := "()V" } : Jvm.MethodName)) ∈ lw_all := lw_g (lw_at lw_m6 225 rfl) rfl
theorem q1672 : (Jvm.Cond.code ({ cls := "TransportPair", name := "begin", desc := "()V" } : Jvm.MethodName) prog_1_method_17_code (1 : Nat) (Option.none : Option Jvm.ClassFile.FieldType)) ∈ lw_all := lw_g (lw_at lw_m6 226 rfl) rfl
theorem q1673 : (Jvm.Cond.methodLink "TransportPair" (125 : Nat) ({ cls := "TransportPair$Side", name := "begin", desc := "()V" } : Jvm.MethodName)) ∈ lw_all := lw_g (lw_at lw_m6 227 rfl) rfl
theorem q1674 : (Jvm.Cond.instanceMethod ({ cls := "TransportPair$Side", name := "begin", desc := "()V" } : Jvm.MethodName)) ∈ lw_all := lw_g (lw_at lw_m6 228 rfl) rfl
theorem q1675 : (Jvm.Cond.selects "TransportPair$Side" ({ cls := "TransportPair$Side", name := "begin", desc := "()V" } : Jvm.MethodName) ({ cls := "TransportPair$Side", name := "begin", desc := "()V" } : Jvm.MethodName)) ∈ lw_all := lw_g (lw_at lw_m6 229 rfl) rfl
theorem q1676 : (Jvm.Cond.code ({ cls := "TransportPair$Side", name := "begin", desc := "()V" } : Jvm.MethodName) prog_25_method_9_code (1 : Nat) (Option.none : Option Jvm.ClassFile.FieldType)) ∈ lw_all := lw_g (lw_at lw_m6 230 rfl) rfl
theorem q1677 : (Jvm.Cond.methodLink "TransportPair$Side" (208 : Nat) ({ cls := "TransportPair$Side", name := "name", desc := "([BI)V" } : Jvm.MethodName)) ∈ lw_all := lw_g (lw_at lw_m6 231 rfl) rfl
theorem q1679 : (Jvm.Cond.instanceMethod ({ cls := "TransportPair$Side", name := "name", desc := "([BI)V" } : Jvm.MethodName)) ∈ lw_all := lw_g (lw_at lw_m6 233 rfl) rfl
theorem q1680 : (Jvm.Cond.code ({ cls := "TransportPair$Side", name := "name", desc := "([BI)V" } : Jvm.MethodName) prog_25_method_6_code (3 : Nat) (Option.none : Option Jvm.ClassFile.FieldType)) ∈ lw_all := lw_g (lw_at lw_m6 234 rfl) rfl
theorem q1681 : (Jvm.Cond.methodLink "TransportPair$Side" (184 : Nat) ({ cls := "java/lang/System", name := "arraycopy", desc := "(Ljava/lang/Object;ILjava/lang/Object;II)V" } : Jvm.MethodName)) ∈ lw_all := lw_g (lw_at lw_m6 235 rfl) rfl
theorem q1682 : (Jvm.Cond.methodLink "TransportPair$Side" (193 : Nat) ({ cls := "TransportPair$Greeting", name := "first", desc := "([BII)V" } : Jvm.MethodName)) ∈ lw_all := lw_g (lw_at lw_m6 236 rfl) rfl
theorem q1683 : (Jvm.Cond.instanceMethod ({ cls := "TransportPair$Greeting", name := "first", desc := "([BII)V" } : Jvm.MethodName)) ∈ lw_all := lw_g (lw_at lw_m6 237 rfl) rfl
theorem q1684 : (Jvm.Cond.selects "TransportPair$Greeting" ({ cls := "TransportPair$Greeting", name := "first", desc := "([BII)V" } : Jvm.MethodName) ({ cls := "TransportPair$Greeting", name := "first", desc := "([BII)V" } : Jvm.MethodName)) ∈ lw_all := lw_g (lw_at lw_m6 238 rfl) rfl
theorem q1685 : (Jvm.Cond.code ({ cls := "TransportPair$Greeting", name := "first", desc := "([BII)V" } : Jvm.MethodName) prog_10_method_5_code (5 : Nat) (Option.none : Option Jvm.ClassFile.FieldType)) ∈ lw_all := lw_g (lw_at lw_m6 239 rfl) rfl
theorem q1686 : (Jvm.Cond.methodLink "TransportPair$Greeting" (114 : Nat) ({ cls := "TransportPair$Greeting", name := "mac", desc := "([BI[BII[B)V" } : Jvm.MethodName)) ∈ lw_all := lw_g (lw_at lw_m7 0 rfl) rfl
theorem q1688 : (Jvm.Cond.instanceMethod ({ cls := "TransportPair$Greeting", name := "mac", desc := "([BI[BII[B)V" } : Jvm.MethodName)) ∈ lw_all := lw_g (lw_at lw_m7 2 rfl) rfl
theorem q1689 : (Jvm.Cond.code ({ cls := "TransportPair$Greeting", name := "mac", desc := "([BI[BII[B)V" } : Jvm.MethodName) prog_10_method_3_code (7 : Nat) (Option.none : Option Jvm.ClassFile.FieldType)) ∈ lw_all := lw_g (lw_at lw_m7 3 rfl) rfl
theorem q1690 : (Jvm.Cond.methodLink "TransportPair$Greeting" (104 : Nat) ({ cls := "TransportPair$Mac", name := "begin", desc := "([BI)V" } : Jvm.MethodName)) ∈ lw_all := lw_g (lw_at lw_m7 4 rfl) rfl
theorem q1691 : (Jvm.Cond.instanceMethod ({ cls := "TransportPair$Mac", name := "begin", desc := "([BI)V" } : Jvm.MethodName)) ∈ lw_all := lw_g (lw_at lw_m7 5 rfl) rfl
theorem q1692 : (Jvm.Cond.selects "TransportPair$Mac" ({ cls := "TransportPair$Mac", name := "begin", desc := "([BI)V" } : Jvm.MethodName) ({ cls := "TransportPair$Mac", name := "begin", desc := "([BI)V" } : Jvm.MethodName)) ∈ lw_all := lw_g (lw_at lw_m7 6 rfl) rfl
theorem q1693 : (Jvm.Cond.code ({ cls := "TransportPair$Mac", name := "begin", desc := "([BI)V" } : Jvm.MethodName) prog_18_method_2_code (4 : Nat) (Option.none : Option Jvm.ClassFile.FieldType)) ∈ lw_all := lw_g (lw_at lw_m7 7 rfl) rfl
theorem q1694 : (Jvm.Cond.methodLink "TransportPair$Mac" (28 : Nat) ({ cls := "TransportPair$Hash", name := "begin", desc := "()V" } : Jvm.MethodName)) ∈ lw_all := lw_g (lw_at lw_m7 8 rfl) rfl
theorem q1695 : (Jvm.Cond.instanceMethod ({ cls := "TransportPair$Hash", name := "begin", desc := "()V" } : Jvm.MethodName)) ∈ lw_all := lw_g (lw_at lw_m7 9 rfl) rfl
theorem q1696 : (Jvm.Cond.selects "TransportPair$Hash" ({ cls := "TransportPair$Hash", name := "begin", desc := "()V" } : Jvm.MethodName) ({ cls := "TransportPair$Hash", name := "begin", desc := "()V" } : Jvm.MethodName)) ∈ lw_all := lw_g (lw_at lw_m7 10 rfl) rfl
theorem q1697 : (Jvm.Cond.code ({ cls := "TransportPair$Hash", name := "begin", desc := "()V" } : Jvm.MethodName) prog_13_method_2_code (1 : Nat) (Option.none : Option Jvm.ClassFile.FieldType)) ∈ lw_all := lw_g (lw_at lw_m7 11 rfl) rfl
theorem q1698 : (Jvm.Cond.fieldLink "TransportPair$Hash" (22 : Nat) "TransportPair$Hash" "START" "[I") ∈ lw_all := lw_g (lw_at lw_m7 12 rfl) rfl
theorem q1700 : (Jvm.Cond.methodLink "TransportPair$Hash" (25 : Nat) ({ cls := "java/lang/System", name := "arraycopy", desc := "(Ljava/lang/Object;ILjava/lang/Object;II)V" } : Jvm.MethodName)) ∈ lw_all := lw_g (lw_at lw_m7 14 rfl) rfl
theorem q1701 : (Jvm.Cond.methodLink "TransportPair$Mac" (31 : Nat) ({ cls := "TransportPair$Hash", name := "add", desc := "([BII)V" } : Jvm.MethodName)) ∈ lw_all := lw_g (lw_at lw_m7 15 rfl) rfl
theorem q1702 : (Jvm.Cond.instanceMethod ({ cls := "TransportPair$Hash", name := "add", desc := "([BII)V" } : Jvm.MethodName)) ∈ lw_all := lw_g (lw_at lw_m7 16 rfl) rfl
theorem q1703 : (Jvm.Cond.selects "TransportPair$Hash" ({ cls := "TransportPair$Hash", name := "add", desc := "([BII)V" } : Jvm.MethodName) ({ cls := "TransportPair$Hash", name := "add", desc := "([BII)V" } : Jvm.MethodName)) ∈ lw_all := lw_g (lw_at lw_m7 17 rfl) rfl
theorem q1704 : (Jvm.Cond.code ({ cls := "TransportPair$Hash", name := "add", desc := "([BII)V" } : Jvm.MethodName) prog_13_method_4_code (5 : Nat) (Option.none : Option Jvm.ClassFile.FieldType)) ∈ lw_all := lw_g (lw_at lw_m7 18 rfl) rfl
theorem q1705 : (Jvm.Cond.methodLink "TransportPair$Hash" (42 : Nat) ({ cls := "TransportPair$Hash", name := "addByte", desc := "(I)V" } : Jvm.MethodName)) ∈ lw_all := lw_g (lw_at lw_m7 19 rfl) rfl
theorem q1707 : (Jvm.Cond.instanceMethod ({ cls := "TransportPair$Hash", name := "addByte", desc := "(I)V" } : Jvm.MethodName)) ∈ lw_all := lw_g (lw_at lw_m7 21 rfl) rfl
theorem q1708 : (Jvm.Cond.code ({ cls := "TransportPair$Hash", name := "addByte", desc := "(I)V" } : Jvm.MethodName) prog_13_method_3_code (2 : Nat) (Option.none : Option Jvm.ClassFile.FieldType)) ∈ lw_all := lw_g (lw_at lw_m7 22 rfl) rfl
theorem q1709 : (Jvm.Cond.methodLink "TransportPair$Hash" (39 : Nat) ({ cls := "TransportPair$Hash", name := "work", desc := "()V" } : Jvm.MethodName)) ∈ lw_all := lw_g (lw_at lw_m7 23 rfl) rfl
theorem q1711 : (Jvm.Cond.instanceMethod ({ cls := "TransportPair$Hash", name := "work", desc := "()V" } : Jvm.MethodName)) ∈ lw_all := lw_g (lw_at lw_m7 25 rfl) rfl
theorem q1712 : (Jvm.Cond.code ({ cls := "TransportPair$Hash", name := "work", desc := "()V" } : Jvm.MethodName) prog_13_method_7_code (12 : Nat) (Option.none : Option Jvm.ClassFile.FieldType)) ∈ lw_all := lw_g (lw_at lw_m7 26 rfl) rfl
theorem q1713 : (Jvm.Cond.methodLink "TransportPair$Hash" (54 : Nat) ({ cls := "TransportPair$Hash", name := "spread", desc := "()V" } : Jvm.MethodName)) ∈ lw_all := lw_g (lw_at lw_m7 27 rfl) rfl
theorem q1715 : (Jvm.Cond.instanceMethod ({ cls := "TransportPair$Hash", name := "spread", desc := "()V" } : Jvm.MethodName)) ∈ lw_all := lw_g (lw_at lw_m7 29 rfl) rfl
theorem q1716 : (Jvm.Cond.code ({ cls := "TransportPair$Hash", name := "spread", desc := "()V" } : Jvm.MethodName) prog_13_method_6_code (6 : Nat) (Option.none : Option Jvm.ClassFile.FieldType)) ∈ lw_all := lw_g (lw_at lw_m7 30 rfl) rfl
theorem q1717 : (Jvm.Cond.methodLink "TransportPair$Hash" (48 : Nat) ({ cls := "java/lang/Integer", name := "rotateRight", desc := "(II)I" } : Jvm.MethodName)) ∈ lw_all := lw_g (lw_at lw_m7 31 rfl) rfl
theorem q1718 : (Jvm.Cond.static ({ cls := "java/lang/Integer", name := "rotateRight", desc := "(II)I" } : Jvm.MethodName)) ∈ lw_all := lw_g (lw_at lw_m7 32 rfl) rfl
theorem q1719 : (Jvm.Cond.code ({ cls := "java/lang/Integer", name := "rotateRight", desc := "(II)I" } : Jvm.MethodName) prog_49_method_51_code (2 : Nat) (Option.some Jvm.ClassFile.FieldType.int)) ∈ lw_all := lw_g (lw_at lw_m7 33 rfl) rfl
theorem q1720 : (Jvm.Cond.fieldLink "TransportPair$Hash" (57 : Nat) "TransportPair$Hash" "ROUNDS" "[I") ∈ lw_all := lw_g (lw_at lw_m7 34 rfl) rfl
theorem q1722 : (Jvm.Cond.methodLink "TransportPair$Mac" (35 : Nat) ({ cls := "TransportPair$Hash", name := "end", desc := "([BI)V" } : Jvm.MethodName)) ∈ lw_all := lw_g (lw_at lw_m7 36 rfl) rfl
theorem q1723 : (Jvm.Cond.instanceMethod ({ cls := "TransportPair$Hash", name := "end", desc := "([BI)V" } : Jvm.MethodName)) ∈ lw_all := lw_g (lw_at lw_m7 37 rfl) rfl
theorem q1724 : (Jvm.Cond.selects "TransportPair$Hash" ({ cls := "TransportPair$Hash", name := "end", desc := "([BI)V" } : Jvm.MethodName) ({ cls := "TransportPair$Hash", name := "end", desc := "([BI)V" } : Jvm.MethodName)) ∈ lw_all := lw_g (lw_at lw_m7 38 rfl) rfl
theorem q1725 : (Jvm.Cond.code ({ cls := "TransportPair$Hash", name := "end", desc := "([BI)V" } : Jvm.MethodName) prog_13_method_5_code (4 : Nat) (Option.none : Option Jvm.ClassFile.FieldType)) ∈ lw_all := lw_g (lw_at lw_m7 39 rfl) rfl
theorem q1726 : (Jvm.Cond.constantLong "TransportPair$Hash" (46 : Nat) (8 : Int64)) ∈ lw_all := lw_g (lw_at lw_m7 40 rfl) rfl
theorem q1727 : (Jvm.Cond.methodLink "TransportPair$Mac" (39 : Nat) ({ cls := "TransportPair$Mac", name := "turn", desc := "(I)V" } : Jvm.MethodName)) ∈ lw_all := lw_g (lw_at lw_m7 41 rfl) rfl
theorem q1729 : (Jvm.Cond.instanceMethod ({ cls := "TransportPair$Mac", name := "turn", desc := "(I)V" } : Jvm.MethodName)) ∈ lw_all := lw_g (lw_at lw_m7 43 rfl) rfl
theorem q1730 : (Jvm.Cond.code ({ cls := "TransportPair$Mac", name := "turn", desc := "(I)V" } : Jvm.MethodName) prog_18_method_3_code (3 : Nat) (Option.none : Option Jvm.ClassFile.FieldType)) ∈ lw_all := lw_g (lw_at lw_m7 44 rfl) rfl
theorem q1731 : (Jvm.Cond.methodLink "TransportPair$Greeting" (108 : Nat) ({ cls := "TransportPair$Mac", name := "add", desc := "([BII)V" } : Jvm.MethodName)) ∈ lw_all := lw_g (lw_at lw_m7 45 rfl) rfl
theorem q1732 : (Jvm.Cond.instanceMethod ({ cls := "TransportPair$Mac", name := "add", desc := "([BII)V" } : Jvm.MethodName)) ∈ lw_all := lw_g (lw_at lw_m7 46 rfl) rfl
theorem q1733 : (Jvm.Cond.selects "TransportPair$Mac" ({ cls := "TransportPair$Mac", name := "add", desc := "([BII)V" } : Jvm.MethodName) ({ cls := "TransportPair$Mac", name := "add", desc := "([BII)V" } : Jvm.MethodName)) ∈ lw_all := lw_g (lw_at lw_m7 47 rfl) rfl
theorem q1734 : (Jvm.Cond.code ({ cls := "TransportPair$Mac", name := "add", desc := "([BII)V" } : Jvm.MethodName) prog_18_method_4_code (4 : Nat) (Option.none : Option Jvm.ClassFile.FieldType)) ∈ lw_all := lw_g (lw_at lw_m7 48 rfl) rfl
theorem q1735 : (Jvm.Cond.methodLink "TransportPair$Greeting" (109 : Nat) ({ cls := "TransportPair$Mac", name := "end", desc := "([BI)V" } : Jvm.MethodName)) ∈ lw_all := lw_g (lw_at lw_m7 49 rfl) rfl
theorem q1736 : (Jvm.Cond.instanceMethod ({ cls := "TransportPair$Mac", name := "end", desc := "([BI)V" } : Jvm.MethodName)) ∈ lw_all := lw_g (lw_at lw_m7 50 rfl) rfl
theorem q1737 : (Jvm.Cond.selects "TransportPair$Mac" ({ cls := "TransportPair$Mac", name := "end", desc := "([BI)V" } : Jvm.MethodName) ({ cls := "TransportPair$Mac", name := "end", desc := "([BI)V" } : Jvm.MethodName)) ∈ lw_all := lw_g (lw_at lw_m7 51 rfl) rfl
theorem q1738 : (Jvm.Cond.code ({ cls := "TransportPair$Mac", name := "end", desc := "([BI)V" } : Jvm.MethodName) prog_18_method_5_code (3 : Nat) (Option.none : Option Jvm.ClassFile.FieldType)) ∈ lw_all := lw_g (lw_at lw_m7 52 rfl) rfl
theorem q1739 : (Jvm.Cond.methodLink "TransportPair$Greeting" (117 : Nat) ({ cls := "java/lang/System", name := "arraycopy", desc := "(Ljava/lang/Object;ILjava/lang/Object;II)V" } : Jvm.MethodName)) ∈ lw_all := lw_g (lw_at lw_m7 53 rfl) rfl
theorem q1740 : (Jvm.Cond.fieldLink "TransportPair$Greeting" (123 : Nat) "TransportPair$Label" "FIRST_A" "LTransportPair$Label;") ∈ lw_all := lw_g (lw_at lw_m7 54 rfl) rfl
theorem q1742 : (Jvm.Cond.fieldLink "TransportPair$Greeting" (129 : Nat) "TransportPair$Label" "FIRST_B" "LTransportPair$Label;") ∈ lw_all := lw_g (lw_at lw_m7 56 rfl) rfl
theorem q1744 : (Jvm.Cond.methodLink "TransportPair$Greeting" (132 : Nat) ({ cls := "TransportPair$Greeting", name := "secrets", desc := "(I[BLTransportPair$Label;LTransportPair$Label;[BI)V" } : Jvm.MethodName)) ∈ lw_all := lw_g (lw_at lw_m7 58 rfl) rfl
theorem q1746 : (Jvm.Cond.instanceMethod ({ cls := "TransportPair$Greeting", name := "secrets", desc := "(I[BLTransportPair$Label;LTransportPair$Label;[BI)V" } : Jvm.MethodName)) ∈ lw_all := lw_g (lw_at lw_m7 60 rfl) rfl
theorem q1747 : (Jvm.Cond.code ({ cls := "TransportPair$Greeting", name := "secrets", desc := "(I[BLTransportPair$Label;LTransportPair$Label;[BI)V" } : Jvm.MethodName) prog_10_method_4_code (7 : Nat) (Option.none : Option Jvm.ClassFile.FieldType)) ∈ lw_all := lw_g (lw_at lw_m7 61 rfl) rfl
theorem q1748 : (Jvm.Cond.methodLink "TransportPair$Greeting" (110 : Nat) ({ cls := "TransportPair$Stretch", name := "label", desc := "([BILTransportPair$Label;[BI[BI)V" } : Jvm.MethodName)) ∈ lw_all := lw_g (lw_at lw_m7 62 rfl) rfl
theorem q1749 : (Jvm.Cond.instanceMethod ({ cls := "TransportPair$Stretch", name := "label", desc := "([BILTransportPair$Label;[BI[BI)V" } : Jvm.MethodName)) ∈ lw_all := lw_g (lw_at lw_m7 63 rfl) rfl
theorem q1750 : (Jvm.Cond.selects "TransportPair$Stretch" ({ cls := "TransportPair$Stretch", name := "label", desc := "([BILTransportPair$Label;[BI[BI)V" } : Jvm.MethodName) ({ cls := "TransportPair$Stretch", name := "label", desc := "([BILTransportPair$Label;[BI[BI)V" } : Jvm.MethodName)) ∈ lw_all := lw_g (lw_at lw_m7 64 rfl) rfl
theorem q1751 : (Jvm.Cond.code ({ cls := "TransportPair$Stretch", name := "label", desc := "([BILTransportPair$Label;[BI[BI)V" } : Jvm.MethodName) prog_29_method_3_code (10 : Nat) (Option.none : Option Jvm.ClassFile.FieldType)) ∈ lw_all := lw_g (lw_at lw_m7 65 rfl) rfl
theorem q1752 : (Jvm.Cond.methodLink "TransportPair$Stretch" (57 : Nat) ({ cls := "java/lang/String", name := "length", desc := "()I" } : Jvm.MethodName)) ∈ lw_all := lw_g (lw_at lw_m7 66 rfl) rfl
theorem q1753 : (Jvm.Cond.instanceMethod ({ cls := "java/lang/String", name := "length", desc := "()I" } : Jvm.MethodName)) ∈ lw_all := lw_g (lw_at lw_m7 67 rfl) rfl
theorem q1754 : (Jvm.Cond.selects "java/lang/String" ({ cls := "java/lang/String", name := "length", desc := "()I" } : Jvm.MethodName) ({ cls := "java/lang/String", name := "length", desc := "()I" } : Jvm.MethodName)) ∈ lw_all := lw_g (lw_at lw_m7 68 rfl) rfl
theorem q1755 : (Jvm.Cond.code ({ cls := "java/lang/String", name := "length", desc := "()I" } : Jvm.MethodName) prog_53_method_54_code (1 : Nat) (Option.some Jvm.ClassFile.FieldType.int)) ∈ lw_all := lw_g (lw_at lw_m7 69 rfl) rfl
theorem q1756 : (Jvm.Cond.methodLink "java/lang/String" (335 : Nat) ({ cls := "java/lang/String", name := "coder", desc := "()B" } : Jvm.MethodName)) ∈ lw_all := lw_g (lw_at lw_m7 70 rfl) rfl
theorem q1757 : (Jvm.Cond.instanceMethod ({ cls := "java/lang/String", name := "coder", desc := "()B" } : Jvm.MethodName)) ∈ lw_all := lw_g (lw_at lw_m7 71 rfl) rfl
theorem q1758 : (Jvm.Cond.selects "java/lang/String" ({ cls := "java/lang/String", name := "coder", desc := "()B" } : Jvm.MethodName) ({ cls := "java/lang/String", name := "coder", desc := "()B" } : Jvm.MethodName)) ∈ lw_all := lw_g (lw_at lw_m7 72 rfl) rfl
theorem q1759 : (Jvm.Cond.code ({ cls := "java/lang/String", name := "coder", desc := "()B" } : Jvm.MethodName) prog_53_method_152_code (1 : Nat) (Option.some Jvm.ClassFile.FieldType.byte)) ∈ lw_all := lw_g (lw_at lw_m7 73 rfl) rfl
theorem q1760 : (Jvm.Cond.fieldLink "java/lang/String" (38 : Nat) "java/lang/String" "COMPACT_STRINGS" "Z") ∈ lw_all := lw_g (lw_at lw_m7 74 rfl) rfl
theorem q1762 : (Jvm.Cond.methodLink "TransportPair$Stretch" (63 : Nat) ({ cls := "java/lang/String", name := "charAt", desc := "(I)C" } : Jvm.MethodName)) ∈ lw_all := lw_g (lw_at lw_m7 76 rfl) rfl
theorem q1763 : (Jvm.Cond.instanceMethod ({ cls := "java/lang/String", name := "charAt", desc := "(I)C" } : Jvm.MethodName)) ∈ lw_all := lw_g (lw_at lw_m7 77 rfl) rfl
theorem q1764 : (Jvm.Cond.selects "java/lang/String" ({ cls := "java/lang/String", name := "charAt", desc := "(I)C" } : Jvm.MethodName) ({ cls := "java/lang/String", name := "charAt", desc := "(I)C" } : Jvm.MethodName)) ∈ lw_all := lw_g (lw_at lw_m7 78 rfl) rfl
theorem q1765 : (Jvm.Cond.code ({ cls := "java/lang/String", name := "charAt", desc := "(I)C" } : Jvm.MethodName) prog_53_method_56_code (2 : Nat) (Option.some Jvm.ClassFile.FieldType.char)) ∈ lw_all := lw_g (lw_at lw_m7 79 rfl) rfl
theorem q1766 : (Jvm.Cond.methodLink "java/lang/String" (492 : Nat) ({ cls := "java/lang/String", name := "isLatin1", desc := "()Z" } : Jvm.MethodName)) ∈ lw_all := lw_g (lw_at lw_m7 80 rfl) rfl
theorem q1767 : (Jvm.Cond.instanceMethod ({ cls := "java/lang/String", name := "isLatin1", desc := "()Z" } : Jvm.MethodName)) ∈ lw_all := lw_g (lw_at lw_m7 81 rfl) rfl
theorem q1768 : (Jvm.Cond.selects "java/lang/String" ({ cls := "java/lang/String", name := "isLatin1", desc := "()Z" } : Jvm.MethodName) ({ cls := "java/lang/String", name := "isLatin1", desc := "()Z" } : Jvm.MethodName)) ∈ lw_all := lw_g (lw_at lw_m7 82 rfl) rfl
theorem q1769 : (Jvm.Cond.code ({ cls := "java/lang/String", name := "isLatin1", desc := "()Z" } : Jvm.MethodName) prog_53_method_154_code (1 : Nat) (Option.some Jvm.ClassFile.FieldType.boolean)) ∈ lw_all := lw_g (lw_at lw_m7 83 rfl) rfl
theorem q1770 : (Jvm.Cond.methodLink "java/lang/String" (495 : Nat) ({ cls := "java/lang/StringLatin1", name := "charAt", desc := "([BI)C" } : Jvm.MethodName)) ∈ lw_all := lw_g (lw_at lw_m7 84 rfl) rfl
theorem q1771 : (Jvm.Cond.static ({ cls := "java/lang/StringLatin1", name := "charAt", desc := "([BI)C" } : Jvm.MethodName)) ∈ lw_all := lw_g (lw_at lw_m7 85 rfl) rfl
theorem q1772 : (Jvm.Cond.code ({ cls := "java/lang/StringLatin1", name := "charAt", desc := "([BI)C" } : Jvm.MethodName) prog_54_method_2_code (2 : Nat) (Option.some Jvm.ClassFile.FieldType.char)) ∈ lw_all := lw_g (lw_at lw_m7 86 rfl) rfl
theorem q1773 : (Jvm.Cond.methodLink "java/lang/StringLatin1" (9 : Nat) ({ cls := "java/lang/String", name := "checkIndex", desc := "(II)V" } : Jvm.MethodName)) ∈ lw_all := lw_g (lw_at lw_m7 87 rfl) rfl
theorem q1774 : (Jvm.Cond.static ({ cls := "java/lang/String", name := "checkIndex", desc := "(II)V" } : Jvm.MethodName)) ∈ lw_all := lw_g (lw_at lw_m7 88 rfl) rfl
theorem q1775 : (Jvm.Cond.code ({ cls := "java/lang/String", name := "checkIndex", desc := "(II)V" } : Jvm.MethodName) prog_53_method_155_code (2 : Nat) (Option.none : Option Jvm.ClassFile.FieldType)) ∈ lw_all := lw_g (lw_at lw_m7 89 rfl) rfl
theorem q1776 : (Jvm.Cond.fieldLink "java/lang/String" (1053 : Nat) "jdk/internal/util/Preconditions" "SIOOBE_FORMATTER" "Ljava/util/function/BiFunction;") ∈ lw_all := lw_g (lw_at lw_m7 90 rfl) rfl
theorem q1778 : (Jvm.Cond.methodLink "java/lang/String" (1059 : Nat) ({ cls := "jdk/internal/util/Preconditions", name := "checkIndex", desc := "(IILjava/util/function/BiFunction;)I" } : Jvm.MethodName)) ∈ lw_all := lw_g (lw_at lw_m7 92 rfl) rfl
theorem q1779 : (Jvm.Cond.static ({ cls := "jdk/internal/util/Preconditions", name := "checkIndex", desc := "(IILjava/util/function/BiFunction;)I" } : Jvm.MethodName)) ∈ lw_all := lw_g (lw_at lw_m7 93 rfl) rfl
theorem q1780 : (Jvm.Cond.code ({ cls := "jdk/internal/util/Preconditions", name := "checkIndex", desc := "(IILjava/util/function/BiFunction;)I" } : Jvm.MethodName) prog_60_method_11_code (3 : Nat) (Option.some Jvm.ClassFile.FieldType.int)) ∈ lw_all := lw_g (lw_at lw_m7 94 rfl) rfl
theorem q1800 : (Jvm.Cond.methodLink "TransportPair$Stretch" (45 : Nat) ({ cls := "java/lang/System", name := "arraycopy", desc := "(Ljava/lang/Object;ILjava/lang/Object;II)V" } : Jvm.MethodName)) ∈ lw_all := lw_g (lw_at lw_m7 114 rfl) rfl
theorem q1801 : (Jvm.Cond.methodLink "TransportPair$Stretch" (67 : Nat) ({ cls := "TransportPair$Stretch", name := "stretch", desc := "([BI[BI[BI)V" } : Jvm.MethodName)) ∈ lw_all := lw_g (lw_at lw_m7 115 rfl) rfl
theorem q1802 : (Jvm.Cond.instanceMethod ({ cls := "TransportPair$Stretch", name := "stretch", desc := "([BI[BI[BI)V" } : Jvm.MethodName)) ∈ lw_all := lw_g (lw_at lw_m7 116 rfl) rfl
theorem q1803 : (Jvm.Cond.selects "TransportPair$Stretch" ({ cls := "TransportPair$Stretch", name := "stretch", desc := "([BI[BI[BI)V" } : Jvm.MethodName) ({ cls := "TransportPair$Stretch", name := "stretch", desc := "([BI[BI[BI)V" } : Jvm.MethodName)) ∈ lw_all := lw_g (lw_at lw_m7 117 rfl) rfl
theorem q1804 : (Jvm.Cond.code ({ cls := "TransportPair$Stretch", name := "stretch", desc := "([BI[BI[BI)V" } : Jvm.MethodName) prog_29_method_2_code (10 : Nat) (Option.none : Option Jvm.ClassFile.FieldType)) ∈ lw_all := lw_g (lw_at lw_m7 118 rfl) rfl
theorem q1805 : (Jvm.Cond.methodLink "TransportPair$Stretch" (28 : Nat) ({ cls := "TransportPair$Mac", name := "begin", desc := "([BI)V" } : Jvm.MethodName)) ∈ lw_all := lw_g (lw_at lw_m7 119 rfl) rfl
theorem q1806 : (Jvm.Cond.methodLink "TransportPair$Stretch" (32 : Nat) ({ cls := "TransportPair$Mac", name := "add", desc := "([BII)V" } : Jvm.MethodName)) ∈ lw_all := lw_g (lw_at lw_m7 120 rfl) rfl
theorem q1807 : (Jvm.Cond.methodLink "TransportPair$Stretch" (36 : Nat) ({ cls := "TransportPair$Mac", name := "end", desc := "([BI)V" } : Jvm.MethodName)) ∈ lw_all := lw_g (lw_at lw_m7 121 rfl) rfl
theorem q1808 : (Jvm.Cond.methodLink "TransportPair$Stretch" (39 : Nat) ({ cls := "java/lang/Math", name := "min", desc := "(II)I" } : Jvm.MethodName)) ∈ lw_all := lw_g (lw_at lw_m7 122 rfl) rfl
theorem q1809 : (Jvm.Cond.static ({ cls := "java/lang/Math", name := "min", desc := "(II)I" } : Jvm.MethodName)) ∈ lw_all := lw_g (lw_at lw_m7 123 rfl) rfl
theorem q1810 : (Jvm.Cond.code ({ cls := "java/lang/Math", name := "min", desc := "(II)I" } : Jvm.MethodName) prog_51_method_69_code (2 : Nat) (Option.some Jvm.ClassFile.FieldType.int)) ∈ lw_all := lw_g (lw_at lw_m7 124 rfl) rfl
theorem q1811 : (Jvm.Cond.methodLink "TransportPair$Side" (196 : Nat) ({ cls := "TransportPair$Side", name := "arm", desc := "(I)V" } : Jvm.MethodName)) ∈ lw_all := lw_g (lw_at lw_m7 125 rfl) rfl
theorem q1813 : (Jvm.Cond.instanceMethod ({ cls := "TransportPair$Side", name := "arm", desc := "(I)V" } : Jvm.MethodName)) ∈ lw_all := lw_g (lw_at lw_m7 127 rfl) rfl
theorem q1814 : (Jvm.Cond.code ({ cls := "TransportPair$Side", name := "arm", desc := "(I)V" } : Jvm.MethodName) prog_25_method_8_code (2 : Nat) (Option.none : Option Jvm.ClassFile.FieldType)) ∈ lw_all := lw_g (lw_at lw_m7 128 rfl) rfl
theorem q1815 : (Jvm.Cond.methodLink "TransportPair$Side" (205 : Nat) ({ cls := "TransportPair$Guard", name := "arm", desc := "([BLTransportPair$Bench;)V" } : Jvm.MethodName)) ∈ lw_all := lw_g (lw_at lw_m7 129 rfl) rfl
theorem q1816 : (Jvm.Cond.instanceMethod ({ cls := "TransportPair$Guard", name := "arm", desc := "([BLTransportPair$Bench;)V" } : Jvm.MethodName)) ∈ lw_all := lw_g (lw_at lw_m7 130 rfl) rfl
theorem q1817 : (Jvm.Cond.selects "TransportPair$Guard" ({ cls := "TransportPair$Guard", name := "arm", desc := "([BLTransportPair$Bench;)V" } : Jvm.MethodName) ({ cls := "TransportPair$Guard", name := "arm", desc := "([BLTransportPair$Bench;)V" } : Jvm.MethodName)) ∈ lw_all := lw_g (lw_at lw_m7 131 rfl) rfl
theorem q1818 : (Jvm.Cond.code ({ cls := "TransportPair$Guard", name := "arm", desc := "([BLTransportPair$Bench;)V" } : Jvm.MethodName) prog_11_method_3_code (3 : Nat) (Option.none : Option Jvm.ClassFile.FieldType)) ∈ lw_all := lw_g (lw_at lw_m7 132 rfl) rfl
theorem q1819 : (Jvm.Cond.methodLink "TransportPair$Guard" (48 : Nat) ({ cls := "java/lang/System", name := "arraycopy", desc := "(Ljava/lang/Object;ILjava/lang/Object;II)V" } : Jvm.MethodName)) ∈ lw_all := lw_g (lw_at lw_m7 133 rfl) rfl
theorem q1820 : (Jvm.Cond.methodLink "TransportPair$Guard" (54 : Nat) ({ cls := "TransportPair$Guard", name := "makeKeys", desc := "(LTransportPair$Bench;)V" } : Jvm.MethodName)) ∈ lw_all := lw_g (lw_at lw_m7 134 rfl) rfl
theorem q1822 : (Jvm.Cond.instanceMethod ({ cls := "TransportPair$Guard", name := "makeKeys", desc := "(LTransportPair$Bench;)V" } : Jvm.MethodName)) ∈ lw_all := lw_g (lw_at lw_m7 136 rfl) rfl
theorem q1823 : (Jvm.Cond.code ({ cls := "TransportPair$Guard", name := "makeKeys", desc := "(LTransportPair$Bench;)V" } : Jvm.MethodName) prog_11_method_2_code (2 : Nat) (Option.none : Option Jvm.ClassFile.FieldType)) ∈ lw_all := lw_g (lw_at lw_m7 137 rfl) rfl
theorem q1824 : (Jvm.Cond.fieldLink "TransportPair$Guard" (30 : Nat) "TransportPair$Label" "KEY" "LTransportPair$Label;") ∈ lw_all := lw_g (lw_at lw_m7 138 rfl) rfl
theorem q1826 : (Jvm.Cond.methodLink "TransportPair$Guard" (39 : Nat) ({ cls := "TransportPair$Stretch", name := "label", desc := "([BILTransportPair$Label;[BI[BI)V" } : Jvm.MethodName)) ∈ lw_all := lw_g (lw_at lw_m7 140 rfl) rfl
theorem q1827 : (Jvm.Cond.fieldLink "TransportPair$Guard" (45 : Nat) "TransportPair$Label" "IV" "LTransportPair$Label;") ∈ lw_all := lw_g (lw_at lw_m7 141 rfl) rfl
theorem q1829 : (Jvm.Cond.fieldLink "TransportPair$Guard" (58 : Nat) "TransportPair$Label" "HIDE" "LTransportPair$Label;") ∈ lw_all := lw_g (lw_at lw_m7 143 rfl) rfl
theorem q1831 : (Jvm.Cond.methodLink "TransportPair$Side" (212 : Nat) ({ cls := "TransportPair$Side", name := "tell", desc := "()V" } : Jvm.MethodName)) ∈ lw_all := lw_g (lw_at lw_m7 145 rfl) rfl
theorem q1833 : (Jvm.Cond.instanceMethod ({ cls := "TransportPair$Side", name := "tell", desc := "()V" } : Jvm.MethodName)) ∈ lw_all := lw_g (lw_at lw_m7 147 rfl) rfl
theorem q1834 : (Jvm.Cond.code ({ cls := "TransportPair$Side", name := "tell", desc := "()V" } : Jvm.MethodName) prog_25_method_4_code (4 : Nat) (Option.none : Option Jvm.ClassFile.FieldType)) ∈ lw_all := lw_g (lw_at lw_m7 148 rfl) rfl
theorem q1835 : (Jvm.Cond.methodLink "TransportPair$Side" (151 : Nat) ({ cls := "TransportPair$Bytes", name := "over", desc := "([BII)V" } : Jvm.MethodName)) ∈ lw_all := lw_g (lw_at lw_m7 149 rfl) rfl
theorem q1836 : (Jvm.Cond.instanceMethod ({ cls := "TransportPair$Bytes", name := "over", desc := "([BII)V" } : Jvm.MethodName)) ∈ lw_all := lw_g (lw_at lw_m7 150 rfl) rfl
theorem q1837 : (Jvm.Cond.selects "TransportPair$Bytes" ({ cls := "TransportPair$Bytes", name := "over", desc := "([BII)V" } : Jvm.MethodName) ({ cls := "TransportPair$Bytes", name := "over", desc := "([BII)V" } : Jvm.MethodName)) ∈ lw_all := lw_g (lw_at lw_m7 151 rfl) rfl
theorem q1838 : (Jvm.Cond.code ({ cls := "TransportPair$Bytes", name := "over", desc := "([BII)V" } : Jvm.MethodName) prog_5_method_2_code (4 : Nat) (Option.none : Option Jvm.ClassFile.FieldType)) ∈ lw_all := lw_g (lw_at lw_m7 152 rfl) rfl
theorem q1839 : (Jvm.Cond.methodLink "TransportPair$Side" (155 : Nat) ({ cls := "TransportPair$Side", name := "put", desc := "(II)V" } : Jvm.MethodName)) ∈ lw_all := lw_g (lw_at lw_m7 153 rfl) rfl
theorem q1841 : (Jvm.Cond.instanceMethod ({ cls := "TransportPair$Side", name := "put", desc := "(II)V" } : Jvm.MethodName)) ∈ lw_all := lw_g (lw_at lw_m7 155 rfl) rfl
theorem q1842 : (Jvm.Cond.code ({ cls := "TransportPair$Side", name := "put", desc := "(II)V" } : Jvm.MethodName) prog_25_method_5_code (3 : Nat) (Option.none : Option Jvm.ClassFile.FieldType)) ∈ lw_all := lw_g (lw_at lw_m7 156 rfl) rfl
theorem q1843 : (Jvm.Cond.methodLink "TransportPair$Side" (165 : Nat) ({ cls := "TransportPair$Bytes", name := "putNumber", desc := "(J)V" } : Jvm.MethodName)) ∈ lw_all := lw_g (lw_at lw_m7 157 rfl) rfl
theorem q1844 : (Jvm.Cond.instanceMethod ({ cls := "TransportPair$Bytes", name := "putNumber", desc := "(J)V" } : Jvm.MethodName)) ∈ lw_all := lw_g (lw_at lw_m7 158 rfl) rfl
theorem q1845 : (Jvm.Cond.selects "TransportPair$Bytes" ({ cls := "TransportPair$Bytes", name := "putNumber", desc := "(J)V" } : Jvm.MethodName) ({ cls := "TransportPair$Bytes", name := "putNumber", desc := "(J)V" } : Jvm.MethodName)) ∈ lw_all := lw_g (lw_at lw_m7 159 rfl) rfl
theorem q1846 : (Jvm.Cond.code ({ cls := "TransportPair$Bytes", name := "putNumber", desc := "(J)V" } : Jvm.MethodName) prog_5_method_12_code (3 : Nat) (Option.none : Option Jvm.ClassFile.FieldType)) ∈ lw_all := lw_g (lw_at lw_m7 160 rfl) rfl
theorem q1847 : (Jvm.Cond.methodLink "TransportPair$Bytes" (42 : Nat) ({ cls := "TransportPair$Bytes", name := "sizeOf", desc := "(J)I" } : Jvm.MethodName)) ∈ lw_all := lw_g (lw_at lw_m7 161 rfl) rfl
theorem q1848 : (Jvm.Cond.static ({ cls := "TransportPair$Bytes", name := "sizeOf", desc := "(J)I" } : Jvm.MethodName)) ∈ lw_all := lw_g (lw_at lw_m7 162 rfl) rfl
theorem q1849 : (Jvm.Cond.code ({ cls := "TransportPair$Bytes", name := "sizeOf", desc := "(J)I" } : Jvm.MethodName) prog_5_method_11_code (2 : Nat) (Option.some Jvm.ClassFile.FieldType.int)) ∈ lw_all := lw_g (lw_at lw_m7 163 rfl) rfl
theorem q1850 : (Jvm.Cond.constantLong "TransportPair$Bytes" (36 : Nat) (64 : Int64)) ∈ lw_all := lw_g (lw_at lw_m7 164 rfl) rfl
theorem q1851 : (Jvm.Cond.constantLong "TransportPair$Bytes" (38 : Nat) (16384 : Int64)) ∈ lw_all := lw_g (lw_at lw_m7 165 rfl) rfl
theorem q1852 : (Jvm.Cond.constantLong "TransportPair$Bytes" (40 : Nat) (1073741824 : Int64)) ∈ lw_all := lw_g (lw_at lw_m7 166 rfl) rfl
theorem q1853 : (Jvm.Cond.methodLink "TransportPair$Bytes" (46 : Nat) ({ cls := "TransportPair$Bytes", name := "putSized", desc := "(JI)V" } : Jvm.MethodName)) ∈ lw_all := lw_g (lw_at lw_m7 167 rfl) rfl
theorem q1854 : (Jvm.Cond.instanceMethod ({ cls := "TransportPair$Bytes", name := "putSized", desc := "(JI)V" } : Jvm.MethodName)) ∈ lw_all := lw_g (lw_at lw_m7 168 rfl) rfl
theorem q1855 : (Jvm.Cond.selects "TransportPair$Bytes" ({ cls := "TransportPair$Bytes", name := "putSized", desc := "(JI)V" } : Jvm.MethodName) ({ cls := "TransportPair$Bytes", name := "putSized", desc := "(JI)V" } : Jvm.MethodName)) ∈ lw_all := lw_g (lw_at lw_m7 169 rfl) rfl
theorem q1856 : (Jvm.Cond.code ({ cls := "TransportPair$Bytes", name := "putSized", desc := "(JI)V" } : Jvm.MethodName) prog_5_method_13_code (5 : Nat) (Option.none : Option Jvm.ClassFile.FieldType)) ∈ lw_all := lw_g (lw_at lw_m7 170 rfl) rfl
theorem q1857 : (Jvm.Cond.methodLink "TransportPair$Bytes" (50 : Nat) ({ cls := "TransportPair$Bytes", name := "putMany", desc := "(JI)V" } : Jvm.MethodName)) ∈ lw_all := lw_g (lw_at lw_m7 171 rfl) rfl
theorem q1858 : (Jvm.Cond.instanceMethod ({ cls := "TransportPair$Bytes", name := "putMany", desc := "(JI)V" } : Jvm.MethodName)) ∈ lw_all := lw_g (lw_at lw_m7 172 rfl) rfl
theorem q1859 : (Jvm.Cond.selects "TransportPair$Bytes" ({ cls := "TransportPair$Bytes", name := "putMany", desc := "(JI)V" } : Jvm.MethodName) ({ cls := "TransportPair$Bytes", name := "putMany", desc := "(JI)V" } : Jvm.MethodName)) ∈ lw_all := lw_g (lw_at lw_m7 173 rfl) rfl
theorem q1860 : (Jvm.Cond.code ({ cls := "TransportPair$Bytes", name := "putMany", desc := "(JI)V" } : Jvm.MethodName) prog_5_method_10_code (5 : Nat) (Option.none : Option Jvm.ClassFile.FieldType)) ∈ lw_all := lw_g (lw_at lw_m7 174 rfl) rfl
theorem q1861 : (Jvm.Cond.methodLink "TransportPair$Bytes" (26 : Nat) ({ cls := "TransportPair$Bytes", name := "step", desc := "(I)Z" } : Jvm.MethodName)) ∈ lw_all := lw_g (lw_at lw_m7 175 rfl) rfl
theorem q1863 : (Jvm.Cond.instanceMethod ({ cls := "TransportPair$Bytes", name := "step", desc := "(I)Z" } : Jvm.MethodName)) ∈ lw_all := lw_g (lw_at lw_m7 177 rfl) rfl
theorem q1864 : (Jvm.Cond.code ({ cls := "TransportPair$Bytes", name := "step", desc := "(I)Z" } : Jvm.MethodName) prog_5_method_4_code (2 : Nat) (Option.some Jvm.ClassFile.FieldType.boolean)) ∈ lw_all := lw_g (lw_at lw_m7 178 rfl) rfl
theorem q1865 : (Jvm.Cond.constantLong "TransportPair$Side" (179 : Nat) (8 : Int64)) ∈ lw_all := lw_g (lw_at lw_m7 179 rfl) rfl
theorem q1866 : (Jvm.Cond.methodLink "TransportPair$Side" (181 : Nat) ({ cls := "TransportPair$Bytes", name := "putRow", desc := "([BII)V" } : Jvm.MethodName)) ∈ lw_all := lw_g (lw_at lw_m7 180 rfl) rfl
theorem q1867 : (Jvm.Cond.instanceMethod ({ cls := "TransportPair$Bytes", name := "putRow", desc := "([BII)V" } : Jvm.MethodName)) ∈ lw_all := lw_g (lw_at lw_m7 181 rfl) rfl
theorem q1868 : (Jvm.Cond.selects "TransportPair$Bytes" ({ cls := "TransportPair$Bytes", name := "putRow", desc := "([BII)V" } : Jvm.MethodName) ({ cls := "TransportPair$Bytes", name := "putRow", desc := "([BII)V" } : Jvm.MethodName)) ∈ lw_all := lw_g (lw_at lw_m7 182 rfl) rfl
theorem q1869 : (Jvm.Cond.code ({ cls := "TransportPair$Bytes", name := "putRow", desc := "([BII)V" } : Jvm.MethodName) prog_5_method_14_code (5 : Nat) (Option.none : Option Jvm.ClassFile.FieldType)) ∈ lw_all := lw_g (lw_at lw_m7 183 rfl) rfl
theorem q1870 : (Jvm.Cond.constantLong "TransportPair$Side" (159 : Nat) (1200 : Int64)) ∈ lw_all := lw_g (lw_at lw_m7 184 rfl) rfl
theorem q1871 : (Jvm.Cond.constantLong "TransportPair$Side" (161 : Nat) (2 : Int64)) ∈ lw_all := lw_g (lw_at lw_m7 185 rfl) rfl
theorem q1872 : (Jvm.Cond.constantLong "TransportPair$Side" (163 : Nat) (-1 : Int64)) ∈ lw_all := lw_g (lw_at lw_m7 186 rfl) rfl
theorem q1873 : (Jvm.Cond.methodLink "TransportPair$Side" (169 : Nat) ({ cls := "TransportPair$Bytes", name := "sizeOf", desc := "(J)I" } : Jvm.MethodName)) ∈ lw_all := lw_g (lw_at lw_m7 187 rfl) rfl
theorem q1874 : (Jvm.Cond.methodLink "TransportPair$Side" (215 : Nat) ({ cls := "TransportPair$Greeting", name := "begin", desc := "()V" } : Jvm.MethodName)) ∈ lw_all := lw_g (lw_at lw_m7 188 rfl) rfl
theorem q1875 : (Jvm.Cond.instanceMethod ({ cls := "TransportPair$Greeting", name := "begin", desc := "()V" } : Jvm.MethodName)) ∈ lw_all := lw_g (lw_at lw_m7 189 rfl) rfl
theorem q1876 : (Jvm.Cond.selects "TransportPair$Greeting" ({ cls := "TransportPair$Greeting", name := "begin", desc := "()V" } : Jvm.MethodName) ({ cls := "TransportPair$Greeting", name := "begin", desc := "()V" } : Jvm.MethodName)) ∈ lw_all := lw_g (lw_at lw_m7 190 rfl) rfl
theorem q1877 : (Jvm.Cond.code ({ cls := "TransportPair$Greeting", name := "begin", desc := "()V" } : Jvm.MethodName) prog_10_method_9_code (1 : Nat) (Option.none : Option Jvm.ClassFile.FieldType)) ∈ lw_all := lw_g (lw_at lw_m7 191 rfl) rfl
theorem q1878 : (Jvm.Cond.methodLink "TransportPair$Greeting" (162 : Nat) ({ cls := "TransportPair$Greeting", name := "sends", desc := "(II[BI[BI)V" } : Jvm.MethodName)) ∈ lw_all := lw_g (lw_at lw_m7 192 rfl) rfl
theorem q1880 : (Jvm.Cond.instanceMethod ({ cls := "TransportPair$Greeting", name := "sends", desc := "(II[BI[BI)V" } : Jvm.MethodName)) ∈ lw_all := lw_g (lw_at lw_m7 194 rfl) rfl
theorem q1881 : (Jvm.Cond.code ({ cls := "TransportPair$Greeting", name := "sends", desc := "(II[BI[BI)V" } : Jvm.MethodName) prog_10_method_10_code (9 : Nat) (Option.none : Option Jvm.ClassFile.FieldType)) ∈ lw_all := lw_g (lw_at lw_m7 195 rfl) rfl
theorem q1882 : (Jvm.Cond.methodLink "TransportPair$Greeting" (166 : Nat) ({ cls := "TransportPair$Row", name := "put", desc := "(I)V" } : Jvm.MethodName)) ∈ lw_all := lw_g (lw_at lw_m7 196 rfl) rfl
theorem q1883 : (Jvm.Cond.instanceMethod ({ cls := "TransportPair$Row", name := "put", desc := "(I)V" } : Jvm.MethodName)) ∈ lw_all := lw_g (lw_at lw_m7 197 rfl) rfl
theorem q1884 : (Jvm.Cond.selects "TransportPair$Row" ({ cls := "TransportPair$Row", name := "put", desc := "(I)V" } : Jvm.MethodName) ({ cls := "TransportPair$Row", name := "put", desc := "(I)V" } : Jvm.MethodName)) ∈ lw_all := lw_g (lw_at lw_m7 198 rfl) rfl
theorem q1885 : (Jvm.Cond.code ({ cls := "TransportPair$Row", name := "put", desc := "(I)V" } : Jvm.MethodName) prog_23_method_3_code (2 : Nat) (Option.none : Option Jvm.ClassFile.FieldType)) ∈ lw_all := lw_g (lw_at lw_m7 199 rfl) rfl
theorem q1886 : (Jvm.Cond.methodLink "TransportPair$Greeting" (170 : Nat) ({ cls := "TransportPair$Row", name := "add", desc := "([BII)V" } : Jvm.MethodName)) ∈ lw_all := lw_g (lw_at lw_m7 200 rfl) rfl
theorem q1887 : (Jvm.Cond.instanceMethod ({ cls := "TransportPair$Row", name := "add", desc := "([BII)V" } : Jvm.MethodName)) ∈ lw_all := lw_g (lw_at lw_m7 201 rfl) rfl
theorem q1888 : (Jvm.Cond.selects "TransportPair$Row" ({ cls := "TransportPair$Row", name := "add", desc := "([BII)V" } : Jvm.MethodName) ({ cls := "TransportPair$Row", name := "add", desc := "([BII)V" } : Jvm.MethodName)) ∈ lw_all := lw_g (lw_at lw_m7 202 rfl) rfl
theorem q1889 : (Jvm.Cond.code ({ cls := "TransportPair$Row", name := "add", desc := "([BII)V" } : Jvm.MethodName) prog_23_method_2_code (4 : Nat) (Option.none : Option Jvm.ClassFile.FieldType)) ∈ lw_all := lw_g (lw_at lw_m7 203 rfl) rfl
theorem q1890 : (Jvm.Cond.methodLink "TransportPair$Row" (19 : Nat) ({ cls := "java/lang/System", name := "arraycopy", desc := "(Ljava/lang/Object;ILjava/lang/Object;II)V" } : Jvm.MethodName)) ∈ lw_all := lw_g (lw_at lw_m7 204 rfl) rfl
theorem q1891 : (Jvm.Cond.methodLink "TransportPairLaw" (145 : Nat) ({ cls := "TransportPairLaw", name := "open", desc := "(LTransportPair;IZ[J)I" } : Jvm.MethodName)) ∈ lw_all := lw_g (lw_at lw_m7 205 rfl) rfl
theorem q1892 : (Jvm.Cond.static ({ cls := "TransportPairLaw", name := "open", desc := "(LTransportPair;IZ[J)I" } : Jvm.MethodName)) ∈ lw_all := lw_g (lw_at lw_m7 206 rfl) rfl
theorem q1893 : (Jvm.Cond.codeWith ({ cls := "TransportPairLaw", name := "open", desc := "(LTransportPair;IZ[J)I" } : Jvm.MethodName) method_9_code (5 : Nat) (Option.some Jvm.ClassFile.FieldType.int) [((0 : Nat), (10 : Nat), (13 : Nat), (19 : Nat))]) ∈ lw_all := lw_g (lw_at lw_m7 207 rfl) rfl
theorem q1894 : (Jvm.Cond.methodLink "TransportPairLaw" (35 : Nat) ({ cls := "TransportPair", name := "open", desc := "(IZ)I" } : Jvm.MethodName)) ∈ lw_all := lw_g (lw_at lw_m7 208 rfl) rfl
theorem q1895 : (Jvm.Cond.instanceMethod ({ cls := "TransportPair", name := "open", desc := "(IZ)I" } : Jvm.MethodName)) ∈ lw_all := lw_g (lw_at lw_m7 209 rfl) rfl
theorem q1896 : (Jvm.Cond.selects "TransportPair" ({ cls := "TransportPair", name := "open", desc := "(IZ)I" } : Jvm.MethodName) ({ cls := "TransportPair", name := "open", desc := "(IZ)I" } : Jvm.MethodName)) ∈ lw_all := lw_g (lw_at lw_m7 210 rfl) rfl
theorem q1897 : (Jvm.Cond.code ({ cls := "TransportPair", name := "open", desc := "(IZ)I" } : Jvm.MethodName) prog_1_method_18_code (3 : Nat) (Option.some Jvm.ClassFile.FieldType.int)) ∈ lw_all := lw_g (lw_at lw_m7 211 rfl) rfl
theorem q1898 : (Jvm.Cond.methodLink "TransportPair" (132 : Nat) ({ cls := "TransportPair$Hall", name := "open", desc := "(Z)I" } : Jvm.MethodName)) ∈ lw_all := lw_g (lw_at lw_m7 212 rfl) rfl
theorem q1899 : (Jvm.Cond.instanceMethod ({ cls := "TransportPair$Hall", name := "open", desc := "(Z)I" } : Jvm.MethodName)) ∈ lw_all := lw_g (lw_at lw_m7 213 rfl) rfl
theorem q1900 : (Jvm.Cond.selects "TransportPair$Hall" ({ cls := "TransportPair$Hall", name := "open", desc := "(Z)I" } : Jvm.MethodName) ({ cls := "TransportPair$Hall", name := "open", desc := "(Z)I" } : Jvm.MethodName)) ∈ lw_all := lw_g (lw_at lw_m7 214 rfl) rfl
theorem q1901 : (Jvm.Cond.code ({ cls := "TransportPair$Hall", name := "open", desc := "(Z)I" } : Jvm.MethodName) prog_12_method_11_code (4 : Nat) (Option.some Jvm.ClassFile.FieldType.int)) ∈ lw_all := lw_g (lw_at lw_m7 215 rfl) rfl
theorem q1902 : (Jvm.Cond.methodLink "TransportPair$Hall" (121 : Nat) ({ cls := "TransportPair$Hall", name := "begin", desc := "(I)V" } : Jvm.MethodName)) ∈ lw_all := lw_g (lw_at lw_m7 216 rfl) rfl
theorem q1904 : (Jvm.Cond.instanceMethod ({ cls := "TransportPair$Hall", name := "begin", desc := "(I)V" } : Jvm.MethodName)) ∈ lw_all := lw_g (lw_at lw_m7 218 rfl) rfl
theorem q1905 : (Jvm.Cond.code ({ cls := "TransportPair$Hall", name := "begin", desc := "(I)V" } : Jvm.MethodName) prog_12_method_10_code (2 : Nat) (Option.none : Option Jvm.ClassFile.FieldType)) ∈ lw_all := lw_g (lw_at lw_m7 219 rfl) rfl
theorem q1906 : (Jvm.Cond.methodLink "TransportPair$Hall" (98 : Nat) ({ cls := "TransportPair$Hall", name := "isOneWay", desc := "(J)Z" } : Jvm.MethodName)) ∈ lw_all := lw_g (lw_at lw_m7 220 rfl) rfl
theorem q1907 : (Jvm.Cond.static ({ cls := "TransportPair$Hall", name := "isOneWay", desc := "(J)Z" } : Jvm.MethodName)) ∈ lw_all := lw_g (lw_at lw_m7 221 rfl) rfl
theorem q1908 : (Jvm.Cond.code ({ cls := "TransportPair$Hall", name := "isOneWay", desc := "(J)Z" } : Jvm.MethodName) prog_12_method_5_code (2 : Nat) (Option.some Jvm.ClassFile.FieldType.boolean)) ∈ lw_all := lw_g (lw_at lw_m7 222 rfl) rfl
theorem q1909 : (Jvm.Cond.constantLong "TransportPair$Hall" (96 : Nat) (2 : Int64)) ∈ lw_all := lw_g (lw_at lw_m7 223 rfl) rfl
theorem q1910 : (Jvm.Cond.methodLink "TransportPair$Hall" (102 : Nat) ({ cls := "TransportPair$Hall", name := "isOwn", desc := "(J)Z" } : Jvm.MethodName)) ∈ lw_all := lw_g (lw_at lw_m7 224 rfl) rfl
theorem q1912 : (Jvm.Cond.instanceMethod ({ cls := "TransportPair$Hall", name := "isOwn", desc := "(J)Z" } : Jvm.MethodName)) ∈ lw_all := lw_g (lw_at lw_m7 226 rfl) rfl
theorem q1913 : (Jvm.Cond.code ({ cls := "TransportPair$Hall", name := "isOwn", desc := "(J)Z" } : Jvm.MethodName) prog_12_method_4_code (3 : Nat) (Option.some Jvm.ClassFile.FieldType.boolean)) ∈ lw_all := lw_g (lw_at lw_m7 227 rfl) rfl
theorem q1914 : (Jvm.Cond.instantiable "TransportPair$Sending" (12 : Nat)) ∈ lw_all := lw_g (lw_at lw_m7 228 rfl) rfl
theorem q1915 : (Jvm.Cond.methodLink "TransportPair$Hall" (105 : Nat) ({ cls := "TransportPair$Hall", name := "rule", desc := "(JZ)I" } : Jvm.MethodName)) ∈ lw_all := lw_g (lw_at lw_m7 229 rfl) rfl
theorem q1917 : (Jvm.Cond.instanceMethod ({ cls := "TransportPair$Hall", name := "rule", desc := "(JZ)I" } : Jvm.MethodName)) ∈ lw_all := lw_g (lw_at lw_m7 231 rfl) rfl
theorem q1918 : (Jvm.Cond.code ({ cls := "TransportPair$Hall", name := "rule", desc := "(JZ)I" } : Jvm.MethodName) prog_12_method_9_code (4 : Nat) (Option.some Jvm.ClassFile.FieldType.int)) ∈ lw_all := lw_g (lw_at lw_m7 232 rfl) rfl
theorem q1919 : (Jvm.Cond.methodLink "TransportPair$Hall" (109 : Nat) ({ cls := "TransportPair$Sending", name := "<init>", desc := "(J)V" } : Jvm.MethodName)) ∈ lw_all := lw_g (lw_at lw_m7 233 rfl) rfl
theorem q1920 : (Jvm.Cond.instanceMethod ({ cls := "TransportPair$Sending", name := "<init>", desc := "(J)V" } : Jvm.MethodName)) ∈ lw_all := lw_g (lw_at lw_m7 234 rfl) rfl
theorem q1921 : (Jvm.Cond.code ({ cls := "TransportPair$Sending", name := "<init>", desc := "(J)V" } : Jvm.MethodName) prog_24_method_1_code (3 : Nat) (Option.none : Option Jvm.ClassFile.FieldType)) ∈ lw_all := lw_g (lw_at lw_m7 235 rfl) rfl
theorem q1922 : (Jvm.Cond.methodLink "TransportPair$Sending" (3 : Nat) ({ cls := "java/lang/Object", name := "<init>", desc := "()V" } : Jvm.MethodName)) ∈ lw_all := lw_g (lw_at lw_m7 236 rfl) rfl
theorem q1923 : (Jvm.Cond.constantLong "TransportPair$Sending" (24 : Nat) (-1 : Int64)) ∈ lw_all := lw_g (lw_at lw_m7 237 rfl) rfl
theorem q1924 : (Jvm.Cond.fieldLink "TransportPair$Sending" (33 : Nat) "TransportPair$Sending" "state" "I") ∈ lw_all := lw_g (lw_at lw_m7 238 rfl) rfl
theorem q1925 : (Jvm.Cond.fieldLinkNest "TransportPair$Hall" (150 : Nat) "TransportPair$Sending" "state" "I" "TransportPair") ∈ lw_tbl := lw_at lw_m7 239 rfl
theorem q1926 : (Jvm.Cond.fieldLinkNest "TransportPair$Store" (63 : Nat) "TransportPair$Sending" "written" "I" "TransportPair") ∈ lw_tbl := lw_at lw_m8 0 rfl
theorem q1927 : (Jvm.Cond.fieldLinkNest "TransportPair$Hall" (307 : Nat) "TransportPair$Sending" "written" "I" "TransportPair") ∈ lw_tbl := lw_at lw_m8 1 rfl
theorem q1928 : (Jvm.Cond.fieldLinkNest "TransportPair$Hall" (300 : Nat) "TransportPair$Sending" "sent" "I" "TransportPair") ∈ lw_tbl := lw_at lw_m8 2 rfl
theorem q1929 : (Jvm.Cond.fieldLinkNest "TransportPair$Hall" (157 : Nat) "TransportPair$Sending" "end" "I" "TransportPair") ∈ lw_tbl := lw_at lw_m8 3 rfl
theorem q1930 : (Jvm.Cond.fieldLink "TransportPair$Sending" (9 : Nat) "TransportPair$Sending" "first" "I") ∈ lw_all := lw_g (lw_at lw_m8 4 rfl) rfl
theorem q1931 : (Jvm.Cond.fieldLinkNest "TransportPair$Store" (54 : Nat) "TransportPair$Sending" "first" "I" "TransportPair") ∈ lw_tbl := lw_at lw_m8 5 rfl
theorem q1932 : (Jvm.Cond.fieldLink "TransportPair$Sending" (15 : Nat) "TransportPair$Sending" "last" "I") ∈ lw_all := lw_g (lw_at lw_m8 6 rfl) rfl
theorem q1933 : (Jvm.Cond.fieldLinkNest "TransportPair$Store" (45 : Nat) "TransportPair$Sending" "last" "I" "TransportPair") ∈ lw_tbl := lw_at lw_m8 7 rfl
theorem q1934 : (Jvm.Cond.fieldLink "TransportPair$Sending" (18 : Nat) "TransportPair$Sending" "lost" "I") ∈ lw_all := lw_g (lw_at lw_m8 8 rfl) rfl
theorem q1935 : (Jvm.Cond.fieldLinkNest "TransportPair$Hall" (325 : Nat) "TransportPair$Sending" "lost" "I" "TransportPair") ∈ lw_tbl := lw_at lw_m8 9 rfl
theorem q1936 : (Jvm.Cond.fieldLink "TransportPair$Sending" (21 : Nat) "TransportPair$Sending" "here" "I") ∈ lw_all := lw_g (lw_at lw_m8 10 rfl) rfl
theorem q1937 : (Jvm.Cond.fieldLinkNest "TransportPair$Hall" (352 : Nat) "TransportPair$Sending" "here" "I" "TransportPair") ∈ lw_tbl := lw_at lw_m8 11 rfl
theorem q1938 : (Jvm.Cond.fieldLink "TransportPair$Sending" (30 : Nat) "TransportPair$Sending" "limit" "J") ∈ lw_all := lw_g (lw_at lw_m8 12 rfl) rfl
theorem q1939 : (Jvm.Cond.fieldLinkNest "TransportPair$Hall" (244 : Nat) "TransportPair$Sending" "limit" "J" "TransportPair") ∈ lw_tbl := lw_at lw_m8 13 rfl
theorem q1940 : (Jvm.Cond.fieldLink "TransportPair$Sending" (36 : Nat) "TransportPair$Sending" "code" "J") ∈ lw_all := lw_g (lw_at lw_m8 14 rfl) rfl
theorem q1941 : (Jvm.Cond.fieldLinkNest "TransportPair$Hall" (299 : Nat) "TransportPair$Sending" "code" "J" "TransportPair") ∈ lw_tbl := lw_at lw_m8 15 rfl
theorem q1942 : (Jvm.Cond.fieldLink "TransportPair$Sending" (26 : Nat) "TransportPair$Sending" "blockedAt" "J") ∈ lw_all := lw_g (lw_at lw_m8 16 rfl) rfl
theorem q1943 : (Jvm.Cond.fieldLinkNest "TransportPair$Hall" (317 : Nat) "TransportPair$Sending" "blockedAt" "J" "TransportPair") ∈ lw_tbl := lw_at lw_m8 17 rfl
theorem q1944 : (Jvm.Cond.fieldLink "TransportPair$Sending" (39 : Nat) "TransportPair$Sending" "resets" "Z") ∈ lw_all := lw_g (lw_at lw_m8 18 rfl) rfl
theorem q1945 : (Jvm.Cond.fieldLinkNest "TransportPair$Hall" (296 : Nat) "TransportPair$Sending" "resets" "Z" "TransportPair") ∈ lw_tbl := lw_at lw_m8 19 rfl
theorem q1971 : (Jvm.Cond.instantiable "TransportPair$Receiving" (13 : Nat)) ∈ lw_all := lw_g (lw_at lw_m8 45 rfl) rfl
theorem q1972 : (Jvm.Cond.methodLink "TransportPair$Hall" (112 : Nat) ({ cls := "TransportPair$Receiving", name := "<init>", desc := "(I)V" } : Jvm.MethodName)) ∈ lw_all := lw_g (lw_at lw_m8 46 rfl) rfl
theorem q1973 : (Jvm.Cond.instanceMethod ({ cls := "TransportPair$Receiving", name := "<init>", desc := "(I)V" } : Jvm.MethodName)) ∈ lw_all := lw_g (lw_at lw_m8 47 rfl) rfl
theorem q1974 : (Jvm.Cond.code ({ cls := "TransportPair$Receiving", name := "<init>", desc := "(I)V" } : Jvm.MethodName) prog_22_method_1_code (2 : Nat) (Option.none : Option Jvm.ClassFile.FieldType)) ∈ lw_all := lw_g (lw_at lw_m8 48 rfl) rfl
theorem q1975 : (Jvm.Cond.methodLink "TransportPair$Receiving" (3 : Nat) ({ cls := "java/lang/Object", name := "<init>", desc := "()V" } : Jvm.MethodName)) ∈ lw_all := lw_g (lw_at lw_m8 49 rfl) rfl
theorem q1976 : (Jvm.Cond.fieldLink "TransportPair$Receiving" (18 : Nat) "TransportPair$Receiving" "window" "I") ∈ lw_all := lw_g (lw_at lw_m8 50 rfl) rfl
theorem q1977 : (Jvm.Cond.fieldLinkNest "TransportPair$Hall" (211 : Nat) "TransportPair$Receiving" "window" "I" "TransportPair") ∈ lw_tbl := lw_at lw_m8 51 rfl
theorem q1978 : (Jvm.Cond.fieldLink "TransportPair$Receiving" (24 : Nat) "TransportPair$Receiving" "state" "I") ∈ lw_all := lw_g (lw_at lw_m8 52 rfl) rfl
theorem q1979 : (Jvm.Cond.fieldLinkNest "TransportPair$Hall" (180 : Nat) "TransportPair$Receiving" "state" "I" "TransportPair") ∈ lw_tbl := lw_at lw_m8 53 rfl
theorem q1980 : (Jvm.Cond.fieldLinkNest "TransportPair$Blocks" (66 : Nat) "TransportPair$Receiving" "read" "I" "TransportPair") ∈ lw_tbl := lw_at lw_m8 54 rfl
theorem q1981 : (Jvm.Cond.fieldLink "TransportPair$Receiving" (27 : Nat) "TransportPair$Receiving" "read" "I") ∈ lw_all := lw_g (lw_at lw_m8 55 rfl) rfl
theorem q1982 : (Jvm.Cond.fieldLinkNest "TransportPair$Hall" (184 : Nat) "TransportPair$Receiving" "read" "I" "TransportPair") ∈ lw_tbl := lw_at lw_m8 56 rfl
theorem q1983 : (Jvm.Cond.fieldLinkNest "TransportPair$Blocks" (54 : Nat) "TransportPair$Receiving" "ready" "I" "TransportPair") ∈ lw_tbl := lw_at lw_m8 57 rfl
theorem q1984 : (Jvm.Cond.fieldLink "TransportPair$Receiving" (30 : Nat) "TransportPair$Receiving" "ready" "I") ∈ lw_all := lw_g (lw_at lw_m8 58 rfl) rfl
theorem q1985 : (Jvm.Cond.fieldLinkNest "TransportPair$Hall" (181 : Nat) "TransportPair$Receiving" "ready" "I" "TransportPair") ∈ lw_tbl := lw_at lw_m8 59 rfl
theorem q1986 : (Jvm.Cond.fieldLinkNest "TransportPair$Hall" (220 : Nat) "TransportPair$Receiving" "highest" "I" "TransportPair") ∈ lw_tbl := lw_at lw_m8 60 rfl
theorem q1987 : (Jvm.Cond.fieldLink "TransportPair$Receiving" (9 : Nat) "TransportPair$Receiving" "size" "I") ∈ lw_all := lw_g (lw_at lw_m8 61 rfl) rfl
theorem q1988 : (Jvm.Cond.fieldLinkNest "TransportPair$Hall" (223 : Nat) "TransportPair$Receiving" "size" "I" "TransportPair") ∈ lw_tbl := lw_at lw_m8 62 rfl
theorem q1989 : (Jvm.Cond.fieldLink "TransportPair$Receiving" (21 : Nat) "TransportPair$Receiving" "grant" "I") ∈ lw_all := lw_g (lw_at lw_m8 63 rfl) rfl
theorem q1990 : (Jvm.Cond.fieldLinkNest "TransportPair$Hall" (214 : Nat) "TransportPair$Receiving" "grant" "I" "TransportPair") ∈ lw_tbl := lw_at lw_m8 64 rfl
theorem q1991 : (Jvm.Cond.fieldLink "TransportPair$Receiving" (15 : Nat) "TransportPair$Receiving" "first" "I") ∈ lw_all := lw_g (lw_at lw_m8 65 rfl) rfl
theorem q1992 : (Jvm.Cond.fieldLinkNest "TransportPair$Blocks" (45 : Nat) "TransportPair$Receiving" "first" "I" "TransportPair") ∈ lw_tbl := lw_at lw_m8 66 rfl
theorem q1993 : (Jvm.Cond.fieldLinkNest "TransportPair$Hall" (261 : Nat) "TransportPair$Receiving" "code" "J" "TransportPair") ∈ lw_tbl := lw_at lw_m8 67 rfl
theorem q1994 : (Jvm.Cond.fieldLinkNest "TransportPair$Hall" (177 : Nat) "TransportPair$Receiving" "stopCode" "J" "TransportPair") ∈ lw_tbl := lw_at lw_m8 68 rfl
theorem q1995 : (Jvm.Cond.fieldLinkNest "TransportPair$Hall" (217 : Nat) "TransportPair$Receiving" "tells" "Z" "TransportPair") ∈ lw_tbl := lw_at lw_m8 69 rfl
theorem q1996 : (Jvm.Cond.fieldLinkNest "TransportPair$Hall" (174 : Nat) "TransportPair$Receiving" "stops" "Z" "TransportPair") ∈ lw_tbl := lw_at lw_m8 70 rfl
theorem q1997 : (Jvm.Cond.fieldLinkNest "TransportPair$Hall" (171 : Nat) "TransportPair$Receiving" "stopped" "Z" "TransportPair") ∈ lw_tbl := lw_at lw_m8 71 rfl
theorem q2025 : (Jvm.Cond.methodLink "TransportPairLaw" (149 : Nat) ({ cls := "TransportPairLaw", name := "write", desc := "(LTransportPair;II[J)I" } : Jvm.MethodName)) ∈ lw_all := lw_g (lw_at lw_m8 99 rfl) rfl
theorem q2026 : (Jvm.Cond.static ({ cls := "TransportPairLaw", name := "write", desc := "(LTransportPair;II[J)I" } : Jvm.MethodName)) ∈ lw_all := lw_g (lw_at lw_m8 100 rfl) rfl
theorem q2027 : (Jvm.Cond.codeWith ({ cls := "TransportPairLaw", name := "write", desc := "(LTransportPair;II[J)I" } : Jvm.MethodName) method_10_code (5 : Nat) (Option.some Jvm.ClassFile.FieldType.int) [((0 : Nat), (10 : Nat), (13 : Nat), (19 : Nat))]) ∈ lw_all := lw_g (lw_at lw_m8 101 rfl) rfl
theorem q2028 : (Jvm.Cond.methodLink "TransportPairLaw" (39 : Nat) ({ cls := "TransportPair", name := "write", desc := "(II)I" } : Jvm.MethodName)) ∈ lw_all := lw_g (lw_at lw_m8 102 rfl) rfl
theorem q2029 : (Jvm.Cond.instanceMethod ({ cls := "TransportPair", name := "write", desc := "(II)I" } : Jvm.MethodName)) ∈ lw_all := lw_g (lw_at lw_m8 103 rfl) rfl
theorem q2030 : (Jvm.Cond.selects "TransportPair" ({ cls := "TransportPair", name := "write", desc := "(II)I" } : Jvm.MethodName) ({ cls := "TransportPair", name := "write", desc := "(II)I" } : Jvm.MethodName)) ∈ lw_all := lw_g (lw_at lw_m8 104 rfl) rfl
theorem q2031 : (Jvm.Cond.code ({ cls := "TransportPair", name := "write", desc := "(II)I" } : Jvm.MethodName) prog_1_method_19_code (4 : Nat) (Option.some Jvm.ClassFile.FieldType.int)) ∈ lw_all := lw_g (lw_at lw_m8 105 rfl) rfl
theorem q2032 : (Jvm.Cond.methodLink "TransportPair" (138 : Nat) ({ cls := "TransportPair$Hall", name := "write", desc := "(I[BII)I" } : Jvm.MethodName)) ∈ lw_all := lw_g (lw_at lw_m8 106 rfl) rfl
theorem q2033 : (Jvm.Cond.instanceMethod ({ cls := "TransportPair$Hall", name := "write", desc := "(I[BII)I" } : Jvm.MethodName)) ∈ lw_all := lw_g (lw_at lw_m8 107 rfl) rfl
theorem q2034 : (Jvm.Cond.selects "TransportPair$Hall" ({ cls := "TransportPair$Hall", name := "write", desc := "(I[BII)I" } : Jvm.MethodName) ({ cls := "TransportPair$Hall", name := "write", desc := "(I[BII)I" } : Jvm.MethodName)) ∈ lw_all := lw_g (lw_at lw_m8 108 rfl) rfl
theorem q2035 : (Jvm.Cond.code ({ cls := "TransportPair$Hall", name := "write", desc := "(I[BII)I" } : Jvm.MethodName) prog_12_method_15_code (6 : Nat) (Option.some Jvm.ClassFile.FieldType.int)) ∈ lw_all := lw_g (lw_at lw_m8 109 rfl) rfl
theorem q2036 : (Jvm.Cond.methodLink "TransportPair$Hall" (146 : Nat) ({ cls := "TransportPair$Hall", name := "sending", desc := "(I)LTransportPair$Sending;" } : Jvm.MethodName)) ∈ lw_all := lw_g (lw_at lw_m8 110 rfl) rfl
theorem q2038 : (Jvm.Cond.instanceMethod ({ cls := "TransportPair$Hall", name := "sending", desc := "(I)LTransportPair$Sending;" } : Jvm.MethodName)) ∈ lw_all := lw_g (lw_at lw_m8 112 rfl) rfl
theorem q2039 : (Jvm.Cond.code ({ cls := "TransportPair$Hall", name := "sending", desc := "(I)LTransportPair$Sending;" } : Jvm.MethodName) prog_12_method_7_code (2 : Nat) (Option.some (Jvm.ClassFile.FieldType.object "TransportPair$Sending"))) ∈ lw_all := lw_g (lw_at lw_m8 113 rfl) rfl
theorem q2040 : (Jvm.Cond.methodLink "TransportPair$Hall" (153 : Nat) ({ cls := "TransportPair$Store", name := "add", desc := "(LTransportPair$Sending;[BII)I" } : Jvm.MethodName)) ∈ lw_all := lw_g (lw_at lw_m8 114 rfl) rfl
theorem q2041 : (Jvm.Cond.instanceMethod ({ cls := "TransportPair$Store", name := "add", desc := "(LTransportPair$Sending;[BII)I" } : Jvm.MethodName)) ∈ lw_all := lw_g (lw_at lw_m8 115 rfl) rfl
theorem q2042 : (Jvm.Cond.selects "TransportPair$Store" ({ cls := "TransportPair$Store", name := "add", desc := "(LTransportPair$Sending;[BII)I" } : Jvm.MethodName) ({ cls := "TransportPair$Store", name := "add", desc := "(LTransportPair$Sending;[BII)I" } : Jvm.MethodName)) ∈ lw_all := lw_g (lw_at lw_m8 116 rfl) rfl
theorem q2043 : (Jvm.Cond.code ({ cls := "TransportPair$Store", name := "add", desc := "(LTransportPair$Sending;[BII)I" } : Jvm.MethodName) prog_28_method_3_code (7 : Nat) (Option.some Jvm.ClassFile.FieldType.int)) ∈ lw_all := lw_g (lw_at lw_m8 117 rfl) rfl
theorem q2044 : (Jvm.Cond.methodLink "TransportPair$Store" (39 : Nat) ({ cls := "java/lang/Math", name := "min", desc := "(II)I" } : Jvm.MethodName)) ∈ lw_all := lw_g (lw_at lw_m8 118 rfl) rfl
theorem q2045 : (Jvm.Cond.methodLink "TransportPair$Store" (50 : Nat) ({ cls := "TransportPair$Store", name := "piece", desc := "()I" } : Jvm.MethodName)) ∈ lw_all := lw_g (lw_at lw_m8 119 rfl) rfl
theorem q2047 : (Jvm.Cond.instanceMethod ({ cls := "TransportPair$Store", name := "piece", desc := "()I" } : Jvm.MethodName)) ∈ lw_all := lw_g (lw_at lw_m8 121 rfl) rfl
theorem q2048 : (Jvm.Cond.code ({ cls := "TransportPair$Store", name := "piece", desc := "()I" } : Jvm.MethodName) prog_28_method_2_code (1 : Nat) (Option.some Jvm.ClassFile.FieldType.int)) ∈ lw_all := lw_g (lw_at lw_m8 122 rfl) rfl
theorem q2049 : (Jvm.Cond.methodLink "TransportPair$Store" (30 : Nat) ({ cls := "java/util/Arrays", name := "copyOf", desc := "([II)[I" } : Jvm.MethodName)) ∈ lw_all := lw_g (lw_at lw_m8 123 rfl) rfl
theorem q2050 : (Jvm.Cond.static ({ cls := "java/util/Arrays", name := "copyOf", desc := "([II)[I" } : Jvm.MethodName)) ∈ lw_all := lw_g (lw_at lw_m8 124 rfl) rfl
theorem q2051 : (Jvm.Cond.code ({ cls := "java/util/Arrays", name := "copyOf", desc := "([II)[I" } : Jvm.MethodName) prog_58_method_123_code (3 : Nat) (Option.some (Jvm.ClassFile.FieldType.array Jvm.ClassFile.FieldType.int))) ∈ lw_all := lw_g (lw_at lw_m8 125 rfl) rfl
theorem q2059 : (Jvm.Cond.methodLink "java/util/Arrays" (304 : Nat) ({ cls := "java/lang/Math", name := "min", desc := "(II)I" } : Jvm.MethodName)) ∈ lw_all := lw_g (lw_at lw_m8 133 rfl) rfl
theorem q2060 : (Jvm.Cond.methodLink "java/util/Arrays" (150 : Nat) ({ cls := "java/lang/System", name := "arraycopy", desc := "(Ljava/lang/Object;ILjava/lang/Object;II)V" } : Jvm.MethodName)) ∈ lw_all := lw_g (lw_at lw_m8 134 rfl) rfl
theorem q2061 : (Jvm.Cond.methodLink "TransportPair$Store" (57 : Nat) ({ cls := "java/lang/System", name := "arraycopy", desc := "(Ljava/lang/Object;ILjava/lang/Object;II)V" } : Jvm.MethodName)) ∈ lw_all := lw_g (lw_at lw_m8 135 rfl) rfl
theorem q2062 : (Jvm.Cond.methodLink "TransportPairLaw" (153 : Nat) ({ cls := "TransportPairLaw", name := "finish", desc := "(LTransportPair;II[J)I" } : Jvm.MethodName)) ∈ lw_all := lw_g (lw_at lw_m8 136 rfl) rfl
theorem q2063 : (Jvm.Cond.static ({ cls := "TransportPairLaw", name := "finish", desc := "(LTransportPair;II[J)I" } : Jvm.MethodName)) ∈ lw_all := lw_g (lw_at lw_m8 137 rfl) rfl
theorem q2064 : (Jvm.Cond.codeWith ({ cls := "TransportPairLaw", name := "finish", desc := "(LTransportPair;II[J)I" } : Jvm.MethodName) method_11_code (5 : Nat) (Option.some Jvm.ClassFile.FieldType.int) [((0 : Nat), (17 : Nat), (20 : Nat), (19 : Nat))]) ∈ lw_all := lw_g (lw_at lw_m8 138 rfl) rfl
theorem q2065 : (Jvm.Cond.methodLink "TransportPairLaw" (43 : Nat) ({ cls := "TransportPair", name := "finish", desc := "(II)Z" } : Jvm.MethodName)) ∈ lw_all := lw_g (lw_at lw_m8 139 rfl) rfl
theorem q2066 : (Jvm.Cond.instanceMethod ({ cls := "TransportPair", name := "finish", desc := "(II)Z" } : Jvm.MethodName)) ∈ lw_all := lw_g (lw_at lw_m8 140 rfl) rfl
theorem q2067 : (Jvm.Cond.selects "TransportPair" ({ cls := "TransportPair", name := "finish", desc := "(II)Z" } : Jvm.MethodName) ({ cls := "TransportPair", name := "finish", desc := "(II)Z" } : Jvm.MethodName)) ∈ lw_all := lw_g (lw_at lw_m8 141 rfl) rfl
theorem q2068 : (Jvm.Cond.code ({ cls := "TransportPair", name := "finish", desc := "(II)Z" } : Jvm.MethodName) prog_1_method_20_code (3 : Nat) (Option.some Jvm.ClassFile.FieldType.boolean)) ∈ lw_all := lw_g (lw_at lw_m8 142 rfl) rfl
theorem q2069 : (Jvm.Cond.methodLink "TransportPair" (142 : Nat) ({ cls := "TransportPair$Hall", name := "finish", desc := "(I)Z" } : Jvm.MethodName)) ∈ lw_all := lw_g (lw_at lw_m8 143 rfl) rfl
theorem q2070 : (Jvm.Cond.instanceMethod ({ cls := "TransportPair$Hall", name := "finish", desc := "(I)Z" } : Jvm.MethodName)) ∈ lw_all := lw_g (lw_at lw_m8 144 rfl) rfl
theorem q2071 : (Jvm.Cond.selects "TransportPair$Hall" ({ cls := "TransportPair$Hall", name := "finish", desc := "(I)Z" } : Jvm.MethodName) ({ cls := "TransportPair$Hall", name := "finish", desc := "(I)Z" } : Jvm.MethodName)) ∈ lw_all := lw_g (lw_at lw_m8 145 rfl) rfl
theorem q2072 : (Jvm.Cond.code ({ cls := "TransportPair$Hall", name := "finish", desc := "(I)Z" } : Jvm.MethodName) prog_12_method_16_code (3 : Nat) (Option.some Jvm.ClassFile.FieldType.boolean)) ∈ lw_all := lw_g (lw_at lw_m8 146 rfl) rfl
theorem q2073 : (Jvm.Cond.methodLink "TransportPairLaw" (156 : Nat) ({ cls := "TransportPairLaw", name := "reset", desc := "(LTransportPair;III[J)I" } : Jvm.MethodName)) ∈ lw_all := lw_g (lw_at lw_m8 147 rfl) rfl
theorem q2074 : (Jvm.Cond.static ({ cls := "TransportPairLaw", name := "reset", desc := "(LTransportPair;III[J)I" } : Jvm.MethodName)) ∈ lw_all := lw_g (lw_at lw_m8 148 rfl) rfl
theorem q2075 : (Jvm.Cond.codeWith ({ cls := "TransportPairLaw", name := "reset", desc := "(LTransportPair;III[J)I" } : Jvm.MethodName) method_12_code (6 : Nat) (Option.some Jvm.ClassFile.FieldType.int) [((0 : Nat), (19 : Nat), (22 : Nat), (19 : Nat))]) ∈ lw_all := lw_g (lw_at lw_m8 149 rfl) rfl
theorem q2076 : (Jvm.Cond.methodLink "TransportPairLaw" (47 : Nat) ({ cls := "TransportPair", name := "reset", desc := "(III)Z" } : Jvm.MethodName)) ∈ lw_all := lw_g (lw_at lw_m8 150 rfl) rfl
theorem q2077 : (Jvm.Cond.instanceMethod ({ cls := "TransportPair", name := "reset", desc := "(III)Z" } : Jvm.MethodName)) ∈ lw_all := lw_g (lw_at lw_m8 151 rfl) rfl
theorem q2078 : (Jvm.Cond.selects "TransportPair" ({ cls := "TransportPair", name := "reset", desc := "(III)Z" } : Jvm.MethodName) ({ cls := "TransportPair", name := "reset", desc := "(III)Z" } : Jvm.MethodName)) ∈ lw_all := lw_g (lw_at lw_m8 152 rfl) rfl
theorem q2079 : (Jvm.Cond.code ({ cls := "TransportPair", name := "reset", desc := "(III)Z" } : Jvm.MethodName) prog_1_method_21_code (5 : Nat) (Option.some Jvm.ClassFile.FieldType.boolean)) ∈ lw_all := lw_g (lw_at lw_m8 153 rfl) rfl
theorem q2080 : (Jvm.Cond.methodLink "TransportPair" (146 : Nat) ({ cls := "TransportPair$Hall", name := "reset", desc := "(IJ)Z" } : Jvm.MethodName)) ∈ lw_all := lw_g (lw_at lw_m8 154 rfl) rfl
theorem q2081 : (Jvm.Cond.instanceMethod ({ cls := "TransportPair$Hall", name := "reset", desc := "(IJ)Z" } : Jvm.MethodName)) ∈ lw_all := lw_g (lw_at lw_m8 155 rfl) rfl
theorem q2082 : (Jvm.Cond.selects "TransportPair$Hall" ({ cls := "TransportPair$Hall", name := "reset", desc := "(IJ)Z" } : Jvm.MethodName) ({ cls := "TransportPair$Hall", name := "reset", desc := "(IJ)Z" } : Jvm.MethodName)) ∈ lw_all := lw_g (lw_at lw_m8 156 rfl) rfl
theorem q2083 : (Jvm.Cond.code ({ cls := "TransportPair$Hall", name := "reset", desc := "(IJ)Z" } : Jvm.MethodName) prog_12_method_17_code (5 : Nat) (Option.some Jvm.ClassFile.FieldType.boolean)) ∈ lw_all := lw_g (lw_at lw_m8 157 rfl) rfl
theorem q2084 : (Jvm.Cond.methodLink "TransportPair$Hall" (160 : Nat) ({ cls := "TransportPair$Sending", name := "isLive", desc := "()Z" } : Jvm.MethodName)) ∈ lw_all := lw_g (lw_at lw_m8 158 rfl) rfl
theorem q2085 : (Jvm.Cond.instanceMethod ({ cls := "TransportPair$Sending", name := "isLive", desc := "()Z" } : Jvm.MethodName)) ∈ lw_all := lw_g (lw_at lw_m8 159 rfl) rfl
theorem q2086 : (Jvm.Cond.selects "TransportPair$Sending" ({ cls := "TransportPair$Sending", name := "isLive", desc := "()Z" } : Jvm.MethodName) ({ cls := "TransportPair$Sending", name := "isLive", desc := "()Z" } : Jvm.MethodName)) ∈ lw_all := lw_g (lw_at lw_m8 160 rfl) rfl
theorem q2087 : (Jvm.Cond.code ({ cls := "TransportPair$Sending", name := "isLive", desc := "()Z" } : Jvm.MethodName) prog_24_method_2_code (1 : Nat) (Option.some Jvm.ClassFile.FieldType.boolean)) ∈ lw_all := lw_g (lw_at lw_m8 161 rfl) rfl
theorem q2088 : (Jvm.Cond.methodLink "TransportPair$Hall" (163 : Nat) ({ cls := "TransportPair$Sending", name := "reset", desc := "(J)V" } : Jvm.MethodName)) ∈ lw_all := lw_g (lw_at lw_m8 162 rfl) rfl
theorem q2089 : (Jvm.Cond.instanceMethod ({ cls := "TransportPair$Sending", name := "reset", desc := "(J)V" } : Jvm.MethodName)) ∈ lw_all := lw_g (lw_at lw_m8 163 rfl) rfl
theorem q2090 : (Jvm.Cond.selects "TransportPair$Sending" ({ cls := "TransportPair$Sending", name := "reset", desc := "(J)V" } : Jvm.MethodName) ({ cls := "TransportPair$Sending", name := "reset", desc := "(J)V" } : Jvm.MethodName)) ∈ lw_all := lw_g (lw_at lw_m8 164 rfl) rfl
theorem q2091 : (Jvm.Cond.code ({ cls := "TransportPair$Sending", name := "reset", desc := "(J)V" } : Jvm.MethodName) prog_24_method_3_code (3 : Nat) (Option.none : Option Jvm.ClassFile.FieldType)) ∈ lw_all := lw_g (lw_at lw_m8 165 rfl) rfl
theorem q2092 : (Jvm.Cond.methodLink "TransportPairLaw" (160 : Nat) ({ cls := "TransportPairLaw", name := "stop", desc := "(LTransportPair;III[J)I" } : Jvm.MethodName)) ∈ lw_all := lw_g (lw_at lw_m8 166 rfl) rfl
theorem q2093 : (Jvm.Cond.static ({ cls := "TransportPairLaw", name := "stop", desc := "(LTransportPair;III[J)I" } : Jvm.MethodName)) ∈ lw_all := lw_g (lw_at lw_m8 167 rfl) rfl
theorem q2094 : (Jvm.Cond.codeWith ({ cls := "TransportPairLaw", name := "stop", desc := "(LTransportPair;III[J)I" } : Jvm.MethodName) method_13_code (6 : Nat) (Option.some Jvm.ClassFile.FieldType.int) [((0 : Nat), (19 : Nat), (22 : Nat), (19 : Nat))]) ∈ lw_all := lw_g (lw_at lw_m8 168 rfl) rfl
theorem q2095 : (Jvm.Cond.methodLink "TransportPairLaw" (51 : Nat) ({ cls := "TransportPair", name := "stop", desc := "(III)Z" } : Jvm.MethodName)) ∈ lw_all := lw_g (lw_at lw_m8 169 rfl) rfl
theorem q2096 : (Jvm.Cond.instanceMethod ({ cls := "TransportPair", name := "stop", desc := "(III)Z" } : Jvm.MethodName)) ∈ lw_all := lw_g (lw_at lw_m8 170 rfl) rfl
theorem q2097 : (Jvm.Cond.selects "TransportPair" ({ cls := "TransportPair", name := "stop", desc := "(III)Z" } : Jvm.MethodName) ({ cls := "TransportPair", name := "stop", desc := "(III)Z" } : Jvm.MethodName)) ∈ lw_all := lw_g (lw_at lw_m8 171 rfl) rfl
theorem q2098 : (Jvm.Cond.code ({ cls := "TransportPair", name := "stop", desc := "(III)Z" } : Jvm.MethodName) prog_1_method_22_code (5 : Nat) (Option.some Jvm.ClassFile.FieldType.boolean)) ∈ lw_all := lw_g (lw_at lw_m8 172 rfl) rfl
theorem q2099 : (Jvm.Cond.methodLink "TransportPair" (150 : Nat) ({ cls := "TransportPair$Hall", name := "stop", desc := "(IJ)Z" } : Jvm.MethodName)) ∈ lw_all := lw_g (lw_at lw_m8 173 rfl) rfl
theorem q2100 : (Jvm.Cond.instanceMethod ({ cls := "TransportPair$Hall", name := "stop", desc := "(IJ)Z" } : Jvm.MethodName)) ∈ lw_all := lw_g (lw_at lw_m8 174 rfl) rfl
theorem q2101 : (Jvm.Cond.selects "TransportPair$Hall" ({ cls := "TransportPair$Hall", name := "stop", desc := "(IJ)Z" } : Jvm.MethodName) ({ cls := "TransportPair$Hall", name := "stop", desc := "(IJ)Z" } : Jvm.MethodName)) ∈ lw_all := lw_g (lw_at lw_m8 175 rfl) rfl
theorem q2102 : (Jvm.Cond.code ({ cls := "TransportPair$Hall", name := "stop", desc := "(IJ)Z" } : Jvm.MethodName) prog_12_method_18_code (5 : Nat) (Option.some Jvm.ClassFile.FieldType.boolean)) ∈ lw_all := lw_g (lw_at lw_m8 176 rfl) rfl
theorem q2103 : (Jvm.Cond.methodLink "TransportPair$Hall" (166 : Nat) ({ cls := "TransportPair$Hall", name := "receiving", desc := "(I)LTransportPair$Receiving;" } : Jvm.MethodName)) ∈ lw_all := lw_g (lw_at lw_m8 177 rfl) rfl
theorem q2105 : (Jvm.Cond.instanceMethod ({ cls := "TransportPair$Hall", name := "receiving", desc := "(I)LTransportPair$Receiving;" } : Jvm.MethodName)) ∈ lw_all := lw_g (lw_at lw_m8 179 rfl) rfl
theorem q2106 : (Jvm.Cond.code ({ cls := "TransportPair$Hall", name := "receiving", desc := "(I)LTransportPair$Receiving;" } : Jvm.MethodName) prog_12_method_8_code (2 : Nat) (Option.some (Jvm.ClassFile.FieldType.object "TransportPair$Receiving"))) ∈ lw_all := lw_g (lw_at lw_m8 180 rfl) rfl
theorem q2107 : (Jvm.Cond.methodLink "TransportPair$Hall" (170 : Nat) ({ cls := "TransportPair$Receiving", name := "isLive", desc := "()Z" } : Jvm.MethodName)) ∈ lw_all := lw_g (lw_at lw_m8 181 rfl) rfl
theorem q2108 : (Jvm.Cond.instanceMethod ({ cls := "TransportPair$Receiving", name := "isLive", desc := "()Z" } : Jvm.MethodName)) ∈ lw_all := lw_g (lw_at lw_m8 182 rfl) rfl
theorem q2109 : (Jvm.Cond.selects "TransportPair$Receiving" ({ cls := "TransportPair$Receiving", name := "isLive", desc := "()Z" } : Jvm.MethodName) ({ cls := "TransportPair$Receiving", name := "isLive", desc := "()Z" } : Jvm.MethodName)) ∈ lw_all := lw_g (lw_at lw_m8 183 rfl) rfl
theorem q2110 : (Jvm.Cond.code ({ cls := "TransportPair$Receiving", name := "isLive", desc := "()Z" } : Jvm.MethodName) prog_22_method_2_code (1 : Nat) (Option.some Jvm.ClassFile.FieldType.boolean)) ∈ lw_all := lw_g (lw_at lw_m8 184 rfl) rfl
theorem q2111 : (Jvm.Cond.methodLink "TransportPairLaw" (163 : Nat) ({ cls := "TransportPairLaw", name := "read", desc := "(LTransportPair;III[J)I" } : Jvm.MethodName)) ∈ lw_all := lw_g (lw_at lw_m8 185 rfl) rfl
theorem q2112 : (Jvm.Cond.static ({ cls := "TransportPairLaw", name := "read", desc := "(LTransportPair;III[J)I" } : Jvm.MethodName)) ∈ lw_all := lw_g (lw_at lw_m8 186 rfl) rfl
theorem q2113 : (Jvm.Cond.codeWith ({ cls := "TransportPairLaw", name := "read", desc := "(LTransportPair;III[J)I" } : Jvm.MethodName) method_14_code (6 : Nat) (Option.some Jvm.ClassFile.FieldType.int) [((0 : Nat), (12 : Nat), (15 : Nat), (19 : Nat))]) ∈ lw_all := lw_g (lw_at lw_m8 187 rfl) rfl
theorem q2114 : (Jvm.Cond.methodLink "TransportPairLaw" (54 : Nat) ({ cls := "TransportPair", name := "read", desc := "(III)I" } : Jvm.MethodName)) ∈ lw_all := lw_g (lw_at lw_m8 188 rfl) rfl
theorem q2115 : (Jvm.Cond.instanceMethod ({ cls := "TransportPair", name := "read", desc := "(III)I" } : Jvm.MethodName)) ∈ lw_all := lw_g (lw_at lw_m8 189 rfl) rfl
theorem q2116 : (Jvm.Cond.selects "TransportPair" ({ cls := "TransportPair", name := "read", desc := "(III)I" } : Jvm.MethodName) ({ cls := "TransportPair", name := "read", desc := "(III)I" } : Jvm.MethodName)) ∈ lw_all := lw_g (lw_at lw_m8 190 rfl) rfl
theorem q2117 : (Jvm.Cond.code ({ cls := "TransportPair", name := "read", desc := "(III)I" } : Jvm.MethodName) prog_1_method_23_code (6 : Nat) (Option.some Jvm.ClassFile.FieldType.int)) ∈ lw_all := lw_g (lw_at lw_m8 191 rfl) rfl
theorem q2118 : (Jvm.Cond.constantLong "TransportPair" (153 : Nat) (2048 : Int64)) ∈ lw_all := lw_g (lw_at lw_m8 192 rfl) rfl
theorem q2119 : (Jvm.Cond.methodLink "TransportPair" (155 : Nat) ({ cls := "TransportPair$Hall", name := "read", desc := "(I[BII)I" } : Jvm.MethodName)) ∈ lw_all := lw_g (lw_at lw_m8 193 rfl) rfl
theorem q2120 : (Jvm.Cond.instanceMethod ({ cls := "TransportPair$Hall", name := "read", desc := "(I[BII)I" } : Jvm.MethodName)) ∈ lw_all := lw_g (lw_at lw_m8 194 rfl) rfl
theorem q2121 : (Jvm.Cond.selects "TransportPair$Hall" ({ cls := "TransportPair$Hall", name := "read", desc := "(I[BII)I" } : Jvm.MethodName) ({ cls := "TransportPair$Hall", name := "read", desc := "(I[BII)I" } : Jvm.MethodName)) ∈ lw_all := lw_g (lw_at lw_m8 195 rfl) rfl
theorem q2122 : (Jvm.Cond.code ({ cls := "TransportPair$Hall", name := "read", desc := "(I[BII)I" } : Jvm.MethodName) prog_12_method_19_code (8 : Nat) (Option.some Jvm.ClassFile.FieldType.int)) ∈ lw_all := lw_g (lw_at lw_m8 196 rfl) rfl
theorem q2123 : (Jvm.Cond.methodLink "TransportPair$Hall" (139 : Nat) ({ cls := "java/lang/Math", name := "min", desc := "(II)I" } : Jvm.MethodName)) ∈ lw_all := lw_g (lw_at lw_m8 197 rfl) rfl
theorem q2124 : (Jvm.Cond.methodLink "TransportPair$Hall" (187 : Nat) ({ cls := "TransportPair$Blocks", name := "take", desc := "(LTransportPair$Receiving;[BII)V" } : Jvm.MethodName)) ∈ lw_all := lw_g (lw_at lw_m8 198 rfl) rfl
theorem q2125 : (Jvm.Cond.instanceMethod ({ cls := "TransportPair$Blocks", name := "take", desc := "(LTransportPair$Receiving;[BII)V" } : Jvm.MethodName)) ∈ lw_all := lw_g (lw_at lw_m8 199 rfl) rfl
theorem q2126 : (Jvm.Cond.selects "TransportPair$Blocks" ({ cls := "TransportPair$Blocks", name := "take", desc := "(LTransportPair$Receiving;[BII)V" } : Jvm.MethodName) ({ cls := "TransportPair$Blocks", name := "take", desc := "(LTransportPair$Receiving;[BII)V" } : Jvm.MethodName)) ∈ lw_all := lw_g (lw_at lw_m8 200 rfl) rfl
theorem q2127 : (Jvm.Cond.code ({ cls := "TransportPair$Blocks", name := "take", desc := "(LTransportPair$Receiving;[BII)V" } : Jvm.MethodName) prog_3_method_5_code (6 : Nat) (Option.none : Option Jvm.ClassFile.FieldType)) ∈ lw_all := lw_g (lw_at lw_m8 201 rfl) rfl
theorem q2128 : (Jvm.Cond.methodLink "TransportPair$Blocks" (69 : Nat) ({ cls := "TransportPair$Blocks", name := "drop", desc := "(LTransportPair$Receiving;)V" } : Jvm.MethodName)) ∈ lw_all := lw_g (lw_at lw_m8 202 rfl) rfl
theorem q2130 : (Jvm.Cond.instanceMethod ({ cls := "TransportPair$Blocks", name := "drop", desc := "(LTransportPair$Receiving;)V" } : Jvm.MethodName)) ∈ lw_all := lw_g (lw_at lw_m8 204 rfl) rfl
theorem q2131 : (Jvm.Cond.code ({ cls := "TransportPair$Blocks", name := "drop", desc := "(LTransportPair$Receiving;)V" } : Jvm.MethodName) prog_3_method_6_code (3 : Nat) (Option.none : Option Jvm.ClassFile.FieldType)) ∈ lw_all := lw_g (lw_at lw_m8 205 rfl) rfl
theorem q2132 : (Jvm.Cond.methodLink "TransportPair$Hall" (194 : Nat) ({ cls := "TransportPair$Hall", name := "grow", desc := "()V" } : Jvm.MethodName)) ∈ lw_all := lw_g (lw_at lw_m8 206 rfl) rfl
theorem q2134 : (Jvm.Cond.instanceMethod ({ cls := "TransportPair$Hall", name := "grow", desc := "()V" } : Jvm.MethodName)) ∈ lw_all := lw_g (lw_at lw_m8 208 rfl) rfl
theorem q2135 : (Jvm.Cond.code ({ cls := "TransportPair$Hall", name := "grow", desc := "()V" } : Jvm.MethodName) prog_12_method_20_code (2 : Nat) (Option.none : Option Jvm.ClassFile.FieldType)) ∈ lw_all := lw_g (lw_at lw_m8 209 rfl) rfl
theorem q2136 : (Jvm.Cond.constant "TransportPair$Hall" (207 : Nat) (65536 : Int32)) ∈ lw_all := lw_g (lw_at lw_m8 210 rfl) rfl
theorem q2137 : (Jvm.Cond.methodLink "TransportPair$Hall" (197 : Nat) ({ cls := "TransportPair$Hall", name := "grow", desc := "(LTransportPair$Receiving;)V" } : Jvm.MethodName)) ∈ lw_all := lw_g (lw_at lw_m8 211 rfl) rfl
theorem q2139 : (Jvm.Cond.instanceMethod ({ cls := "TransportPair$Hall", name := "grow", desc := "(LTransportPair$Receiving;)V" } : Jvm.MethodName)) ∈ lw_all := lw_g (lw_at lw_m8 213 rfl) rfl
theorem q2140 : (Jvm.Cond.code ({ cls := "TransportPair$Hall", name := "grow", desc := "(LTransportPair$Receiving;)V" } : Jvm.MethodName) prog_12_method_21_code (3 : Nat) (Option.none : Option Jvm.ClassFile.FieldType)) ∈ lw_all := lw_g (lw_at lw_m8 214 rfl) rfl
theorem q2141 : (Jvm.Cond.methodLink "TransportPair$Hall" (131 : Nat) ({ cls := "TransportPair$Hall", name := "isOver", desc := "(I)Z" } : Jvm.MethodName)) ∈ lw_all := lw_g (lw_at lw_m8 215 rfl) rfl
theorem q2143 : (Jvm.Cond.instanceMethod ({ cls := "TransportPair$Hall", name := "isOver", desc := "(I)Z" } : Jvm.MethodName)) ∈ lw_all := lw_g (lw_at lw_m8 217 rfl) rfl
theorem q2144 : (Jvm.Cond.code ({ cls := "TransportPair$Hall", name := "isOver", desc := "(I)Z" } : Jvm.MethodName) prog_12_method_14_code (2 : Nat) (Option.some Jvm.ClassFile.FieldType.boolean)) ∈ lw_all := lw_g (lw_at lw_m8 218 rfl) rfl
theorem q2145 : (Jvm.Cond.methodLink "TransportPair$Hall" (142 : Nat) ({ cls := "TransportPair$Sending", name := "isOver", desc := "()Z" } : Jvm.MethodName)) ∈ lw_all := lw_g (lw_at lw_m8 219 rfl) rfl
theorem q2146 : (Jvm.Cond.instanceMethod ({ cls := "TransportPair$Sending", name := "isOver", desc := "()Z" } : Jvm.MethodName)) ∈ lw_all := lw_g (lw_at lw_m8 220 rfl) rfl
theorem q2147 : (Jvm.Cond.selects "TransportPair$Sending" ({ cls := "TransportPair$Sending", name := "isOver", desc := "()Z" } : Jvm.MethodName) ({ cls := "TransportPair$Sending", name := "isOver", desc := "()Z" } : Jvm.MethodName)) ∈ lw_all := lw_g (lw_at lw_m8 221 rfl) rfl
theorem q2148 : (Jvm.Cond.code ({ cls := "TransportPair$Sending", name := "isOver", desc := "()Z" } : Jvm.MethodName) prog_24_method_4_code (1 : Nat) (Option.some Jvm.ClassFile.FieldType.boolean)) ∈ lw_all := lw_g (lw_at lw_m8 222 rfl) rfl
theorem q2149 : (Jvm.Cond.methodLink "TransportPair$Hall" (145 : Nat) ({ cls := "TransportPair$Receiving", name := "isOver", desc := "()Z" } : Jvm.MethodName)) ∈ lw_all := lw_g (lw_at lw_m8 223 rfl) rfl
theorem q2150 : (Jvm.Cond.instanceMethod ({ cls := "TransportPair$Receiving", name := "isOver", desc := "()Z" } : Jvm.MethodName)) ∈ lw_all := lw_g (lw_at lw_m8 224 rfl) rfl
theorem q2151 : (Jvm.Cond.selects "TransportPair$Receiving" ({ cls := "TransportPair$Receiving", name := "isOver", desc := "()Z" } : Jvm.MethodName) ({ cls := "TransportPair$Receiving", name := "isOver", desc := "()Z" } : Jvm.MethodName)) ∈ lw_all := lw_g (lw_at lw_m8 225 rfl) rfl
theorem q2152 : (Jvm.Cond.code ({ cls := "TransportPair$Receiving", name := "isOver", desc := "()Z" } : Jvm.MethodName) prog_22_method_3_code (1 : Nat) (Option.some Jvm.ClassFile.FieldType.boolean)) ∈ lw_all := lw_g (lw_at lw_m8 226 rfl) rfl
theorem q2153 : (Jvm.Cond.methodLink "TransportPair$Hall" (200 : Nat) ({ cls := "TransportPair$Receiving", name := "settle", desc := "()V" } : Jvm.MethodName)) ∈ lw_all := lw_g (lw_at lw_m8 227 rfl) rfl
theorem q2154 : (Jvm.Cond.instanceMethod ({ cls := "TransportPair$Receiving", name := "settle", desc := "()V" } : Jvm.MethodName)) ∈ lw_all := lw_g (lw_at lw_m8 228 rfl) rfl
theorem q2155 : (Jvm.Cond.selects "TransportPair$Receiving" ({ cls := "TransportPair$Receiving", name := "settle", desc := "()V" } : Jvm.MethodName) ({ cls := "TransportPair$Receiving", name := "settle", desc := "()V" } : Jvm.MethodName)) ∈ lw_all := lw_g (lw_at lw_m8 229 rfl) rfl
theorem q2156 : (Jvm.Cond.code ({ cls := "TransportPair$Receiving", name := "settle", desc := "()V" } : Jvm.MethodName) prog_22_method_5_code (1 : Nat) (Option.none : Option Jvm.ClassFile.FieldType)) ∈ lw_all := lw_g (lw_at lw_m8 230 rfl) rfl
theorem q2157 : (Jvm.Cond.methodLink "TransportPair$Hall" (203 : Nat) ({ cls := "TransportPair$Hall", name := "mayBeOver", desc := "(IZ)V" } : Jvm.MethodName)) ∈ lw_all := lw_g (lw_at lw_m8 231 rfl) rfl
theorem q2159 : (Jvm.Cond.instanceMethod ({ cls := "TransportPair$Hall", name := "mayBeOver", desc := "(IZ)V" } : Jvm.MethodName)) ∈ lw_all := lw_g (lw_at lw_m8 233 rfl) rfl
theorem q2160 : (Jvm.Cond.code ({ cls := "TransportPair$Hall", name := "mayBeOver", desc := "(IZ)V" } : Jvm.MethodName) prog_12_method_13_code (4 : Nat) (Option.none : Option Jvm.ClassFile.FieldType)) ∈ lw_all := lw_g (lw_at lw_m8 234 rfl) rfl
theorem q2161 : (Jvm.Cond.methodLink "TransportPair$Hall" (124 : Nat) ({ cls := "TransportPair$Hall", name := "way", desc := "(J)LTransportPair$Way;" } : Jvm.MethodName)) ∈ lw_all := lw_g (lw_at lw_m8 235 rfl) rfl
theorem q2163 : (Jvm.Cond.instanceMethod ({ cls := "TransportPair$Hall", name := "way", desc := "(J)LTransportPair$Way;" } : Jvm.MethodName)) ∈ lw_all := lw_g (lw_at lw_m8 237 rfl) rfl
theorem q2164 : (Jvm.Cond.code ({ cls := "TransportPair$Hall", name := "way", desc := "(J)LTransportPair$Way;" } : Jvm.MethodName) prog_12_method_6_code (3 : Nat) (Option.some (Jvm.ClassFile.FieldType.object "TransportPair$Way"))) ∈ lw_all := lw_g (lw_at lw_m8 238 rfl) rfl
theorem q2165 : (Jvm.Cond.methodLink "TransportPair" (158 : Nat) ({ cls := "java/lang/Math", name := "max", desc := "(II)I" } : Jvm.MethodName)) ∈ lw_all := lw_g (lw_at lw_m8 239 rfl) rfl
theorem q2166 : (Jvm.Cond.static ({ cls := "java/lang/Math", name := "max", desc := "(II)I" } : Jvm.MethodName)) ∈ lw_all := lw_g (lw_at lw_m9 0 rfl) rfl
theorem q2167 : (Jvm.Cond.code ({ cls := "java/lang/Math", name := "max", desc := "(II)I" } : Jvm.MethodName) prog_51_method_65_code (2 : Nat) (Option.some Jvm.ClassFile.FieldType.int)) ∈ lw_all := lw_g (lw_at lw_m9 1 rfl) rfl
theorem q2168 : (Jvm.Cond.methodLink "TransportPairLaw" (166 : Nat) ({ cls := "TransportPairLaw", name := "outs", desc := "(LTransportPair;I[J)I" } : Jvm.MethodName)) ∈ lw_all := lw_g (lw_at lw_m9 2 rfl) rfl
theorem q2169 : (Jvm.Cond.static ({ cls := "TransportPairLaw", name := "outs", desc := "(LTransportPair;I[J)I" } : Jvm.MethodName)) ∈ lw_all := lw_g (lw_at lw_m9 3 rfl) rfl
theorem q2170 : (Jvm.Cond.codeWith ({ cls := "TransportPairLaw", name := "outs", desc := "(LTransportPair;I[J)I" } : Jvm.MethodName) method_15_code (4 : Nat) (Option.some Jvm.ClassFile.FieldType.int) [((0 : Nat), (8 : Nat), (11 : Nat), (62 : Nat))]) ∈ lw_all := lw_g (lw_at lw_m9 4 rfl) rfl
theorem q2171 : (Jvm.Cond.classLink "TransportPairLaw" (62 : Nat) "java/util/NoSuchElementException") ∈ lw_all := lw_g (lw_at lw_m9 5 rfl) rfl
theorem q2172 : (Jvm.Cond.methodLink "TransportPairLaw" (58 : Nat) ({ cls := "TransportPair", name := "outs", desc := "(I)J" } : Jvm.MethodName)) ∈ lw_all := lw_g (lw_at lw_m9 6 rfl) rfl
theorem q2173 : (Jvm.Cond.instanceMethod ({ cls := "TransportPair", name := "outs", desc := "(I)J" } : Jvm.MethodName)) ∈ lw_all := lw_g (lw_at lw_m9 7 rfl) rfl
theorem q2174 : (Jvm.Cond.selects "TransportPair" ({ cls := "TransportPair", name := "outs", desc := "(I)J" } : Jvm.MethodName) ({ cls := "TransportPair", name := "outs", desc := "(I)J" } : Jvm.MethodName)) ∈ lw_all := lw_g (lw_at lw_m9 8 rfl) rfl
theorem q2175 : (Jvm.Cond.code ({ cls := "TransportPair", name := "outs", desc := "(I)J" } : Jvm.MethodName) prog_1_method_24_code (5 : Nat) (Option.some Jvm.ClassFile.FieldType.long)) ∈ lw_all := lw_g (lw_at lw_m9 9 rfl) rfl
theorem q2176 : (Jvm.Cond.methodLink "TransportPair" (68 : Nat) ({ cls := "TransportPair", name := "there", desc := "(Z)V" } : Jvm.MethodName)) ∈ lw_all := lw_g (lw_at lw_m9 10 rfl) rfl
theorem q2177 : (Jvm.Cond.static ({ cls := "TransportPair", name := "there", desc := "(Z)V" } : Jvm.MethodName)) ∈ lw_all := lw_g (lw_at lw_m9 11 rfl) rfl
theorem q2178 : (Jvm.Cond.code ({ cls := "TransportPair", name := "there", desc := "(Z)V" } : Jvm.MethodName) prog_1_method_6_code (1 : Nat) (Option.none : Option Jvm.ClassFile.FieldType)) ∈ lw_all := lw_g (lw_at lw_m9 12 rfl) rfl
theorem q2179 : (Jvm.Cond.classLink "TransportPair" (53 : Nat) "java/util/NoSuchElementException") ∈ lw_all := lw_g (lw_at lw_m9 13 rfl) rfl
theorem q2180 : (Jvm.Cond.instantiable "java/util/NoSuchElementException" (6 : Nat)) ∈ lw_all := lw_g (lw_at lw_m9 14 rfl) rfl
theorem q2181 : (Jvm.Cond.castable "java/util/NoSuchElementException" "java/util/NoSuchElementException") ∈ lw_tbl := lw_at lw_m9 15 rfl
theorem q2194 : (Jvm.Cond.methodLink "TransportPair" (167 : Nat) ({ cls := "java/lang/Math", name := "min", desc := "(II)I" } : Jvm.MethodName)) ∈ lw_all := lw_g (lw_at lw_m9 28 rfl) rfl
theorem q2195 : (Jvm.Cond.constantLong "TransportPair" (170 : Nat) (255 : Int64)) ∈ lw_all := lw_g (lw_at lw_m9 29 rfl) rfl
theorem q2196 : (Jvm.Cond.methodLink "TransportPairLaw" (169 : Nat) ({ cls := "TransportPairLaw", name := "close", desc := "(LTransportPair;II[J)I" } : Jvm.MethodName)) ∈ lw_all := lw_g (lw_at lw_m9 30 rfl) rfl
theorem q2197 : (Jvm.Cond.static ({ cls := "TransportPairLaw", name := "close", desc := "(LTransportPair;II[J)I" } : Jvm.MethodName)) ∈ lw_all := lw_g (lw_at lw_m9 31 rfl) rfl
theorem q2198 : (Jvm.Cond.codeWith ({ cls := "TransportPairLaw", name := "close", desc := "(LTransportPair;II[J)I" } : Jvm.MethodName) method_16_code (5 : Nat) (Option.some Jvm.ClassFile.FieldType.int) [((0 : Nat), (17 : Nat), (20 : Nat), (19 : Nat))]) ∈ lw_all := lw_g (lw_at lw_m9 32 rfl) rfl
theorem q2199 : (Jvm.Cond.methodLink "TransportPairLaw" (64 : Nat) ({ cls := "TransportPair", name := "close", desc := "(II)Z" } : Jvm.MethodName)) ∈ lw_all := lw_g (lw_at lw_m9 33 rfl) rfl
theorem q2200 : (Jvm.Cond.instanceMethod ({ cls := "TransportPair", name := "close", desc := "(II)Z" } : Jvm.MethodName)) ∈ lw_all := lw_g (lw_at lw_m9 34 rfl) rfl
theorem q2201 : (Jvm.Cond.selects "TransportPair" ({ cls := "TransportPair", name := "close", desc := "(II)Z" } : Jvm.MethodName) ({ cls := "TransportPair", name := "close", desc := "(II)Z" } : Jvm.MethodName)) ∈ lw_all := lw_g (lw_at lw_m9 35 rfl) rfl
theorem q2202 : (Jvm.Cond.code ({ cls := "TransportPair", name := "close", desc := "(II)Z" } : Jvm.MethodName) prog_1_method_25_code (5 : Nat) (Option.some Jvm.ClassFile.FieldType.boolean)) ∈ lw_all := lw_g (lw_at lw_m9 36 rfl) rfl
theorem q2203 : (Jvm.Cond.constantLong "TransportPair" (172 : Nat) (9999 : Int64)) ∈ lw_all := lw_g (lw_at lw_m9 37 rfl) rfl
theorem q2204 : (Jvm.Cond.methodLink "TransportPair" (174 : Nat) ({ cls := "TransportPair$Side", name := "isLive", desc := "()Z" } : Jvm.MethodName)) ∈ lw_all := lw_g (lw_at lw_m9 38 rfl) rfl
theorem q2205 : (Jvm.Cond.instanceMethod ({ cls := "TransportPair$Side", name := "isLive", desc := "()Z" } : Jvm.MethodName)) ∈ lw_all := lw_g (lw_at lw_m9 39 rfl) rfl
theorem q2206 : (Jvm.Cond.selects "TransportPair$Side" ({ cls := "TransportPair$Side", name := "isLive", desc := "()Z" } : Jvm.MethodName) ({ cls := "TransportPair$Side", name := "isLive", desc := "()Z" } : Jvm.MethodName)) ∈ lw_all := lw_g (lw_at lw_m9 40 rfl) rfl
theorem q2207 : (Jvm.Cond.code ({ cls := "TransportPair$Side", name := "isLive", desc := "()Z" } : Jvm.MethodName) prog_25_method_3_code (1 : Nat) (Option.some Jvm.ClassFile.FieldType.boolean)) ∈ lw_all := lw_g (lw_at lw_m9 41 rfl) rfl
theorem q2208 : (Jvm.Cond.methodLink "TransportPair" (178 : Nat) ({ cls := "TransportPair$Side", name := "close", desc := "(III)V" } : Jvm.MethodName)) ∈ lw_all := lw_g (lw_at lw_m9 42 rfl) rfl
theorem q2209 : (Jvm.Cond.instanceMethod ({ cls := "TransportPair$Side", name := "close", desc := "(III)V" } : Jvm.MethodName)) ∈ lw_all := lw_g (lw_at lw_m9 43 rfl) rfl
theorem q2210 : (Jvm.Cond.selects "TransportPair$Side" ({ cls := "TransportPair$Side", name := "close", desc := "(III)V" } : Jvm.MethodName) ({ cls := "TransportPair$Side", name := "close", desc := "(III)V" } : Jvm.MethodName)) ∈ lw_all := lw_g (lw_at lw_m9 44 rfl) rfl
theorem q2211 : (Jvm.Cond.code ({ cls := "TransportPair$Side", name := "close", desc := "(III)V" } : Jvm.MethodName) prog_25_method_16_code (4 : Nat) (Option.none : Option Jvm.ClassFile.FieldType)) ∈ lw_all := lw_g (lw_at lw_m9 45 rfl) rfl
theorem q2212 : (Jvm.Cond.methodLink "TransportPair$Side" (301 : Nat) ({ cls := "TransportPair$Side", name := "isLive", desc := "()Z" } : Jvm.MethodName)) ∈ lw_all := lw_g (lw_at lw_m9 46 rfl) rfl
theorem q2213 : (Jvm.Cond.methodLink "TransportPair$Side" (316 : Nat) ({ cls := "TransportPair$Side", name := "patience", desc := "()I" } : Jvm.MethodName)) ∈ lw_all := lw_g (lw_at lw_m9 47 rfl) rfl
theorem q2215 : (Jvm.Cond.instanceMethod ({ cls := "TransportPair$Side", name := "patience", desc := "()I" } : Jvm.MethodName)) ∈ lw_all := lw_g (lw_at lw_m9 49 rfl) rfl
theorem q2216 : (Jvm.Cond.code ({ cls := "TransportPair$Side", name := "patience", desc := "()I" } : Jvm.MethodName) prog_25_method_15_code (1 : Nat) (Option.some Jvm.ClassFile.FieldType.int)) ∈ lw_all := lw_g (lw_at lw_m9 50 rfl) rfl
theorem q2217 : (Jvm.Cond.methodLink "TransportPair$Side" (295 : Nat) ({ cls := "TransportPair$Trip", name := "patience", desc := "(Z)I" } : Jvm.MethodName)) ∈ lw_all := lw_g (lw_at lw_m9 51 rfl) rfl
theorem q2218 : (Jvm.Cond.instanceMethod ({ cls := "TransportPair$Trip", name := "patience", desc := "(Z)I" } : Jvm.MethodName)) ∈ lw_all := lw_g (lw_at lw_m9 52 rfl) rfl
theorem q2219 : (Jvm.Cond.selects "TransportPair$Trip" ({ cls := "TransportPair$Trip", name := "patience", desc := "(Z)I" } : Jvm.MethodName) ({ cls := "TransportPair$Trip", name := "patience", desc := "(Z)I" } : Jvm.MethodName)) ∈ lw_all := lw_g (lw_at lw_m9 53 rfl) rfl
theorem q2220 : (Jvm.Cond.code ({ cls := "TransportPair$Trip", name := "patience", desc := "(Z)I" } : Jvm.MethodName) prog_31_method_3_code (2 : Nat) (Option.some Jvm.ClassFile.FieldType.int)) ∈ lw_all := lw_g (lw_at lw_m9 54 rfl) rfl
theorem q2221 : (Jvm.Cond.methodLink "TransportPair$Trip" (37 : Nat) ({ cls := "java/lang/Math", name := "max", desc := "(II)I" } : Jvm.MethodName)) ∈ lw_all := lw_g (lw_at lw_m9 55 rfl) rfl
theorem q2222 : (Jvm.Cond.methodLink "TransportPairLaw" (172 : Nat) ({ cls := "TransportPairLaw", name := "raw", desc := "(LTransportPair;I)I" } : Jvm.MethodName)) ∈ lw_all := lw_g (lw_at lw_m9 56 rfl) rfl
theorem q2223 : (Jvm.Cond.static ({ cls := "TransportPairLaw", name := "raw", desc := "(LTransportPair;I)I" } : Jvm.MethodName)) ∈ lw_all := lw_g (lw_at lw_m9 57 rfl) rfl
theorem q2224 : (Jvm.Cond.codeWith ({ cls := "TransportPairLaw", name := "raw", desc := "(LTransportPair;I)I" } : Jvm.MethodName) method_17_code (3 : Nat) (Option.some Jvm.ClassFile.FieldType.int) [((0 : Nat), (5 : Nat), (8 : Nat), (19 : Nat)), ((0 : Nat), (5 : Nat), (11 : Nat), (13 : Nat))]) ∈ lw_all := lw_g (lw_at lw_m9 58 rfl) rfl
theorem q2225 : (Jvm.Cond.methodLink "TransportPairLaw" (67 : Nat) ({ cls := "TransportPair", name := "raw", desc := "(I)V" } : Jvm.MethodName)) ∈ lw_all := lw_g (lw_at lw_m9 59 rfl) rfl
theorem q2226 : (Jvm.Cond.instanceMethod ({ cls := "TransportPair", name := "raw", desc := "(I)V" } : Jvm.MethodName)) ∈ lw_all := lw_g (lw_at lw_m9 60 rfl) rfl
theorem q2227 : (Jvm.Cond.selects "TransportPair" ({ cls := "TransportPair", name := "raw", desc := "(I)V" } : Jvm.MethodName) ({ cls := "TransportPair", name := "raw", desc := "(I)V" } : Jvm.MethodName)) ∈ lw_all := lw_g (lw_at lw_m9 61 rfl) rfl
theorem q2228 : (Jvm.Cond.code ({ cls := "TransportPair", name := "raw", desc := "(I)V" } : Jvm.MethodName) prog_1_method_26_code (3 : Nat) (Option.none : Option Jvm.ClassFile.FieldType)) ∈ lw_all := lw_g (lw_at lw_m9 62 rfl) rfl
theorem q2229 : (Jvm.Cond.constantLong "TransportPair" (182 : Nat) (1000 : Int64)) ∈ lw_all := lw_g (lw_at lw_m9 63 rfl) rfl
theorem q2230 : (Jvm.Cond.methodLink "TransportPairLaw" (175 : Nat) ({ cls := "TransportPairLaw", name := "deliver", desc := "(LTransportPair;II[J)I" } : Jvm.MethodName)) ∈ lw_all := lw_g (lw_at lw_m9 64 rfl) rfl
theorem q2231 : (Jvm.Cond.static ({ cls := "TransportPairLaw", name := "deliver", desc := "(LTransportPair;II[J)I" } : Jvm.MethodName)) ∈ lw_all := lw_g (lw_at lw_m9 65 rfl) rfl
theorem q2232 : (Jvm.Cond.codeWith ({ cls := "TransportPairLaw", name := "deliver", desc := "(LTransportPair;II[J)I" } : Jvm.MethodName) method_18_code (5 : Nat) (Option.some Jvm.ClassFile.FieldType.int) [((0 : Nat), (10 : Nat), (13 : Nat), (19 : Nat)), ((0 : Nat), (10 : Nat), (17 : Nat), (62 : Nat))]) ∈ lw_all := lw_g (lw_at lw_m9 66 rfl) rfl
theorem q2233 : (Jvm.Cond.methodLink "TransportPairLaw" (70 : Nat) ({ cls := "TransportPair", name := "deliver", desc := "(II)I" } : Jvm.MethodName)) ∈ lw_all := lw_g (lw_at lw_m9 67 rfl) rfl
theorem q2234 : (Jvm.Cond.instanceMethod ({ cls := "TransportPair", name := "deliver", desc := "(II)I" } : Jvm.MethodName)) ∈ lw_all := lw_g (lw_at lw_m9 68 rfl) rfl
theorem q2235 : (Jvm.Cond.selects "TransportPair" ({ cls := "TransportPair", name := "deliver", desc := "(II)I" } : Jvm.MethodName) ({ cls := "TransportPair", name := "deliver", desc := "(II)I" } : Jvm.MethodName)) ∈ lw_all := lw_g (lw_at lw_m9 69 rfl) rfl
theorem q2236 : (Jvm.Cond.code ({ cls := "TransportPair", name := "deliver", desc := "(II)I" } : Jvm.MethodName) prog_1_method_28_code (3 : Nat) (Option.some Jvm.ClassFile.FieldType.int)) ∈ lw_all := lw_g (lw_at lw_m9 70 rfl) rfl
theorem q2237 : (Jvm.Cond.methodLink "TransportPair" (204 : Nat) ({ cls := "TransportPair", name := "on", desc := "(II)LTransportPair$Line;" } : Jvm.MethodName)) ∈ lw_all := lw_g (lw_at lw_m9 71 rfl) rfl
theorem q2239 : (Jvm.Cond.instanceMethod ({ cls := "TransportPair", name := "on", desc := "(II)LTransportPair$Line;" } : Jvm.MethodName)) ∈ lw_all := lw_g (lw_at lw_m9 73 rfl) rfl
theorem q2240 : (Jvm.Cond.code ({ cls := "TransportPair", name := "on", desc := "(II)LTransportPair$Line;" } : Jvm.MethodName) prog_1_method_9_code (3 : Nat) (Option.some (Jvm.ClassFile.FieldType.object "TransportPair$Line"))) ∈ lw_all := lw_g (lw_at lw_m9 74 rfl) rfl
theorem q2241 : (Jvm.Cond.methodLink "TransportPair" (208 : Nat) ({ cls := "TransportPair", name := "comes", desc := "(II)I" } : Jvm.MethodName)) ∈ lw_all := lw_g (lw_at lw_m9 75 rfl) rfl
theorem q2243 : (Jvm.Cond.instanceMethod ({ cls := "TransportPair", name := "comes", desc := "(II)I" } : Jvm.MethodName)) ∈ lw_all := lw_g (lw_at lw_m9 77 rfl) rfl
theorem q2244 : (Jvm.Cond.code ({ cls := "TransportPair", name := "comes", desc := "(II)I" } : Jvm.MethodName) prog_1_method_27_code (5 : Nat) (Option.some Jvm.ClassFile.FieldType.int)) ∈ lw_all := lw_g (lw_at lw_m9 78 rfl) rfl
theorem q2245 : (Jvm.Cond.methodLink "TransportPair" (197 : Nat) ({ cls := "TransportPair$Line", name := "remove", desc := "(I)V" } : Jvm.MethodName)) ∈ lw_all := lw_g (lw_at lw_m9 79 rfl) rfl
theorem q2246 : (Jvm.Cond.instanceMethod ({ cls := "TransportPair$Line", name := "remove", desc := "(I)V" } : Jvm.MethodName)) ∈ lw_all := lw_g (lw_at lw_m9 80 rfl) rfl
theorem q2247 : (Jvm.Cond.selects "TransportPair$Line" ({ cls := "TransportPair$Line", name := "remove", desc := "(I)V" } : Jvm.MethodName) ({ cls := "TransportPair$Line", name := "remove", desc := "(I)V" } : Jvm.MethodName)) ∈ lw_all := lw_g (lw_at lw_m9 81 rfl) rfl
theorem q2248 : (Jvm.Cond.code ({ cls := "TransportPair$Line", name := "remove", desc := "(I)V" } : Jvm.MethodName) prog_17_method_3_code (4 : Nat) (Option.none : Option Jvm.ClassFile.FieldType)) ∈ lw_all := lw_g (lw_at lw_m9 82 rfl) rfl
theorem q2249 : (Jvm.Cond.methodLink "TransportPair" (200 : Nat) ({ cls := "TransportPair$Side", name := "comes", desc := "([BI)V" } : Jvm.MethodName)) ∈ lw_all := lw_g (lw_at lw_m9 83 rfl) rfl
theorem q2250 : (Jvm.Cond.instanceMethod ({ cls := "TransportPair$Side", name := "comes", desc := "([BI)V" } : Jvm.MethodName)) ∈ lw_all := lw_g (lw_at lw_m9 84 rfl) rfl
theorem q2251 : (Jvm.Cond.selects "TransportPair$Side" ({ cls := "TransportPair$Side", name := "comes", desc := "([BI)V" } : Jvm.MethodName) ({ cls := "TransportPair$Side", name := "comes", desc := "([BI)V" } : Jvm.MethodName)) ∈ lw_all := lw_g (lw_at lw_m9 85 rfl) rfl
theorem q2252 : (Jvm.Cond.code ({ cls := "TransportPair$Side", name := "comes", desc := "([BI)V" } : Jvm.MethodName) prog_25_method_20_code (5 : Nat) (Option.none : Option Jvm.ClassFile.FieldType)) ∈ lw_all := lw_g (lw_at lw_m9 86 rfl) rfl
theorem q2253 : (Jvm.Cond.methodLink "TransportPair$Side" (348 : Nat) ({ cls := "TransportPair$Header", name := "read", desc := "(LTransportPair$Bytes;I)I" } : Jvm.MethodName)) ∈ lw_all := lw_g (lw_at lw_m9 87 rfl) rfl
theorem q2254 : (Jvm.Cond.instanceMethod ({ cls := "TransportPair$Header", name := "read", desc := "(LTransportPair$Bytes;I)I" } : Jvm.MethodName)) ∈ lw_all := lw_g (lw_at lw_m9 88 rfl) rfl
theorem q2255 : (Jvm.Cond.selects "TransportPair$Header" ({ cls := "TransportPair$Header", name := "read", desc := "(LTransportPair$Bytes;I)I" } : Jvm.MethodName) ({ cls := "TransportPair$Header", name := "read", desc := "(LTransportPair$Bytes;I)I" } : Jvm.MethodName)) ∈ lw_all := lw_g (lw_at lw_m9 89 rfl) rfl
theorem q2256 : (Jvm.Cond.code ({ cls := "TransportPair$Header", name := "read", desc := "(LTransportPair$Bytes;I)I" } : Jvm.MethodName) prog_14_method_3_code (4 : Nat) (Option.some Jvm.ClassFile.FieldType.int)) ∈ lw_all := lw_g (lw_at lw_m9 90 rfl) rfl
theorem q2257 : (Jvm.Cond.methodLink "TransportPair$Header" (39 : Nat) ({ cls := "TransportPair$Bytes", name := "one", desc := "()I" } : Jvm.MethodName)) ∈ lw_all := lw_g (lw_at lw_m9 91 rfl) rfl
theorem q2258 : (Jvm.Cond.instanceMethod ({ cls := "TransportPair$Bytes", name := "one", desc := "()I" } : Jvm.MethodName)) ∈ lw_all := lw_g (lw_at lw_m9 92 rfl) rfl
theorem q2259 : (Jvm.Cond.selects "TransportPair$Bytes" ({ cls := "TransportPair$Bytes", name := "one", desc := "()I" } : Jvm.MethodName) ({ cls := "TransportPair$Bytes", name := "one", desc := "()I" } : Jvm.MethodName)) ∈ lw_all := lw_g (lw_at lw_m9 93 rfl) rfl
theorem q2260 : (Jvm.Cond.code ({ cls := "TransportPair$Bytes", name := "one", desc := "()I" } : Jvm.MethodName) prog_5_method_5_code (1 : Nat) (Option.some Jvm.ClassFile.FieldType.int)) ∈ lw_all := lw_g (lw_at lw_m9 94 rfl) rfl
theorem q2261 : (Jvm.Cond.methodLink "TransportPair$Header" (47 : Nat) ({ cls := "TransportPair$Header", name := "fails", desc := "(I)I" } : Jvm.MethodName)) ∈ lw_all := lw_g (lw_at lw_m9 95 rfl) rfl
theorem q2263 : (Jvm.Cond.instanceMethod ({ cls := "TransportPair$Header", name := "fails", desc := "(I)I" } : Jvm.MethodName)) ∈ lw_all := lw_g (lw_at lw_m9 97 rfl) rfl
theorem q2264 : (Jvm.Cond.code ({ cls := "TransportPair$Header", name := "fails", desc := "(I)I" } : Jvm.MethodName) prog_14_method_2_code (2 : Nat) (Option.some Jvm.ClassFile.FieldType.int)) ∈ lw_all := lw_g (lw_at lw_m9 98 rfl) rfl
theorem q2265 : (Jvm.Cond.methodLink "TransportPair$Header" (51 : Nat) ({ cls := "TransportPair$Header", name := "readShort", desc := "(LTransportPair$Bytes;II)I" } : Jvm.MethodName)) ∈ lw_all := lw_g (lw_at lw_m9 99 rfl) rfl
theorem q2267 : (Jvm.Cond.instanceMethod ({ cls := "TransportPair$Header", name := "readShort", desc := "(LTransportPair$Bytes;II)I" } : Jvm.MethodName)) ∈ lw_all := lw_g (lw_at lw_m9 101 rfl) rfl
theorem q2268 : (Jvm.Cond.code ({ cls := "TransportPair$Header", name := "readShort", desc := "(LTransportPair$Bytes;II)I" } : Jvm.MethodName) prog_14_method_4_code (4 : Nat) (Option.some Jvm.ClassFile.FieldType.int)) ∈ lw_all := lw_g (lw_at lw_m9 102 rfl) rfl
theorem q2269 : (Jvm.Cond.methodLink "TransportPair$Header" (68 : Nat) ({ cls := "TransportPair$Bytes", name := "pass", desc := "(I)I" } : Jvm.MethodName)) ∈ lw_all := lw_g (lw_at lw_m9 103 rfl) rfl
theorem q2270 : (Jvm.Cond.instanceMethod ({ cls := "TransportPair$Bytes", name := "pass", desc := "(I)I" } : Jvm.MethodName)) ∈ lw_all := lw_g (lw_at lw_m9 104 rfl) rfl
theorem q2271 : (Jvm.Cond.selects "TransportPair$Bytes" ({ cls := "TransportPair$Bytes", name := "pass", desc := "(I)I" } : Jvm.MethodName) ({ cls := "TransportPair$Bytes", name := "pass", desc := "(I)I" } : Jvm.MethodName)) ∈ lw_all := lw_g (lw_at lw_m9 105 rfl) rfl
theorem q2272 : (Jvm.Cond.code ({ cls := "TransportPair$Bytes", name := "pass", desc := "(I)I" } : Jvm.MethodName) prog_5_method_8_code (3 : Nat) (Option.some Jvm.ClassFile.FieldType.int)) ∈ lw_all := lw_g (lw_at lw_m9 106 rfl) rfl
theorem q2273 : (Jvm.Cond.methodLink "TransportPair$Header" (81 : Nat) ({ cls := "TransportPair$Bytes", name := "left", desc := "()I" } : Jvm.MethodName)) ∈ lw_all := lw_g (lw_at lw_m9 107 rfl) rfl
theorem q2274 : (Jvm.Cond.instanceMethod ({ cls := "TransportPair$Bytes", name := "left", desc := "()I" } : Jvm.MethodName)) ∈ lw_all := lw_g (lw_at lw_m9 108 rfl) rfl
theorem q2275 : (Jvm.Cond.selects "TransportPair$Bytes" ({ cls := "TransportPair$Bytes", name := "left", desc := "()I" } : Jvm.MethodName) ({ cls := "TransportPair$Bytes", name := "left", desc := "()I" } : Jvm.MethodName)) ∈ lw_all := lw_g (lw_at lw_m9 109 rfl) rfl
theorem q2276 : (Jvm.Cond.code ({ cls := "TransportPair$Bytes", name := "left", desc := "()I" } : Jvm.MethodName) prog_5_method_3_code (1 : Nat) (Option.some Jvm.ClassFile.FieldType.int)) ∈ lw_all := lw_g (lw_at lw_m9 110 rfl) rfl
theorem q2277 : (Jvm.Cond.methodLink "TransportPair$Header" (55 : Nat) ({ cls := "TransportPair$Header", name := "readLong", desc := "(LTransportPair$Bytes;I)I" } : Jvm.MethodName)) ∈ lw_all := lw_g (lw_at lw_m9 111 rfl) rfl
theorem q2279 : (Jvm.Cond.instanceMethod ({ cls := "TransportPair$Header", name := "readLong", desc := "(LTransportPair$Bytes;I)I" } : Jvm.MethodName)) ∈ lw_all := lw_g (lw_at lw_m9 113 rfl) rfl
theorem q2280 : (Jvm.Cond.code ({ cls := "TransportPair$Header", name := "readLong", desc := "(LTransportPair$Bytes;I)I" } : Jvm.MethodName) prog_14_method_5_code (3 : Nat) (Option.some Jvm.ClassFile.FieldType.int)) ∈ lw_all := lw_g (lw_at lw_m9 114 rfl) rfl
theorem q2281 : (Jvm.Cond.methodLink "TransportPair$Header" (84 : Nat) ({ cls := "TransportPair$Bytes", name := "many", desc := "(I)J" } : Jvm.MethodName)) ∈ lw_all := lw_g (lw_at lw_m9 115 rfl) rfl
theorem q2282 : (Jvm.Cond.instanceMethod ({ cls := "TransportPair$Bytes", name := "many", desc := "(I)J" } : Jvm.MethodName)) ∈ lw_all := lw_g (lw_at lw_m9 116 rfl) rfl
theorem q2283 : (Jvm.Cond.selects "TransportPair$Bytes" ({ cls := "TransportPair$Bytes", name := "many", desc := "(I)J" } : Jvm.MethodName) ({ cls := "TransportPair$Bytes", name := "many", desc := "(I)J" } : Jvm.MethodName)) ∈ lw_all := lw_g (lw_at lw_m9 117 rfl) rfl
theorem q2284 : (Jvm.Cond.code ({ cls := "TransportPair$Bytes", name := "many", desc := "(I)J" } : Jvm.MethodName) prog_5_method_6_code (5 : Nat) (Option.some Jvm.ClassFile.FieldType.long)) ∈ lw_all := lw_g (lw_at lw_m9 118 rfl) rfl
theorem q2285 : (Jvm.Cond.methodLink "TransportPair$Header" (88 : Nat) ({ cls := "TransportPair$Header", name := "readRest", desc := "(LTransportPair$Bytes;)I" } : Jvm.MethodName)) ∈ lw_all := lw_g (lw_at lw_m9 119 rfl) rfl
theorem q2287 : (Jvm.Cond.instanceMethod ({ cls := "TransportPair$Header", name := "readRest", desc := "(LTransportPair$Bytes;)I" } : Jvm.MethodName)) ∈ lw_all := lw_g (lw_at lw_m9 121 rfl) rfl
theorem q2288 : (Jvm.Cond.code ({ cls := "TransportPair$Header", name := "readRest", desc := "(LTransportPair$Bytes;)I" } : Jvm.MethodName) prog_14_method_6_code (4 : Nat) (Option.some Jvm.ClassFile.FieldType.int)) ∈ lw_all := lw_g (lw_at lw_m9 122 rfl) rfl
theorem q2289 : (Jvm.Cond.methodLink "TransportPair$Header" (92 : Nat) ({ cls := "TransportPair$Bytes", name := "number", desc := "()J" } : Jvm.MethodName)) ∈ lw_all := lw_g (lw_at lw_m9 123 rfl) rfl
theorem q2290 : (Jvm.Cond.instanceMethod ({ cls := "TransportPair$Bytes", name := "number", desc := "()J" } : Jvm.MethodName)) ∈ lw_all := lw_g (lw_at lw_m9 124 rfl) rfl
theorem q2291 : (Jvm.Cond.selects "TransportPair$Bytes" ({ cls := "TransportPair$Bytes", name := "number", desc := "()J" } : Jvm.MethodName) ({ cls := "TransportPair$Bytes", name := "number", desc := "()J" } : Jvm.MethodName)) ∈ lw_all := lw_g (lw_at lw_m9 125 rfl) rfl
theorem q2292 : (Jvm.Cond.code ({ cls := "TransportPair$Bytes", name := "number", desc := "()J" } : Jvm.MethodName) prog_5_method_7_code (4 : Nat) (Option.some Jvm.ClassFile.FieldType.long)) ∈ lw_all := lw_g (lw_at lw_m9 126 rfl) rfl
theorem q2293 : (Jvm.Cond.methodLink "TransportPair$Bytes" (30 : Nat) ({ cls := "TransportPair$Bytes", name := "many", desc := "(I)J" } : Jvm.MethodName)) ∈ lw_all := lw_g (lw_at lw_m9 127 rfl) rfl
theorem q2294 : (Jvm.Cond.constantLong "TransportPair$Bytes" (34 : Nat) (4611686018427387903 : Int64)) ∈ lw_all := lw_g (lw_at lw_m9 128 rfl) rfl
theorem q2295 : (Jvm.Cond.constantLong "TransportPair$Header" (95 : Nat) (20 : Int64)) ∈ lw_all := lw_g (lw_at lw_m9 129 rfl) rfl
theorem q2296 : (Jvm.Cond.methodLink "TransportPair$Side" (351 : Nat) ({ cls := "TransportPair$Side", name := "sameTo", desc := "([B)Z" } : Jvm.MethodName)) ∈ lw_all := lw_g (lw_at lw_m9 130 rfl) rfl
theorem q2298 : (Jvm.Cond.instanceMethod ({ cls := "TransportPair$Side", name := "sameTo", desc := "([B)Z" } : Jvm.MethodName)) ∈ lw_all := lw_g (lw_at lw_m9 132 rfl) rfl
theorem q2299 : (Jvm.Cond.code ({ cls := "TransportPair$Side", name := "sameTo", desc := "([B)Z" } : Jvm.MethodName) prog_25_method_21_code (4 : Nat) (Option.some Jvm.ClassFile.FieldType.boolean)) ∈ lw_all := lw_g (lw_at lw_m9 133 rfl) rfl
theorem q2300 : (Jvm.Cond.methodLink "TransportPair$Side" (367 : Nat) ({ cls := "TransportPair$Side", name := "packet", desc := "([BI)V" } : Jvm.MethodName)) ∈ lw_all := lw_g (lw_at lw_m9 134 rfl) rfl
theorem q2302 : (Jvm.Cond.instanceMethod ({ cls := "TransportPair$Side", name := "packet", desc := "([BI)V" } : Jvm.MethodName)) ∈ lw_all := lw_g (lw_at lw_m9 136 rfl) rfl
theorem q2303 : (Jvm.Cond.code ({ cls := "TransportPair$Side", name := "packet", desc := "([BI)V" } : Jvm.MethodName) prog_25_method_23_code (5 : Nat) (Option.none : Option Jvm.ClassFile.FieldType)) ∈ lw_all := lw_g (lw_at lw_m9 137 rfl) rfl
theorem q2304 : (Jvm.Cond.methodLink "TransportPair$Side" (374 : Nat) ({ cls := "TransportPair$Side", name := "isTo", desc := "([BI)Z" } : Jvm.MethodName)) ∈ lw_all := lw_g (lw_at lw_m9 138 rfl) rfl
theorem q2306 : (Jvm.Cond.instanceMethod ({ cls := "TransportPair$Side", name := "isTo", desc := "([BI)Z" } : Jvm.MethodName)) ∈ lw_all := lw_g (lw_at lw_m9 140 rfl) rfl
theorem q2307 : (Jvm.Cond.code ({ cls := "TransportPair$Side", name := "isTo", desc := "([BI)Z" } : Jvm.MethodName) prog_25_method_22_code (5 : Nat) (Option.some Jvm.ClassFile.FieldType.boolean)) ∈ lw_all := lw_g (lw_at lw_m9 141 rfl) rfl
theorem q2308 : (Jvm.Cond.methodLink "TransportPair$Side" (378 : Nat) ({ cls := "TransportPair$Side", name := "open", desc := "([BI)I" } : Jvm.MethodName)) ∈ lw_all := lw_g (lw_at lw_m9 142 rfl) rfl
theorem q2310 : (Jvm.Cond.instanceMethod ({ cls := "TransportPair$Side", name := "open", desc := "([BI)I" } : Jvm.MethodName)) ∈ lw_all := lw_g (lw_at lw_m9 144 rfl) rfl
theorem q2311 : (Jvm.Cond.code ({ cls := "TransportPair$Side", name := "open", desc := "([BI)I" } : Jvm.MethodName) prog_25_method_24_code (10 : Nat) (Option.some Jvm.ClassFile.FieldType.int)) ∈ lw_all := lw_g (lw_at lw_m9 145 rfl) rfl
theorem q2312 : (Jvm.Cond.methodLink "TransportPair$Side" (397 : Nat) ({ cls := "TransportPair$Guard", name := "shield", desc := "(LTransportPair$Bench;[BIIZ)I" } : Jvm.MethodName)) ∈ lw_all := lw_g (lw_at lw_m9 146 rfl) rfl
theorem q2313 : (Jvm.Cond.instanceMethod ({ cls := "TransportPair$Guard", name := "shield", desc := "(LTransportPair$Bench;[BIIZ)I" } : Jvm.MethodName)) ∈ lw_all := lw_g (lw_at lw_m9 147 rfl) rfl
theorem q2314 : (Jvm.Cond.selects "TransportPair$Guard" ({ cls := "TransportPair$Guard", name := "shield", desc := "(LTransportPair$Bench;[BIIZ)I" } : Jvm.MethodName) ({ cls := "TransportPair$Guard", name := "shield", desc := "(LTransportPair$Bench;[BIIZ)I" } : Jvm.MethodName)) ∈ lw_all := lw_g (lw_at lw_m9 148 rfl) rfl
theorem q2315 : (Jvm.Cond.code ({ cls := "TransportPair$Guard", name := "shield", desc := "(LTransportPair$Bench;[BIIZ)I" } : Jvm.MethodName) prog_11_method_9_code (10 : Nat) (Option.some Jvm.ClassFile.FieldType.int)) ∈ lw_all := lw_g (lw_at lw_m9 149 rfl) rfl
theorem q2316 : (Jvm.Cond.methodLinkNest "TransportPair$Guard" (127 : Nat) ({ cls := "TransportPair", name := "word", desc := "([BI)I" } : Jvm.MethodName) "TransportPair") ∈ lw_tbl := lw_at lw_m9 150 rfl
theorem q2317 : (Jvm.Cond.static ({ cls := "TransportPair", name := "word", desc := "([BI)I" } : Jvm.MethodName)) ∈ lw_all := lw_g (lw_at lw_m9 151 rfl) rfl
theorem q2318 : (Jvm.Cond.code ({ cls := "TransportPair", name := "word", desc := "([BI)I" } : Jvm.MethodName) prog_1_method_1_code (2 : Nat) (Option.some Jvm.ClassFile.FieldType.int)) ∈ lw_all := lw_g (lw_at lw_m9 152 rfl) rfl
theorem q2319 : (Jvm.Cond.methodLink "TransportPair$Guard" (79 : Nat) ({ cls := "TransportPair$Keystream", name := "begin", desc := "([B[BII)V" } : Jvm.MethodName)) ∈ lw_all := lw_g (lw_at lw_m9 153 rfl) rfl
theorem q2320 : (Jvm.Cond.instanceMethod ({ cls := "TransportPair$Keystream", name := "begin", desc := "([B[BII)V" } : Jvm.MethodName)) ∈ lw_all := lw_g (lw_at lw_m9 154 rfl) rfl
theorem q2321 : (Jvm.Cond.selects "TransportPair$Keystream" ({ cls := "TransportPair$Keystream", name := "begin", desc := "([B[BII)V" } : Jvm.MethodName) ({ cls := "TransportPair$Keystream", name := "begin", desc := "([B[BII)V" } : Jvm.MethodName)) ∈ lw_all := lw_g (lw_at lw_m9 155 rfl) rfl
theorem q2322 : (Jvm.Cond.code ({ cls := "TransportPair$Keystream", name := "begin", desc := "([B[BII)V" } : Jvm.MethodName) prog_15_method_2_code (6 : Nat) (Option.none : Option Jvm.ClassFile.FieldType)) ∈ lw_all := lw_g (lw_at lw_m9 156 rfl) rfl
theorem q2323 : (Jvm.Cond.constant "TransportPair$Keystream" (22 : Nat) (1634760805 : Int32)) ∈ lw_all := lw_g (lw_at lw_m9 157 rfl) rfl
theorem q2324 : (Jvm.Cond.constant "TransportPair$Keystream" (23 : Nat) (857760878 : Int32)) ∈ lw_all := lw_g (lw_at lw_m9 158 rfl) rfl
theorem q2325 : (Jvm.Cond.constant "TransportPair$Keystream" (24 : Nat) (2036477234 : Int32)) ∈ lw_all := lw_g (lw_at lw_m9 159 rfl) rfl
theorem q2326 : (Jvm.Cond.constant "TransportPair$Keystream" (25 : Nat) (1797285236 : Int32)) ∈ lw_all := lw_g (lw_at lw_m9 160 rfl) rfl
theorem q2327 : (Jvm.Cond.methodLinkNest "TransportPair$Keystream" (26 : Nat) ({ cls := "TransportPair", name := "word", desc := "([BI)I" } : Jvm.MethodName) "TransportPair") ∈ lw_tbl := lw_at lw_m9 161 rfl
theorem q2328 : (Jvm.Cond.methodLink "TransportPair$Guard" (88 : Nat) ({ cls := "TransportPair$Keystream", name := "next", desc := "()V" } : Jvm.MethodName)) ∈ lw_all := lw_g (lw_at lw_m9 162 rfl) rfl
theorem q2329 : (Jvm.Cond.instanceMethod ({ cls := "TransportPair$Keystream", name := "next", desc := "()V" } : Jvm.MethodName)) ∈ lw_all := lw_g (lw_at lw_m9 163 rfl) rfl
theorem q2330 : (Jvm.Cond.selects "TransportPair$Keystream" ({ cls := "TransportPair$Keystream", name := "next", desc := "()V" } : Jvm.MethodName) ({ cls := "TransportPair$Keystream", name := "next", desc := "()V" } : Jvm.MethodName)) ∈ lw_all := lw_g (lw_at lw_m9 164 rfl) rfl
theorem q2331 : (Jvm.Cond.code ({ cls := "TransportPair$Keystream", name := "next", desc := "()V" } : Jvm.MethodName) prog_15_method_4_code (3 : Nat) (Option.none : Option Jvm.ClassFile.FieldType)) ∈ lw_all := lw_g (lw_at lw_m9 165 rfl) rfl
theorem q2332 : (Jvm.Cond.methodLink "TransportPair$Keystream" (36 : Nat) ({ cls := "java/lang/System", name := "arraycopy", desc := "(Ljava/lang/Object;ILjava/lang/Object;II)V" } : Jvm.MethodName)) ∈ lw_all := lw_g (lw_at lw_m9 166 rfl) rfl
theorem q2333 : (Jvm.Cond.methodLink "TransportPair$Keystream" (42 : Nat) ({ cls := "TransportPair$Keystream", name := "mix", desc := "(IIII)V" } : Jvm.MethodName)) ∈ lw_all := lw_g (lw_at lw_m9 167 rfl) rfl
theorem q2335 : (Jvm.Cond.instanceMethod ({ cls := "TransportPair$Keystream", name := "mix", desc := "(IIII)V" } : Jvm.MethodName)) ∈ lw_all := lw_g (lw_at lw_m9 169 rfl) rfl
theorem q2336 : (Jvm.Cond.code ({ cls := "TransportPair$Keystream", name := "mix", desc := "(IIII)V" } : Jvm.MethodName) prog_15_method_3_code (5 : Nat) (Option.none : Option Jvm.ClassFile.FieldType)) ∈ lw_all := lw_g (lw_at lw_m9 170 rfl) rfl
theorem q2337 : (Jvm.Cond.methodLink "TransportPair$Keystream" (30 : Nat) ({ cls := "java/lang/Integer", name := "rotateLeft", desc := "(II)I" } : Jvm.MethodName)) ∈ lw_all := lw_g (lw_at lw_m9 171 rfl) rfl
theorem q2338 : (Jvm.Cond.static ({ cls := "java/lang/Integer", name := "rotateLeft", desc := "(II)I" } : Jvm.MethodName)) ∈ lw_all := lw_g (lw_at lw_m9 172 rfl) rfl
theorem q2339 : (Jvm.Cond.code ({ cls := "java/lang/Integer", name := "rotateLeft", desc := "(II)I" } : Jvm.MethodName) prog_49_method_50_code (2 : Nat) (Option.some Jvm.ClassFile.FieldType.int)) ∈ lw_all := lw_g (lw_at lw_m9 173 rfl) rfl
theorem q2340 : (Jvm.Cond.methodLink "TransportPair$Side" (401 : Nat) ({ cls := "TransportPair$Bytes", name := "many", desc := "(I)J" } : Jvm.MethodName)) ∈ lw_all := lw_g (lw_at lw_m9 174 rfl) rfl
theorem q2341 : (Jvm.Cond.methodLink "TransportPair$Side" (415 : Nat) ({ cls := "TransportPair$Counting", name := "grow", desc := "(JJI)J" } : Jvm.MethodName)) ∈ lw_all := lw_g (lw_at lw_m9 175 rfl) rfl
theorem q2342 : (Jvm.Cond.static ({ cls := "TransportPair$Counting", name := "grow", desc := "(JJI)J" } : Jvm.MethodName)) ∈ lw_all := lw_g (lw_at lw_m9 176 rfl) rfl
theorem q2343 : (Jvm.Cond.code ({ cls := "TransportPair$Counting", name := "grow", desc := "(JJI)J" } : Jvm.MethodName) prog_7_method_3_code (13 : Nat) (Option.some Jvm.ClassFile.FieldType.long)) ∈ lw_all := lw_g (lw_at lw_m9 177 rfl) rfl
theorem q2344 : (Jvm.Cond.constantLong "TransportPair$Counting" (17 : Nat) (2 : Int64)) ∈ lw_all := lw_g (lw_at lw_m9 178 rfl) rfl
theorem q2345 : (Jvm.Cond.constantLong "TransportPair$Counting" (19 : Nat) (4611686018427387903 : Int64)) ∈ lw_all := lw_g (lw_at lw_m9 179 rfl) rfl
theorem q2346 : (Jvm.Cond.methodLink "TransportPair$Side" (423 : Nat) ({ cls := "TransportPair$Ranges", name := "has", desc := "(J)Z" } : Jvm.MethodName)) ∈ lw_all := lw_g (lw_at lw_m9 180 rfl) rfl
theorem q2347 : (Jvm.Cond.instanceMethod ({ cls := "TransportPair$Ranges", name := "has", desc := "(J)Z" } : Jvm.MethodName)) ∈ lw_all := lw_g (lw_at lw_m9 181 rfl) rfl
theorem q2348 : (Jvm.Cond.selects "TransportPair$Ranges" ({ cls := "TransportPair$Ranges", name := "has", desc := "(J)Z" } : Jvm.MethodName) ({ cls := "TransportPair$Ranges", name := "has", desc := "(J)Z" } : Jvm.MethodName)) ∈ lw_all := lw_g (lw_at lw_m9 182 rfl) rfl
theorem q2349 : (Jvm.Cond.code ({ cls := "TransportPair$Ranges", name := "has", desc := "(J)Z" } : Jvm.MethodName) prog_21_method_4_code (4 : Nat) (Option.some Jvm.ClassFile.FieldType.boolean)) ∈ lw_all := lw_g (lw_at lw_m9 183 rfl) rfl
theorem q2350 : (Jvm.Cond.methodLink "TransportPair$Ranges" (26 : Nat) ({ cls := "TransportPair$Ranges", name := "place", desc := "(J)I" } : Jvm.MethodName)) ∈ lw_all := lw_g (lw_at lw_m9 184 rfl) rfl
theorem q2352 : (Jvm.Cond.instanceMethod ({ cls := "TransportPair$Ranges", name := "place", desc := "(J)I" } : Jvm.MethodName)) ∈ lw_all := lw_g (lw_at lw_m9 186 rfl) rfl
theorem q2353 : (Jvm.Cond.code ({ cls := "TransportPair$Ranges", name := "place", desc := "(J)I" } : Jvm.MethodName) prog_21_method_3_code (4 : Nat) (Option.some Jvm.ClassFile.FieldType.int)) ∈ lw_all := lw_g (lw_at lw_m9 187 rfl) rfl
theorem q2354 : (Jvm.Cond.methodLink "TransportPair$Side" (427 : Nat) ({ cls := "TransportPair$Guard", name := "open", desc := "(LTransportPair$Bench;J[BIII)I" } : Jvm.MethodName)) ∈ lw_all := lw_g (lw_at lw_m9 188 rfl) rfl
theorem q2355 : (Jvm.Cond.instanceMethod ({ cls := "TransportPair$Guard", name := "open", desc := "(LTransportPair$Bench;J[BIII)I" } : Jvm.MethodName)) ∈ lw_all := lw_g (lw_at lw_m9 189 rfl) rfl
theorem q2356 : (Jvm.Cond.selects "TransportPair$Guard" ({ cls := "TransportPair$Guard", name := "open", desc := "(LTransportPair$Bench;J[BIII)I" } : Jvm.MethodName) ({ cls := "TransportPair$Guard", name := "open", desc := "(LTransportPair$Bench;J[BIII)I" } : Jvm.MethodName)) ∈ lw_all := lw_g (lw_at lw_m9 190 rfl) rfl
theorem q2357 : (Jvm.Cond.code ({ cls := "TransportPair$Guard", name := "open", desc := "(LTransportPair$Bench;J[BIII)I" } : Jvm.MethodName) prog_11_method_8_code (11 : Nat) (Option.some Jvm.ClassFile.FieldType.int)) ∈ lw_all := lw_g (lw_at lw_m9 191 rfl) rfl
theorem q2358 : (Jvm.Cond.methodLink "TransportPair$Guard" (123 : Nat) ({ cls := "TransportPair$Guard", name := "reckon", desc := "(LTransportPair$Bench;J[BIII)V" } : Jvm.MethodName)) ∈ lw_all := lw_g (lw_at lw_m9 192 rfl) rfl
theorem q2360 : (Jvm.Cond.instanceMethod ({ cls := "TransportPair$Guard", name := "reckon", desc := "(LTransportPair$Bench;J[BIII)V" } : Jvm.MethodName)) ∈ lw_all := lw_g (lw_at lw_m9 194 rfl) rfl
theorem q2361 : (Jvm.Cond.code ({ cls := "TransportPair$Guard", name := "reckon", desc := "(LTransportPair$Bench;J[BIII)V" } : Jvm.MethodName) prog_11_method_6_code (9 : Nat) (Option.none : Option Jvm.ClassFile.FieldType)) ∈ lw_all := lw_g (lw_at lw_m9 195 rfl) rfl
theorem q2362 : (Jvm.Cond.methodLink "TransportPair$Guard" (85 : Nat) ({ cls := "TransportPair$Guard", name := "begin", desc := "(LTransportPair$Bench;JI)V" } : Jvm.MethodName)) ∈ lw_all := lw_g (lw_at lw_m9 196 rfl) rfl
theorem q2364 : (Jvm.Cond.instanceMethod ({ cls := "TransportPair$Guard", name := "begin", desc := "(LTransportPair$Bench;JI)V" } : Jvm.MethodName)) ∈ lw_all := lw_g (lw_at lw_m9 198 rfl) rfl
theorem q2365 : (Jvm.Cond.code ({ cls := "TransportPair$Guard", name := "begin", desc := "(LTransportPair$Bench;JI)V" } : Jvm.MethodName) prog_11_method_5_code (6 : Nat) (Option.none : Option Jvm.ClassFile.FieldType)) ∈ lw_all := lw_g (lw_at lw_m9 199 rfl) rfl
theorem q2366 : (Jvm.Cond.methodLink "TransportPair$Guard" (98 : Nat) ({ cls := "TransportPair$Tally", name := "begin", desc := "([B)V" } : Jvm.MethodName)) ∈ lw_all := lw_g (lw_at lw_m9 200 rfl) rfl
theorem q2367 : (Jvm.Cond.instanceMethod ({ cls := "TransportPair$Tally", name := "begin", desc := "([B)V" } : Jvm.MethodName)) ∈ lw_all := lw_g (lw_at lw_m9 201 rfl) rfl
theorem q2368 : (Jvm.Cond.selects "TransportPair$Tally" ({ cls := "TransportPair$Tally", name := "begin", desc := "([B)V" } : Jvm.MethodName) ({ cls := "TransportPair$Tally", name := "begin", desc := "([B)V" } : Jvm.MethodName)) ∈ lw_all := lw_g (lw_at lw_m9 202 rfl) rfl
theorem q2369 : (Jvm.Cond.code ({ cls := "TransportPair$Tally", name := "begin", desc := "([B)V" } : Jvm.MethodName) prog_30_method_3_code (7 : Nat) (Option.none : Option Jvm.ClassFile.FieldType)) ∈ lw_all := lw_g (lw_at lw_m9 203 rfl) rfl
theorem q2370 : (Jvm.Cond.methodLink "TransportPair$Tally" (31 : Nat) ({ cls := "TransportPair$Tally", name := "eight", desc := "([BI)J" } : Jvm.MethodName)) ∈ lw_all := lw_g (lw_at lw_m9 204 rfl) rfl
theorem q2371 : (Jvm.Cond.static ({ cls := "TransportPair$Tally", name := "eight", desc := "([BI)J" } : Jvm.MethodName)) ∈ lw_all := lw_g (lw_at lw_m9 205 rfl) rfl
theorem q2372 : (Jvm.Cond.code ({ cls := "TransportPair$Tally", name := "eight", desc := "([BI)J" } : Jvm.MethodName) prog_30_method_2_code (2 : Nat) (Option.some Jvm.ClassFile.FieldType.long)) ∈ lw_all := lw_g (lw_at lw_m9 206 rfl) rfl
theorem q2373 : (Jvm.Cond.methodLinkNest "TransportPair$Tally" (25 : Nat) ({ cls := "TransportPair", name := "word", desc := "([BI)I" } : Jvm.MethodName) "TransportPair") ∈ lw_tbl := lw_at lw_m9 207 rfl
theorem q2374 : (Jvm.Cond.constantLong "TransportPair$Tally" (29 : Nat) (4294967295 : Int64)) ∈ lw_all := lw_g (lw_at lw_m9 208 rfl) rfl
theorem q2375 : (Jvm.Cond.constantLong "TransportPair$Tally" (35 : Nat) (1152921487695413247 : Int64)) ∈ lw_all := lw_g (lw_at lw_m9 209 rfl) rfl
theorem q2376 : (Jvm.Cond.constantLong "TransportPair$Tally" (37 : Nat) (1152921487695413244 : Int64)) ∈ lw_all := lw_g (lw_at lw_m9 210 rfl) rfl
theorem q2377 : (Jvm.Cond.methodLink "TransportPair$Tally" (39 : Nat) ({ cls := "TransportPair$Tally", name := "split", desc := "(JJ[J)V" } : Jvm.MethodName)) ∈ lw_all := lw_g (lw_at lw_m9 211 rfl) rfl
theorem q2378 : (Jvm.Cond.static ({ cls := "TransportPair$Tally", name := "split", desc := "(JJ[J)V" } : Jvm.MethodName)) ∈ lw_all := lw_g (lw_at lw_m9 212 rfl) rfl
theorem q2379 : (Jvm.Cond.code ({ cls := "TransportPair$Tally", name := "split", desc := "(JJ[J)V" } : Jvm.MethodName) prog_30_method_4_code (5 : Nat) (Option.none : Option Jvm.ClassFile.FieldType)) ∈ lw_all := lw_g (lw_at lw_m9 213 rfl) rfl
theorem q2380 : (Jvm.Cond.constantLong "TransportPair$Tally" (54 : Nat) (67108863 : Int64)) ∈ lw_all := lw_g (lw_at lw_m9 214 rfl) rfl
theorem q2381 : (Jvm.Cond.methodLink "TransportPair$Guard" (103 : Nat) ({ cls := "TransportPair$Tally", name := "add", desc := "([BII)V" } : Jvm.MethodName)) ∈ lw_all := lw_g (lw_at lw_m9 215 rfl) rfl
theorem q2382 : (Jvm.Cond.instanceMethod ({ cls := "TransportPair$Tally", name := "add", desc := "([BII)V" } : Jvm.MethodName)) ∈ lw_all := lw_g (lw_at lw_m9 216 rfl) rfl
theorem q2383 : (Jvm.Cond.selects "TransportPair$Tally" ({ cls := "TransportPair$Tally", name := "add", desc := "([BII)V" } : Jvm.MethodName) ({ cls := "TransportPair$Tally", name := "add", desc := "([BII)V" } : Jvm.MethodName)) ∈ lw_all := lw_g (lw_at lw_m9 217 rfl) rfl
theorem q2384 : (Jvm.Cond.code ({ cls := "TransportPair$Tally", name := "add", desc := "([BII)V" } : Jvm.MethodName) prog_30_method_5_code (5 : Nat) (Option.none : Option Jvm.ClassFile.FieldType)) ∈ lw_all := lw_g (lw_at lw_m9 218 rfl) rfl
theorem q2385 : (Jvm.Cond.constantLong "TransportPair$Tally" (56 : Nat) (16777216 : Int64)) ∈ lw_all := lw_g (lw_at lw_m9 219 rfl) rfl
theorem q2386 : (Jvm.Cond.methodLink "TransportPair$Tally" (58 : Nat) ({ cls := "TransportPair$Tally", name := "take", desc := "(J)V" } : Jvm.MethodName)) ∈ lw_all := lw_g (lw_at lw_m9 220 rfl) rfl
theorem q2388 : (Jvm.Cond.instanceMethod ({ cls := "TransportPair$Tally", name := "take", desc := "(J)V" } : Jvm.MethodName)) ∈ lw_all := lw_g (lw_at lw_m9 222 rfl) rfl
theorem q2389 : (Jvm.Cond.code ({ cls := "TransportPair$Tally", name := "take", desc := "(J)V" } : Jvm.MethodName) prog_30_method_8_code (5 : Nat) (Option.none : Option Jvm.ClassFile.FieldType)) ∈ lw_all := lw_g (lw_at lw_m9 223 rfl) rfl
theorem q2390 : (Jvm.Cond.constantLong "TransportPair$Tally" (66 : Nat) (5 : Int64)) ∈ lw_all := lw_g (lw_at lw_m9 224 rfl) rfl
theorem q2391 : (Jvm.Cond.methodLink "TransportPair$Tally" (68 : Nat) ({ cls := "java/lang/System", name := "arraycopy", desc := "(Ljava/lang/Object;ILjava/lang/Object;II)V" } : Jvm.MethodName)) ∈ lw_all := lw_g (lw_at lw_m9 225 rfl) rfl
theorem q2392 : (Jvm.Cond.methodLink "TransportPair$Tally" (74 : Nat) ({ cls := "TransportPair$Tally", name := "carry", desc := "()V" } : Jvm.MethodName)) ∈ lw_all := lw_g (lw_at lw_m9 226 rfl) rfl
theorem q2394 : (Jvm.Cond.instanceMethod ({ cls := "TransportPair$Tally", name := "carry", desc := "()V" } : Jvm.MethodName)) ∈ lw_all := lw_g (lw_at lw_m9 228 rfl) rfl
theorem q2395 : (Jvm.Cond.code ({ cls := "TransportPair$Tally", name := "carry", desc := "()V" } : Jvm.MethodName) prog_30_method_9_code (2 : Nat) (Option.none : Option Jvm.ClassFile.FieldType)) ∈ lw_all := lw_g (lw_at lw_m9 229 rfl) rfl
theorem q2396 : (Jvm.Cond.methodLink "TransportPair$Guard" (107 : Nat) ({ cls := "TransportPair$Tally", name := "fill", desc := "()V" } : Jvm.MethodName)) ∈ lw_all := lw_g (lw_at lw_m9 230 rfl) rfl
theorem q2397 : (Jvm.Cond.instanceMethod ({ cls := "TransportPair$Tally", name := "fill", desc := "()V" } : Jvm.MethodName)) ∈ lw_all := lw_g (lw_at lw_m9 231 rfl) rfl
theorem q2398 : (Jvm.Cond.selects "TransportPair$Tally" ({ cls := "TransportPair$Tally", name := "fill", desc := "()V" } : Jvm.MethodName) ({ cls := "TransportPair$Tally", name := "fill", desc := "()V" } : Jvm.MethodName)) ∈ lw_all := lw_g (lw_at lw_m9 232 rfl) rfl
theorem q2399 : (Jvm.Cond.code ({ cls := "TransportPair$Tally", name := "fill", desc := "()V" } : Jvm.MethodName) prog_30_method_6_code (1 : Nat) (Option.none : Option Jvm.ClassFile.FieldType)) ∈ lw_all := lw_g (lw_at lw_m9 233 rfl) rfl
theorem q2400 : (Jvm.Cond.methodLink "TransportPair$Tally" (62 : Nat) ({ cls := "TransportPair$Tally", name := "finish", desc := "(IJ)V" } : Jvm.MethodName)) ∈ lw_all := lw_g (lw_at lw_m9 234 rfl) rfl
theorem q2402 : (Jvm.Cond.instanceMethod ({ cls := "TransportPair$Tally", name := "finish", desc := "(IJ)V" } : Jvm.MethodName)) ∈ lw_all := lw_g (lw_at lw_m9 236 rfl) rfl
theorem q2403 : (Jvm.Cond.code ({ cls := "TransportPair$Tally", name := "finish", desc := "(IJ)V" } : Jvm.MethodName) prog_30_method_7_code (5 : Nat) (Option.none : Option Jvm.ClassFile.FieldType)) ∈ lw_all := lw_g (lw_at lw_m9 237 rfl) rfl
theorem q2404 : (Jvm.Cond.methodLink "TransportPair$Guard" (116 : Nat) ({ cls := "TransportPair$Tally", name := "end", desc := "([BI)V" } : Jvm.MethodName)) ∈ lw_all := lw_g (lw_at lw_m9 238 rfl) rfl
theorem q2405 : (Jvm.Cond.instanceMethod ({ cls := "TransportPair$Tally", name := "end", desc := "([BI)V" } : Jvm.MethodName)) ∈ lw_all := lw_g (lw_at lw_m9 239 rfl) rfl
theorem q2406 : (Jvm.Cond.selects "TransportPair$Tally" ({ cls := "TransportPair$Tally", name := "end", desc := "([BI)V" } : Jvm.MethodName) ({ cls := "TransportPair$Tally", name := "end", desc := "([BI)V" } : Jvm.MethodName)) ∈ lw_all := lw_g (lw_at lw_m10 0 rfl) rfl
theorem q2407 : (Jvm.Cond.code ({ cls := "TransportPair$Tally", name := "end", desc := "([BI)V" } : Jvm.MethodName) prog_30_method_11_code (10 : Nat) (Option.none : Option Jvm.ClassFile.FieldType)) ∈ lw_all := lw_g (lw_at lw_m10 1 rfl) rfl
theorem q2408 : (Jvm.Cond.methodLink "TransportPair$Tally" (79 : Nat) ({ cls := "TransportPair$Tally", name := "isWhole", desc := "()Z" } : Jvm.MethodName)) ∈ lw_all := lw_g (lw_at lw_m10 2 rfl) rfl
theorem q2410 : (Jvm.Cond.instanceMethod ({ cls := "TransportPair$Tally", name := "isWhole", desc := "()Z" } : Jvm.MethodName)) ∈ lw_all := lw_g (lw_at lw_m10 4 rfl) rfl
theorem q2411 : (Jvm.Cond.code ({ cls := "TransportPair$Tally", name := "isWhole", desc := "()Z" } : Jvm.MethodName) prog_30_method_10_code (3 : Nat) (Option.some Jvm.ClassFile.FieldType.boolean)) ∈ lw_all := lw_g (lw_at lw_m10 5 rfl) rfl
theorem q2412 : (Jvm.Cond.constantLong "TransportPair$Tally" (77 : Nat) (67108859 : Int64)) ∈ lw_all := lw_g (lw_at lw_m10 6 rfl) rfl
theorem q2413 : (Jvm.Cond.methodLink "TransportPair$Tally" (83 : Nat) ({ cls := "java/lang/Long", name := "compareUnsigned", desc := "(JJ)I" } : Jvm.MethodName)) ∈ lw_all := lw_g (lw_at lw_m10 7 rfl) rfl
theorem q2414 : (Jvm.Cond.static ({ cls := "java/lang/Long", name := "compareUnsigned", desc := "(JJ)I" } : Jvm.MethodName)) ∈ lw_all := lw_g (lw_at lw_m10 8 rfl) rfl
theorem q2415 : (Jvm.Cond.code ({ cls := "java/lang/Long", name := "compareUnsigned", desc := "(JJ)I" } : Jvm.MethodName) prog_50_method_43_code (4 : Nat) (Option.some Jvm.ClassFile.FieldType.int)) ∈ lw_all := lw_g (lw_at lw_m10 9 rfl) rfl
theorem q2416 : (Jvm.Cond.constantLong "java/lang/Long" (168 : Nat) (-9223372036854775808 : Int64)) ∈ lw_all := lw_g (lw_at lw_m10 10 rfl) rfl
theorem q2417 : (Jvm.Cond.methodLink "java/lang/Long" (302 : Nat) ({ cls := "java/lang/Long", name := "compare", desc := "(JJ)I" } : Jvm.MethodName)) ∈ lw_all := lw_g (lw_at lw_m10 11 rfl) rfl
theorem q2418 : (Jvm.Cond.static ({ cls := "java/lang/Long", name := "compare", desc := "(JJ)I" } : Jvm.MethodName)) ∈ lw_all := lw_g (lw_at lw_m10 12 rfl) rfl
theorem q2419 : (Jvm.Cond.code ({ cls := "java/lang/Long", name := "compare", desc := "(JJ)I" } : Jvm.MethodName) prog_50_method_42_code (4 : Nat) (Option.some Jvm.ClassFile.FieldType.int)) ∈ lw_all := lw_g (lw_at lw_m10 13 rfl) rfl
theorem q2420 : (Jvm.Cond.methodLink "TransportPair$Guard" (120 : Nat) ({ cls := "TransportPair$Keystream", name := "cover", desc := "([BII)V" } : Jvm.MethodName)) ∈ lw_all := lw_g (lw_at lw_m10 14 rfl) rfl
theorem q2421 : (Jvm.Cond.instanceMethod ({ cls := "TransportPair$Keystream", name := "cover", desc := "([BII)V" } : Jvm.MethodName)) ∈ lw_all := lw_g (lw_at lw_m10 15 rfl) rfl
theorem q2422 : (Jvm.Cond.selects "TransportPair$Keystream" ({ cls := "TransportPair$Keystream", name := "cover", desc := "([BII)V" } : Jvm.MethodName) ({ cls := "TransportPair$Keystream", name := "cover", desc := "([BII)V" } : Jvm.MethodName)) ∈ lw_all := lw_g (lw_at lw_m10 16 rfl) rfl
theorem q2423 : (Jvm.Cond.code ({ cls := "TransportPair$Keystream", name := "cover", desc := "([BII)V" } : Jvm.MethodName) prog_15_method_5_code (5 : Nat) (Option.none : Option Jvm.ClassFile.FieldType)) ∈ lw_all := lw_g (lw_at lw_m10 17 rfl) rfl
theorem q2424 : (Jvm.Cond.methodLink "TransportPair$Keystream" (46 : Nat) ({ cls := "TransportPair$Keystream", name := "next", desc := "()V" } : Jvm.MethodName)) ∈ lw_all := lw_g (lw_at lw_m10 18 rfl) rfl
theorem q2425 : (Jvm.Cond.methodLink "TransportPair$Side" (382 : Nat) ({ cls := "TransportPair$Side", name := "forget", desc := "()V" } : Jvm.MethodName)) ∈ lw_all := lw_g (lw_at lw_m10 19 rfl) rfl
theorem q2427 : (Jvm.Cond.instanceMethod ({ cls := "TransportPair$Side", name := "forget", desc := "()V" } : Jvm.MethodName)) ∈ lw_all := lw_g (lw_at lw_m10 21 rfl) rfl
theorem q2428 : (Jvm.Cond.code ({ cls := "TransportPair$Side", name := "forget", desc := "()V" } : Jvm.MethodName) prog_25_method_7_code (1 : Nat) (Option.none : Option Jvm.ClassFile.FieldType)) ∈ lw_all := lw_g (lw_at lw_m10 22 rfl) rfl
theorem q2429 : (Jvm.Cond.methodLink "TransportPair$Side" (385 : Nat) ({ cls := "TransportPair$Side", name := "opened", desc := "([BI)V" } : Jvm.MethodName)) ∈ lw_all := lw_g (lw_at lw_m10 23 rfl) rfl
theorem q2431 : (Jvm.Cond.instanceMethod ({ cls := "TransportPair$Side", name := "opened", desc := "([BI)V" } : Jvm.MethodName)) ∈ lw_all := lw_g (lw_at lw_m10 25 rfl) rfl
theorem q2432 : (Jvm.Cond.code ({ cls := "TransportPair$Side", name := "opened", desc := "([BI)V" } : Jvm.MethodName) prog_25_method_25_code (3 : Nat) (Option.none : Option Jvm.ClassFile.FieldType)) ∈ lw_all := lw_g (lw_at lw_m10 26 rfl) rfl
theorem q2433 : (Jvm.Cond.methodLink "TransportPair$Side" (287 : Nat) ({ cls := "TransportPair$Side", name := "discard", desc := "(I)V" } : Jvm.MethodName)) ∈ lw_all := lw_g (lw_at lw_m10 27 rfl) rfl
theorem q2435 : (Jvm.Cond.instanceMethod ({ cls := "TransportPair$Side", name := "discard", desc := "(I)V" } : Jvm.MethodName)) ∈ lw_all := lw_g (lw_at lw_m10 29 rfl) rfl
theorem q2436 : (Jvm.Cond.code ({ cls := "TransportPair$Side", name := "discard", desc := "(I)V" } : Jvm.MethodName) prog_25_method_14_code (2 : Nat) (Option.none : Option Jvm.ClassFile.FieldType)) ∈ lw_all := lw_g (lw_at lw_m10 30 rfl) rfl
theorem q2437 : (Jvm.Cond.methodLink "TransportPair$Side" (290 : Nat) ({ cls := "TransportPair$Book", name := "discard", desc := "(I)V" } : Jvm.MethodName)) ∈ lw_all := lw_g (lw_at lw_m10 31 rfl) rfl
theorem q2438 : (Jvm.Cond.instanceMethod ({ cls := "TransportPair$Book", name := "discard", desc := "(I)V" } : Jvm.MethodName)) ∈ lw_all := lw_g (lw_at lw_m10 32 rfl) rfl
theorem q2439 : (Jvm.Cond.selects "TransportPair$Book" ({ cls := "TransportPair$Book", name := "discard", desc := "(I)V" } : Jvm.MethodName) ({ cls := "TransportPair$Book", name := "discard", desc := "(I)V" } : Jvm.MethodName)) ∈ lw_all := lw_g (lw_at lw_m10 33 rfl) rfl
theorem q2440 : (Jvm.Cond.code ({ cls := "TransportPair$Book", name := "discard", desc := "(I)V" } : Jvm.MethodName) prog_4_method_14_code (2 : Nat) (Option.none : Option Jvm.ClassFile.FieldType)) ∈ lw_all := lw_g (lw_at lw_m10 34 rfl) rfl
theorem q2441 : (Jvm.Cond.methodLink "TransportPair$Book" (181 : Nat) ({ cls := "TransportPair$Space", name := "inFlight", desc := "()I" } : Jvm.MethodName)) ∈ lw_all := lw_g (lw_at lw_m10 35 rfl) rfl
theorem q2442 : (Jvm.Cond.instanceMethod ({ cls := "TransportPair$Space", name := "inFlight", desc := "()I" } : Jvm.MethodName)) ∈ lw_all := lw_g (lw_at lw_m10 36 rfl) rfl
theorem q2443 : (Jvm.Cond.selects "TransportPair$Space" ({ cls := "TransportPair$Space", name := "inFlight", desc := "()I" } : Jvm.MethodName) ({ cls := "TransportPair$Space", name := "inFlight", desc := "()I" } : Jvm.MethodName)) ∈ lw_all := lw_g (lw_at lw_m10 37 rfl) rfl
theorem q2444 : (Jvm.Cond.code ({ cls := "TransportPair$Space", name := "inFlight", desc := "()I" } : Jvm.MethodName) prog_26_method_7_code (3 : Nat) (Option.some Jvm.ClassFile.FieldType.int)) ∈ lw_all := lw_g (lw_at lw_m10 38 rfl) rfl
theorem q2445 : (Jvm.Cond.methodLink "TransportPair$Space" (72 : Nat) ({ cls := "TransportPair$Space", name := "is", desc := "(II)Z" } : Jvm.MethodName)) ∈ lw_all := lw_g (lw_at lw_m10 39 rfl) rfl
theorem q2446 : (Jvm.Cond.instanceMethod ({ cls := "TransportPair$Space", name := "is", desc := "(II)Z" } : Jvm.MethodName)) ∈ lw_all := lw_g (lw_at lw_m10 40 rfl) rfl
theorem q2447 : (Jvm.Cond.selects "TransportPair$Space" ({ cls := "TransportPair$Space", name := "is", desc := "(II)Z" } : Jvm.MethodName) ({ cls := "TransportPair$Space", name := "is", desc := "(II)Z" } : Jvm.MethodName)) ∈ lw_all := lw_g (lw_at lw_m10 41 rfl) rfl
theorem q2448 : (Jvm.Cond.code ({ cls := "TransportPair$Space", name := "is", desc := "(II)Z" } : Jvm.MethodName) prog_26_method_2_code (3 : Nat) (Option.some Jvm.ClassFile.FieldType.boolean)) ∈ lw_all := lw_g (lw_at lw_m10 42 rfl) rfl
theorem q2449 : (Jvm.Cond.methodLink "TransportPair$Book" (183 : Nat) ({ cls := "TransportPair$Space", name := "discard", desc := "()V" } : Jvm.MethodName)) ∈ lw_all := lw_g (lw_at lw_m10 43 rfl) rfl
theorem q2450 : (Jvm.Cond.instanceMethod ({ cls := "TransportPair$Space", name := "discard", desc := "()V" } : Jvm.MethodName)) ∈ lw_all := lw_g (lw_at lw_m10 44 rfl) rfl
theorem q2451 : (Jvm.Cond.selects "TransportPair$Space" ({ cls := "TransportPair$Space", name := "discard", desc := "()V" } : Jvm.MethodName) ({ cls := "TransportPair$Space", name := "discard", desc := "()V" } : Jvm.MethodName)) ∈ lw_all := lw_g (lw_at lw_m10 45 rfl) rfl
theorem q2452 : (Jvm.Cond.code ({ cls := "TransportPair$Space", name := "discard", desc := "()V" } : Jvm.MethodName) prog_26_method_8_code (1 : Nat) (Option.none : Option Jvm.ClassFile.FieldType)) ∈ lw_all := lw_g (lw_at lw_m10 46 rfl) rfl
theorem q2453 : (Jvm.Cond.methodLink "TransportPair$Space" (79 : Nat) ({ cls := "TransportPair$Queue", name := "clear", desc := "()V" } : Jvm.MethodName)) ∈ lw_all := lw_g (lw_at lw_m10 47 rfl) rfl
theorem q2454 : (Jvm.Cond.instanceMethod ({ cls := "TransportPair$Queue", name := "clear", desc := "()V" } : Jvm.MethodName)) ∈ lw_all := lw_g (lw_at lw_m10 48 rfl) rfl
theorem q2455 : (Jvm.Cond.selects "TransportPair$Queue" ({ cls := "TransportPair$Queue", name := "clear", desc := "()V" } : Jvm.MethodName) ({ cls := "TransportPair$Queue", name := "clear", desc := "()V" } : Jvm.MethodName)) ∈ lw_all := lw_g (lw_at lw_m10 49 rfl) rfl
theorem q2456 : (Jvm.Cond.code ({ cls := "TransportPair$Queue", name := "clear", desc := "()V" } : Jvm.MethodName) prog_20_method_2_code (1 : Nat) (Option.none : Option Jvm.ClassFile.FieldType)) ∈ lw_all := lw_g (lw_at lw_m10 50 rfl) rfl
theorem q2457 : (Jvm.Cond.methodLink "TransportPair$Space" (82 : Nat) ({ cls := "TransportPair$Ranges", name := "clear", desc := "()V" } : Jvm.MethodName)) ∈ lw_all := lw_g (lw_at lw_m10 51 rfl) rfl
theorem q2458 : (Jvm.Cond.instanceMethod ({ cls := "TransportPair$Ranges", name := "clear", desc := "()V" } : Jvm.MethodName)) ∈ lw_all := lw_g (lw_at lw_m10 52 rfl) rfl
theorem q2459 : (Jvm.Cond.selects "TransportPair$Ranges" ({ cls := "TransportPair$Ranges", name := "clear", desc := "()V" } : Jvm.MethodName) ({ cls := "TransportPair$Ranges", name := "clear", desc := "()V" } : Jvm.MethodName)) ∈ lw_all := lw_g (lw_at lw_m10 53 rfl) rfl
theorem q2460 : (Jvm.Cond.code ({ cls := "TransportPair$Ranges", name := "clear", desc := "()V" } : Jvm.MethodName) prog_21_method_2_code (1 : Nat) (Option.none : Option Jvm.ClassFile.FieldType)) ∈ lw_all := lw_g (lw_at lw_m10 54 rfl) rfl
theorem q2461 : (Jvm.Cond.methodLink "TransportPair$Side" (388 : Nat) ({ cls := "TransportPair$Side", name := "frames", desc := "([BII)V" } : Jvm.MethodName)) ∈ lw_all := lw_g (lw_at lw_m10 55 rfl) rfl
theorem q2463 : (Jvm.Cond.instanceMethod ({ cls := "TransportPair$Side", name := "frames", desc := "([BII)V" } : Jvm.MethodName)) ∈ lw_all := lw_g (lw_at lw_m10 57 rfl) rfl
theorem q2464 : (Jvm.Cond.code ({ cls := "TransportPair$Side", name := "frames", desc := "([BII)V" } : Jvm.MethodName) prog_25_method_26_code (9 : Nat) (Option.none : Option Jvm.ClassFile.FieldType)) ∈ lw_all := lw_g (lw_at lw_m10 58 rfl) rfl
theorem q2465 : (Jvm.Cond.methodLink "TransportPair$Side" (240 : Nat) ({ cls := "TransportPair$Side", name := "close", desc := "(III)V" } : Jvm.MethodName)) ∈ lw_all := lw_g (lw_at lw_m10 59 rfl) rfl
theorem q2466 : (Jvm.Cond.methodLink "TransportPair$Side" (445 : Nat) ({ cls := "TransportPair$Frame", name := "read", desc := "(LTransportPair$Bytes;I)I" } : Jvm.MethodName)) ∈ lw_all := lw_g (lw_at lw_m10 60 rfl) rfl
theorem q2467 : (Jvm.Cond.instanceMethod ({ cls := "TransportPair$Frame", name := "read", desc := "(LTransportPair$Bytes;I)I" } : Jvm.MethodName)) ∈ lw_all := lw_g (lw_at lw_m10 61 rfl) rfl
theorem q2468 : (Jvm.Cond.selects "TransportPair$Frame" ({ cls := "TransportPair$Frame", name := "read", desc := "(LTransportPair$Bytes;I)I" } : Jvm.MethodName) ({ cls := "TransportPair$Frame", name := "read", desc := "(LTransportPair$Bytes;I)I" } : Jvm.MethodName)) ∈ lw_all := lw_g (lw_at lw_m10 62 rfl) rfl
theorem q2469 : (Jvm.Cond.code ({ cls := "TransportPair$Frame", name := "read", desc := "(LTransportPair$Bytes;I)I" } : Jvm.MethodName) prog_9_method_8_code (5 : Nat) (Option.some Jvm.ClassFile.FieldType.int)) ∈ lw_all := lw_g (lw_at lw_m10 63 rfl) rfl
theorem q2470 : (Jvm.Cond.methodLink "TransportPair$Frame" (63 : Nat) ({ cls := "TransportPair$Frame", name := "clear", desc := "()V" } : Jvm.MethodName)) ∈ lw_all := lw_g (lw_at lw_m10 64 rfl) rfl
theorem q2471 : (Jvm.Cond.instanceMethod ({ cls := "TransportPair$Frame", name := "clear", desc := "()V" } : Jvm.MethodName)) ∈ lw_all := lw_g (lw_at lw_m10 65 rfl) rfl
theorem q2472 : (Jvm.Cond.selects "TransportPair$Frame" ({ cls := "TransportPair$Frame", name := "clear", desc := "()V" } : Jvm.MethodName) ({ cls := "TransportPair$Frame", name := "clear", desc := "()V" } : Jvm.MethodName)) ∈ lw_all := lw_g (lw_at lw_m10 66 rfl) rfl
theorem q2473 : (Jvm.Cond.code ({ cls := "TransportPair$Frame", name := "clear", desc := "()V" } : Jvm.MethodName) prog_9_method_2_code (2 : Nat) (Option.none : Option Jvm.ClassFile.FieldType)) ∈ lw_all := lw_g (lw_at lw_m10 67 rfl) rfl
theorem q2474 : (Jvm.Cond.methodLink "TransportPair$Frame" (73 : Nat) ({ cls := "TransportPair$Bytes", name := "one", desc := "()I" } : Jvm.MethodName)) ∈ lw_all := lw_g (lw_at lw_m10 68 rfl) rfl
theorem q2475 : (Jvm.Cond.methodLink "TransportPair$Frame" (77 : Nat) ({ cls := "TransportPair$Frame", name := "isKind", desc := "(I)Z" } : Jvm.MethodName)) ∈ lw_all := lw_g (lw_at lw_m10 69 rfl) rfl
theorem q2476 : (Jvm.Cond.static ({ cls := "TransportPair$Frame", name := "isKind", desc := "(I)Z" } : Jvm.MethodName)) ∈ lw_all := lw_g (lw_at lw_m10 70 rfl) rfl
theorem q2477 : (Jvm.Cond.code ({ cls := "TransportPair$Frame", name := "isKind", desc := "(I)Z" } : Jvm.MethodName) prog_9_method_5_code (1 : Nat) (Option.some Jvm.ClassFile.FieldType.boolean)) ∈ lw_all := lw_g (lw_at lw_m10 71 rfl) rfl
theorem q2478 : (Jvm.Cond.methodLink "TransportPair$Frame" (81 : Nat) ({ cls := "TransportPair$Frame", name := "fails", desc := "(I)I" } : Jvm.MethodName)) ∈ lw_all := lw_g (lw_at lw_m10 72 rfl) rfl
theorem q2480 : (Jvm.Cond.instanceMethod ({ cls := "TransportPair$Frame", name := "fails", desc := "(I)I" } : Jvm.MethodName)) ∈ lw_all := lw_g (lw_at lw_m10 74 rfl) rfl
theorem q2481 : (Jvm.Cond.code ({ cls := "TransportPair$Frame", name := "fails", desc := "(I)I" } : Jvm.MethodName) prog_9_method_9_code (2 : Nat) (Option.some Jvm.ClassFile.FieldType.int)) ∈ lw_all := lw_g (lw_at lw_m10 75 rfl) rfl
theorem q2482 : (Jvm.Cond.methodLink "TransportPair$Frame" (85 : Nat) ({ cls := "TransportPair$Frame", name := "isEarly", desc := "(I)Z" } : Jvm.MethodName)) ∈ lw_all := lw_g (lw_at lw_m10 76 rfl) rfl
theorem q2483 : (Jvm.Cond.static ({ cls := "TransportPair$Frame", name := "isEarly", desc := "(I)Z" } : Jvm.MethodName)) ∈ lw_all := lw_g (lw_at lw_m10 77 rfl) rfl
theorem q2484 : (Jvm.Cond.code ({ cls := "TransportPair$Frame", name := "isEarly", desc := "(I)Z" } : Jvm.MethodName) prog_9_method_6_code (1 : Nat) (Option.some Jvm.ClassFile.FieldType.boolean)) ∈ lw_all := lw_g (lw_at lw_m10 78 rfl) rfl
theorem q2485 : (Jvm.Cond.methodLink "TransportPair$Frame" (88 : Nat) ({ cls := "TransportPair$Frame", name := "fields", desc := "(LTransportPair$Bytes;I)Z" } : Jvm.MethodName)) ∈ lw_all := lw_g (lw_at lw_m10 79 rfl) rfl
theorem q2487 : (Jvm.Cond.instanceMethod ({ cls := "TransportPair$Frame", name := "fields", desc := "(LTransportPair$Bytes;I)Z" } : Jvm.MethodName)) ∈ lw_all := lw_g (lw_at lw_m10 81 rfl) rfl
theorem q2488 : (Jvm.Cond.code ({ cls := "TransportPair$Frame", name := "fields", desc := "(LTransportPair$Bytes;I)Z" } : Jvm.MethodName) prog_9_method_10_code (3 : Nat) (Option.some Jvm.ClassFile.FieldType.boolean)) ∈ lw_all := lw_g (lw_at lw_m10 82 rfl) rfl
theorem q2489 : (Jvm.Cond.methodLink "TransportPair$Frame" (96 : Nat) ({ cls := "TransportPair$Frame", name := "paddings", desc := "(LTransportPair$Bytes;)Z" } : Jvm.MethodName)) ∈ lw_all := lw_g (lw_at lw_m10 83 rfl) rfl
theorem q2491 : (Jvm.Cond.instanceMethod ({ cls := "TransportPair$Frame", name := "paddings", desc := "(LTransportPair$Bytes;)Z" } : Jvm.MethodName)) ∈ lw_all := lw_g (lw_at lw_m10 85 rfl) rfl
theorem q2492 : (Jvm.Cond.code ({ cls := "TransportPair$Frame", name := "paddings", desc := "(LTransportPair$Bytes;)Z" } : Jvm.MethodName) prog_9_method_11_code (2 : Nat) (Option.some Jvm.ClassFile.FieldType.boolean)) ∈ lw_all := lw_g (lw_at lw_m10 86 rfl) rfl
theorem q2493 : (Jvm.Cond.methodLink "TransportPair$Frame" (127 : Nat) ({ cls := "TransportPair$Bytes", name := "left", desc := "()I" } : Jvm.MethodName)) ∈ lw_all := lw_g (lw_at lw_m10 87 rfl) rfl
theorem q2494 : (Jvm.Cond.methodLink "TransportPair$Frame" (133 : Nat) ({ cls := "TransportPair$Bytes", name := "pass", desc := "(I)I" } : Jvm.MethodName)) ∈ lw_all := lw_g (lw_at lw_m10 88 rfl) rfl
theorem q2495 : (Jvm.Cond.methodLink "TransportPair$Frame" (100 : Nat) ({ cls := "TransportPair$Frame", name := "acknowledges", desc := "(LTransportPair$Bytes;)Z" } : Jvm.MethodName)) ∈ lw_all := lw_g (lw_at lw_m10 89 rfl) rfl
theorem q2497 : (Jvm.Cond.instanceMethod ({ cls := "TransportPair$Frame", name := "acknowledges", desc := "(LTransportPair$Bytes;)Z" } : Jvm.MethodName)) ∈ lw_all := lw_g (lw_at lw_m10 91 rfl) rfl
theorem q2498 : (Jvm.Cond.code ({ cls := "TransportPair$Frame", name := "acknowledges", desc := "(LTransportPair$Bytes;)Z" } : Jvm.MethodName) prog_9_method_15_code (11 : Nat) (Option.some Jvm.ClassFile.FieldType.boolean)) ∈ lw_all := lw_g (lw_at lw_m10 92 rfl) rfl
theorem q2499 : (Jvm.Cond.methodLink "TransportPair$Frame" (112 : Nat) ({ cls := "TransportPair$Bytes", name := "number", desc := "()J" } : Jvm.MethodName)) ∈ lw_all := lw_g (lw_at lw_m10 93 rfl) rfl
theorem q2500 : (Jvm.Cond.methodLink "TransportPair$Frame" (136 : Nat) ({ cls := "TransportPair$Frame", name := "span", desc := "(JJ)V" } : Jvm.MethodName)) ∈ lw_all := lw_g (lw_at lw_m10 94 rfl) rfl
theorem q2501 : (Jvm.Cond.instanceMethod ({ cls := "TransportPair$Frame", name := "span", desc := "(JJ)V" } : Jvm.MethodName)) ∈ lw_all := lw_g (lw_at lw_m10 95 rfl) rfl
theorem q2502 : (Jvm.Cond.selects "TransportPair$Frame" ({ cls := "TransportPair$Frame", name := "span", desc := "(JJ)V" } : Jvm.MethodName) ({ cls := "TransportPair$Frame", name := "span", desc := "(JJ)V" } : Jvm.MethodName)) ∈ lw_all := lw_g (lw_at lw_m10 96 rfl) rfl
theorem q2503 : (Jvm.Cond.code ({ cls := "TransportPair$Frame", name := "span", desc := "(JJ)V" } : Jvm.MethodName) prog_9_method_3_code (5 : Nat) (Option.none : Option Jvm.ClassFile.FieldType)) ∈ lw_all := lw_g (lw_at lw_m10 97 rfl) rfl
theorem q2504 : (Jvm.Cond.methodLink "TransportPair$Frame" (53 : Nat) ({ cls := "TransportPair$Frame", name := "twice", desc := "([J)[J" } : Jvm.MethodName)) ∈ lw_all := lw_g (lw_at lw_m10 98 rfl) rfl
theorem q2505 : (Jvm.Cond.static ({ cls := "TransportPair$Frame", name := "twice", desc := "([J)[J" } : Jvm.MethodName)) ∈ lw_all := lw_g (lw_at lw_m10 99 rfl) rfl
theorem q2506 : (Jvm.Cond.code ({ cls := "TransportPair$Frame", name := "twice", desc := "([J)[J" } : Jvm.MethodName) prog_9_method_4_code (2 : Nat) (Option.some (Jvm.ClassFile.FieldType.array Jvm.ClassFile.FieldType.long))) ∈ lw_all := lw_g (lw_at lw_m10 100 rfl) rfl
theorem q2507 : (Jvm.Cond.methodLink "TransportPair$Frame" (57 : Nat) ({ cls := "java/lang/System", name := "arraycopy", desc := "(Ljava/lang/Object;ILjava/lang/Object;II)V" } : Jvm.MethodName)) ∈ lw_all := lw_g (lw_at lw_m10 101 rfl) rfl
theorem q2508 : (Jvm.Cond.constantLong "TransportPair$Frame" (140 : Nat) (2 : Int64)) ∈ lw_all := lw_g (lw_at lw_m10 102 rfl) rfl
theorem q2509 : (Jvm.Cond.methodLink "TransportPair$Frame" (103 : Nat) ({ cls := "TransportPair$Frame", name := "streams", desc := "(LTransportPair$Bytes;I)Z" } : Jvm.MethodName)) ∈ lw_all := lw_g (lw_at lw_m10 103 rfl) rfl
theorem q2511 : (Jvm.Cond.instanceMethod ({ cls := "TransportPair$Frame", name := "streams", desc := "(LTransportPair$Bytes;I)Z" } : Jvm.MethodName)) ∈ lw_all := lw_g (lw_at lw_m10 105 rfl) rfl
theorem q2512 : (Jvm.Cond.code ({ cls := "TransportPair$Frame", name := "streams", desc := "(LTransportPair$Bytes;I)Z" } : Jvm.MethodName) prog_9_method_13_code (3 : Nat) (Option.some Jvm.ClassFile.FieldType.boolean)) ∈ lw_all := lw_g (lw_at lw_m10 106 rfl) rfl
theorem q2513 : (Jvm.Cond.methodLink "TransportPair$Frame" (120 : Nat) ({ cls := "TransportPair$Frame", name := "slice", desc := "(LTransportPair$Bytes;)V" } : Jvm.MethodName)) ∈ lw_all := lw_g (lw_at lw_m10 107 rfl) rfl
theorem q2515 : (Jvm.Cond.instanceMethod ({ cls := "TransportPair$Frame", name := "slice", desc := "(LTransportPair$Bytes;)V" } : Jvm.MethodName)) ∈ lw_all := lw_g (lw_at lw_m10 109 rfl) rfl
theorem q2516 : (Jvm.Cond.code ({ cls := "TransportPair$Frame", name := "slice", desc := "(LTransportPair$Bytes;)V" } : Jvm.MethodName) prog_9_method_12_code (4 : Nat) (Option.none : Option Jvm.ClassFile.FieldType)) ∈ lw_all := lw_g (lw_at lw_m10 110 rfl) rfl
theorem q2517 : (Jvm.Cond.methodLink "TransportPair$Frame" (124 : Nat) ({ cls := "TransportPair$Frame", name := "allowed", desc := "()Z" } : Jvm.MethodName)) ∈ lw_all := lw_g (lw_at lw_m10 111 rfl) rfl
theorem q2519 : (Jvm.Cond.instanceMethod ({ cls := "TransportPair$Frame", name := "allowed", desc := "()Z" } : Jvm.MethodName)) ∈ lw_all := lw_g (lw_at lw_m10 113 rfl) rfl
theorem q2520 : (Jvm.Cond.code ({ cls := "TransportPair$Frame", name := "allowed", desc := "()Z" } : Jvm.MethodName) prog_9_method_16_code (1 : Nat) (Option.some Jvm.ClassFile.FieldType.boolean)) ∈ lw_all := lw_g (lw_at lw_m10 114 rfl) rfl
theorem q2521 : (Jvm.Cond.constantLong "TransportPair$Frame" (142 : Nat) (4611686018427387903 : Int64)) ∈ lw_all := lw_g (lw_at lw_m10 115 rfl) rfl
theorem q2522 : (Jvm.Cond.constantLong "TransportPair$Frame" (144 : Nat) (1152921504606846976 : Int64)) ∈ lw_all := lw_g (lw_at lw_m10 116 rfl) rfl
theorem q2523 : (Jvm.Cond.methodLink "TransportPair$Frame" (106 : Nat) ({ cls := "TransportPair$Frame", name := "names", desc := "(LTransportPair$Bytes;)Z" } : Jvm.MethodName)) ∈ lw_all := lw_g (lw_at lw_m10 117 rfl) rfl
theorem q2525 : (Jvm.Cond.instanceMethod ({ cls := "TransportPair$Frame", name := "names", desc := "(LTransportPair$Bytes;)Z" } : Jvm.MethodName)) ∈ lw_all := lw_g (lw_at lw_m10 119 rfl) rfl
theorem q2526 : (Jvm.Cond.code ({ cls := "TransportPair$Frame", name := "names", desc := "(LTransportPair$Bytes;)Z" } : Jvm.MethodName) prog_9_method_14_code (2 : Nat) (Option.some Jvm.ClassFile.FieldType.boolean)) ∈ lw_all := lw_g (lw_at lw_m10 120 rfl) rfl
theorem q2527 : (Jvm.Cond.methodLink "TransportPair$Frame" (109 : Nat) ({ cls := "TransportPair$Bytes", name := "many", desc := "(I)J" } : Jvm.MethodName)) ∈ lw_all := lw_g (lw_at lw_m10 121 rfl) rfl
theorem q2528 : (Jvm.Cond.methodLink "TransportPair$Frame" (116 : Nat) ({ cls := "TransportPair$Frame", name := "carries", desc := "()Z" } : Jvm.MethodName)) ∈ lw_all := lw_g (lw_at lw_m10 122 rfl) rfl
theorem q2530 : (Jvm.Cond.instanceMethod ({ cls := "TransportPair$Frame", name := "carries", desc := "()Z" } : Jvm.MethodName)) ∈ lw_all := lw_g (lw_at lw_m10 124 rfl) rfl
theorem q2531 : (Jvm.Cond.code ({ cls := "TransportPair$Frame", name := "carries", desc := "()Z" } : Jvm.MethodName) prog_9_method_7_code (1 : Nat) (Option.some Jvm.ClassFile.FieldType.boolean)) ∈ lw_all := lw_g (lw_at lw_m10 125 rfl) rfl
theorem q2532 : (Jvm.Cond.methodLink "TransportPair$Side" (446 : Nat) ({ cls := "TransportPair$Side", name := "frame", desc := "(I)I" } : Jvm.MethodName)) ∈ lw_all := lw_g (lw_at lw_m10 126 rfl) rfl
theorem q2534 : (Jvm.Cond.instanceMethod ({ cls := "TransportPair$Side", name := "frame", desc := "(I)I" } : Jvm.MethodName)) ∈ lw_all := lw_g (lw_at lw_m10 128 rfl) rfl
theorem q2535 : (Jvm.Cond.code ({ cls := "TransportPair$Side", name := "frame", desc := "(I)I" } : Jvm.MethodName) prog_25_method_27_code (2 : Nat) (Option.some Jvm.ClassFile.FieldType.int)) ∈ lw_all := lw_g (lw_at lw_m10 129 rfl) rfl
theorem q2536 : (Jvm.Cond.methodLink "TransportPair$Side" (453 : Nat) ({ cls := "TransportPair$Side", name := "acknowledged", desc := "(I)I" } : Jvm.MethodName)) ∈ lw_all := lw_g (lw_at lw_m10 130 rfl) rfl
theorem q2538 : (Jvm.Cond.instanceMethod ({ cls := "TransportPair$Side", name := "acknowledged", desc := "(I)I" } : Jvm.MethodName)) ∈ lw_all := lw_g (lw_at lw_m10 132 rfl) rfl
theorem q2539 : (Jvm.Cond.code ({ cls := "TransportPair$Side", name := "acknowledged", desc := "(I)I" } : Jvm.MethodName) prog_25_method_28_code (4 : Nat) (Option.some Jvm.ClassFile.FieldType.int)) ∈ lw_all := lw_g (lw_at lw_m10 133 rfl) rfl
theorem q2540 : (Jvm.Cond.methodLink "TransportPair$Side" (487 : Nat) ({ cls := "java/lang/Math", name := "min", desc := "(II)I" } : Jvm.MethodName)) ∈ lw_all := lw_g (lw_at lw_m10 134 rfl) rfl
theorem q2541 : (Jvm.Cond.methodLink "TransportPair$Side" (499 : Nat) ({ cls := "TransportPair$Book", name := "isSent", desc := "(I)Z" } : Jvm.MethodName)) ∈ lw_all := lw_g (lw_at lw_m10 135 rfl) rfl
theorem q2542 : (Jvm.Cond.instanceMethod ({ cls := "TransportPair$Book", name := "isSent", desc := "(I)Z" } : Jvm.MethodName)) ∈ lw_all := lw_g (lw_at lw_m10 136 rfl) rfl
theorem q2543 : (Jvm.Cond.selects "TransportPair$Book" ({ cls := "TransportPair$Book", name := "isSent", desc := "(I)Z" } : Jvm.MethodName) ({ cls := "TransportPair$Book", name := "isSent", desc := "(I)Z" } : Jvm.MethodName)) ∈ lw_all := lw_g (lw_at lw_m10 137 rfl) rfl
theorem q2544 : (Jvm.Cond.code ({ cls := "TransportPair$Book", name := "isSent", desc := "(I)Z" } : Jvm.MethodName) prog_4_method_3_code (2 : Nat) (Option.some Jvm.ClassFile.FieldType.boolean)) ∈ lw_all := lw_g (lw_at lw_m10 138 rfl) rfl
theorem q2545 : (Jvm.Cond.constantLong "TransportPair$Side" (503 : Nat) (100000 : Int64)) ∈ lw_all := lw_g (lw_at lw_m10 139 rfl) rfl
theorem q2546 : (Jvm.Cond.methodLink "TransportPair$Side" (331 : Nat) ({ cls := "java/lang/Math", name := "min", desc := "(JJ)J" } : Jvm.MethodName)) ∈ lw_all := lw_g (lw_at lw_m10 140 rfl) rfl
theorem q2547 : (Jvm.Cond.static ({ cls := "java/lang/Math", name := "min", desc := "(JJ)J" } : Jvm.MethodName)) ∈ lw_all := lw_g (lw_at lw_m10 141 rfl) rfl
theorem q2548 : (Jvm.Cond.code ({ cls := "java/lang/Math", name := "min", desc := "(JJ)J" } : Jvm.MethodName) prog_51_method_70_code (4 : Nat) (Option.some Jvm.ClassFile.FieldType.long)) ∈ lw_all := lw_g (lw_at lw_m10 142 rfl) rfl
theorem q2549 : (Jvm.Cond.methodLink "TransportPair$Side" (505 : Nat) ({ cls := "TransportPair$Book", name := "acknowledge", desc := "(II)I" } : Jvm.MethodName)) ∈ lw_all := lw_g (lw_at lw_m10 143 rfl) rfl
theorem q2550 : (Jvm.Cond.instanceMethod ({ cls := "TransportPair$Book", name := "acknowledge", desc := "(II)I" } : Jvm.MethodName)) ∈ lw_all := lw_g (lw_at lw_m10 144 rfl) rfl
theorem q2551 : (Jvm.Cond.selects "TransportPair$Book" ({ cls := "TransportPair$Book", name := "acknowledge", desc := "(II)I" } : Jvm.MethodName) ({ cls := "TransportPair$Book", name := "acknowledge", desc := "(II)I" } : Jvm.MethodName)) ∈ lw_all := lw_g (lw_at lw_m10 145 rfl) rfl
theorem q2552 : (Jvm.Cond.code ({ cls := "TransportPair$Book", name := "acknowledge", desc := "(II)I" } : Jvm.MethodName) prog_4_method_4_code (10 : Nat) (Option.some Jvm.ClassFile.FieldType.int)) ∈ lw_all := lw_g (lw_at lw_m10 146 rfl) rfl
theorem q2553 : (Jvm.Cond.methodLink "TransportPair$Book" (62 : Nat) ({ cls := "java/lang/Math", name := "max", desc := "(II)I" } : Jvm.MethodName)) ∈ lw_all := lw_g (lw_at lw_m10 147 rfl) rfl
theorem q2554 : (Jvm.Cond.methodLink "TransportPair$Book" (68 : Nat) ({ cls := "TransportPair$Space", name := "state", desc := "(I)I" } : Jvm.MethodName)) ∈ lw_all := lw_g (lw_at lw_m10 148 rfl) rfl
theorem q2555 : (Jvm.Cond.instanceMethod ({ cls := "TransportPair$Space", name := "state", desc := "(I)I" } : Jvm.MethodName)) ∈ lw_all := lw_g (lw_at lw_m10 149 rfl) rfl
theorem q2556 : (Jvm.Cond.selects "TransportPair$Space" ({ cls := "TransportPair$Space", name := "state", desc := "(I)I" } : Jvm.MethodName) ({ cls := "TransportPair$Space", name := "state", desc := "(I)I" } : Jvm.MethodName)) ∈ lw_all := lw_g (lw_at lw_m10 150 rfl) rfl
theorem q2557 : (Jvm.Cond.code ({ cls := "TransportPair$Space", name := "state", desc := "(I)I" } : Jvm.MethodName) prog_26_method_3_code (2 : Nat) (Option.some Jvm.ClassFile.FieldType.int)) ∈ lw_all := lw_g (lw_at lw_m10 151 rfl) rfl
theorem q2558 : (Jvm.Cond.methodLink "TransportPair$Book" (78 : Nat) ({ cls := "java/lang/Math", name := "max", desc := "(JJ)J" } : Jvm.MethodName)) ∈ lw_all := lw_g (lw_at lw_m10 152 rfl) rfl
theorem q2559 : (Jvm.Cond.static ({ cls := "java/lang/Math", name := "max", desc := "(JJ)J" } : Jvm.MethodName)) ∈ lw_all := lw_g (lw_at lw_m10 153 rfl) rfl
theorem q2560 : (Jvm.Cond.code ({ cls := "java/lang/Math", name := "max", desc := "(JJ)J" } : Jvm.MethodName) prog_51_method_66_code (4 : Nat) (Option.some Jvm.ClassFile.FieldType.long)) ∈ lw_all := lw_g (lw_at lw_m10 154 rfl) rfl
theorem q2561 : (Jvm.Cond.methodLink "TransportPair$Book" (81 : Nat) ({ cls := "TransportPair$Space", name := "is", desc := "(II)Z" } : Jvm.MethodName)) ∈ lw_all := lw_g (lw_at lw_m10 155 rfl) rfl
theorem q2562 : (Jvm.Cond.methodLink "TransportPair$Book" (89 : Nat) ({ cls := "java/lang/Math", name := "min", desc := "(II)I" } : Jvm.MethodName)) ∈ lw_all := lw_g (lw_at lw_m10 156 rfl) rfl
theorem q2563 : (Jvm.Cond.methodLink "TransportPair$Book" (92 : Nat) ({ cls := "TransportPair$Trip", name := "sample", desc := "(III)V" } : Jvm.MethodName)) ∈ lw_all := lw_g (lw_at lw_m10 157 rfl) rfl
theorem q2564 : (Jvm.Cond.instanceMethod ({ cls := "TransportPair$Trip", name := "sample", desc := "(III)V" } : Jvm.MethodName)) ∈ lw_all := lw_g (lw_at lw_m10 158 rfl) rfl
theorem q2565 : (Jvm.Cond.selects "TransportPair$Trip" ({ cls := "TransportPair$Trip", name := "sample", desc := "(III)V" } : Jvm.MethodName) ({ cls := "TransportPair$Trip", name := "sample", desc := "(III)V" } : Jvm.MethodName)) ∈ lw_all := lw_g (lw_at lw_m10 159 rfl) rfl
theorem q2566 : (Jvm.Cond.code ({ cls := "TransportPair$Trip", name := "sample", desc := "(III)V" } : Jvm.MethodName) prog_31_method_2_code (5 : Nat) (Option.none : Option Jvm.ClassFile.FieldType)) ∈ lw_all := lw_g (lw_at lw_m10 160 rfl) rfl
theorem q2567 : (Jvm.Cond.methodLink "TransportPair$Trip" (27 : Nat) ({ cls := "java/lang/Math", name := "min", desc := "(II)I" } : Jvm.MethodName)) ∈ lw_all := lw_g (lw_at lw_m10 161 rfl) rfl
theorem q2568 : (Jvm.Cond.methodLink "TransportPair$Trip" (33 : Nat) ({ cls := "java/lang/Math", name := "abs", desc := "(I)I" } : Jvm.MethodName)) ∈ lw_all := lw_g (lw_at lw_m10 162 rfl) rfl
theorem q2569 : (Jvm.Cond.static ({ cls := "java/lang/Math", name := "abs", desc := "(I)I" } : Jvm.MethodName)) ∈ lw_all := lw_g (lw_at lw_m10 163 rfl) rfl
theorem q2570 : (Jvm.Cond.code ({ cls := "java/lang/Math", name := "abs", desc := "(I)I" } : Jvm.MethodName) prog_51_method_59_code (1 : Nat) (Option.some Jvm.ClassFile.FieldType.int)) ∈ lw_all := lw_g (lw_at lw_m10 164 rfl) rfl
theorem q2571 : (Jvm.Cond.methodLink "TransportPair$Book" (96 : Nat) ({ cls := "TransportPair$Book", name := "done", desc := "(LTransportPair$Space;I)V" } : Jvm.MethodName)) ∈ lw_all := lw_g (lw_at lw_m10 165 rfl) rfl
theorem q2573 : (Jvm.Cond.instanceMethod ({ cls := "TransportPair$Book", name := "done", desc := "(LTransportPair$Space;I)V" } : Jvm.MethodName)) ∈ lw_all := lw_g (lw_at lw_m10 167 rfl) rfl
theorem q2574 : (Jvm.Cond.code ({ cls := "TransportPair$Book", name := "done", desc := "(LTransportPair$Space;I)V" } : Jvm.MethodName) prog_4_method_5_code (4 : Nat) (Option.none : Option Jvm.ClassFile.FieldType)) ∈ lw_all := lw_g (lw_at lw_m10 168 rfl) rfl
theorem q2575 : (Jvm.Cond.methodLink "TransportPair$Book" (107 : Nat) ({ cls := "TransportPair$Space", name := "settle", desc := "(II)I" } : Jvm.MethodName)) ∈ lw_all := lw_g (lw_at lw_m10 169 rfl) rfl
theorem q2576 : (Jvm.Cond.instanceMethod ({ cls := "TransportPair$Space", name := "settle", desc := "(II)I" } : Jvm.MethodName)) ∈ lw_all := lw_g (lw_at lw_m10 170 rfl) rfl
theorem q2577 : (Jvm.Cond.selects "TransportPair$Space" ({ cls := "TransportPair$Space", name := "settle", desc := "(II)I" } : Jvm.MethodName) ({ cls := "TransportPair$Space", name := "settle", desc := "(II)I" } : Jvm.MethodName)) ∈ lw_all := lw_g (lw_at lw_m10 171 rfl) rfl
theorem q2578 : (Jvm.Cond.code ({ cls := "TransportPair$Space", name := "settle", desc := "(II)I" } : Jvm.MethodName) prog_26_method_6_code (3 : Nat) (Option.some Jvm.ClassFile.FieldType.int)) ∈ lw_all := lw_g (lw_at lw_m10 172 rfl) rfl
theorem q2579 : (Jvm.Cond.methodLink "TransportPair$Book" (110 : Nat) ({ cls := "TransportPair$Window", name := "grow", desc := "(IIZ)V" } : Jvm.MethodName)) ∈ lw_all := lw_g (lw_at lw_m10 173 rfl) rfl
theorem q2580 : (Jvm.Cond.instanceMethod ({ cls := "TransportPair$Window", name := "grow", desc := "(IIZ)V" } : Jvm.MethodName)) ∈ lw_all := lw_g (lw_at lw_m10 174 rfl) rfl
theorem q2581 : (Jvm.Cond.selects "TransportPair$Window" ({ cls := "TransportPair$Window", name := "grow", desc := "(IIZ)V" } : Jvm.MethodName) ({ cls := "TransportPair$Window", name := "grow", desc := "(IIZ)V" } : Jvm.MethodName)) ∈ lw_all := lw_g (lw_at lw_m10 175 rfl) rfl
theorem q2582 : (Jvm.Cond.code ({ cls := "TransportPair$Window", name := "grow", desc := "(IIZ)V" } : Jvm.MethodName) prog_33_method_2_code (4 : Nat) (Option.none : Option Jvm.ClassFile.FieldType)) ∈ lw_all := lw_g (lw_at lw_m10 176 rfl) rfl
theorem q2583 : (Jvm.Cond.methodLink "TransportPair$Book" (117 : Nat) ({ cls := "TransportPair$Queue", name := "add", desc := "(I)V" } : Jvm.MethodName)) ∈ lw_all := lw_g (lw_at lw_m10 177 rfl) rfl
theorem q2584 : (Jvm.Cond.instanceMethod ({ cls := "TransportPair$Queue", name := "add", desc := "(I)V" } : Jvm.MethodName)) ∈ lw_all := lw_g (lw_at lw_m10 178 rfl) rfl
theorem q2585 : (Jvm.Cond.selects "TransportPair$Queue" ({ cls := "TransportPair$Queue", name := "add", desc := "(I)V" } : Jvm.MethodName) ({ cls := "TransportPair$Queue", name := "add", desc := "(I)V" } : Jvm.MethodName)) ∈ lw_all := lw_g (lw_at lw_m10 179 rfl) rfl
theorem q2586 : (Jvm.Cond.code ({ cls := "TransportPair$Queue", name := "add", desc := "(I)V" } : Jvm.MethodName) prog_20_method_3_code (3 : Nat) (Option.none : Option Jvm.ClassFile.FieldType)) ∈ lw_all := lw_g (lw_at lw_m10 180 rfl) rfl
theorem q2587 : (Jvm.Cond.methodLink "TransportPair$Queue" (20 : Nat) ({ cls := "java/lang/System", name := "arraycopy", desc := "(Ljava/lang/Object;ILjava/lang/Object;II)V" } : Jvm.MethodName)) ∈ lw_all := lw_g (lw_at lw_m10 181 rfl) rfl
theorem q2588 : (Jvm.Cond.methodLink "TransportPair$Book" (100 : Nat) ({ cls := "TransportPair$Book", name := "losses", desc := "(I)Z" } : Jvm.MethodName)) ∈ lw_all := lw_g (lw_at lw_m10 182 rfl) rfl
theorem q2589 : (Jvm.Cond.instanceMethod ({ cls := "TransportPair$Book", name := "losses", desc := "(I)Z" } : Jvm.MethodName)) ∈ lw_all := lw_g (lw_at lw_m10 183 rfl) rfl
theorem q2590 : (Jvm.Cond.selects "TransportPair$Book" ({ cls := "TransportPair$Book", name := "losses", desc := "(I)Z" } : Jvm.MethodName) ({ cls := "TransportPair$Book", name := "losses", desc := "(I)Z" } : Jvm.MethodName)) ∈ lw_all := lw_g (lw_at lw_m10 184 rfl) rfl
theorem q2591 : (Jvm.Cond.code ({ cls := "TransportPair$Book", name := "losses", desc := "(I)Z" } : Jvm.MethodName) prog_4_method_6_code (10 : Nat) (Option.some Jvm.ClassFile.FieldType.boolean)) ∈ lw_all := lw_g (lw_at lw_m10 185 rfl) rfl
theorem q2592 : (Jvm.Cond.methodLink "TransportPair$Book" (122 : Nat) ({ cls := "TransportPair$Trip", name := "limit", desc := "()I" } : Jvm.MethodName)) ∈ lw_all := lw_g (lw_at lw_m10 186 rfl) rfl
theorem q2593 : (Jvm.Cond.instanceMethod ({ cls := "TransportPair$Trip", name := "limit", desc := "()I" } : Jvm.MethodName)) ∈ lw_all := lw_g (lw_at lw_m10 187 rfl) rfl
theorem q2594 : (Jvm.Cond.selects "TransportPair$Trip" ({ cls := "TransportPair$Trip", name := "limit", desc := "()I" } : Jvm.MethodName) ({ cls := "TransportPair$Trip", name := "limit", desc := "()I" } : Jvm.MethodName)) ∈ lw_all := lw_g (lw_at lw_m10 188 rfl) rfl
theorem q2595 : (Jvm.Cond.code ({ cls := "TransportPair$Trip", name := "limit", desc := "()I" } : Jvm.MethodName) prog_31_method_4_code (1 : Nat) (Option.some Jvm.ClassFile.FieldType.int)) ∈ lw_all := lw_g (lw_at lw_m10 189 rfl) rfl
theorem q2596 : (Jvm.Cond.methodLink "TransportPair$Book" (135 : Nat) ({ cls := "TransportPair$Window", name := "shrink", desc := "(II)V" } : Jvm.MethodName)) ∈ lw_all := lw_g (lw_at lw_m10 190 rfl) rfl
theorem q2597 : (Jvm.Cond.instanceMethod ({ cls := "TransportPair$Window", name := "shrink", desc := "(II)V" } : Jvm.MethodName)) ∈ lw_all := lw_g (lw_at lw_m10 191 rfl) rfl
theorem q2598 : (Jvm.Cond.selects "TransportPair$Window" ({ cls := "TransportPair$Window", name := "shrink", desc := "(II)V" } : Jvm.MethodName) ({ cls := "TransportPair$Window", name := "shrink", desc := "(II)V" } : Jvm.MethodName)) ∈ lw_all := lw_g (lw_at lw_m10 192 rfl) rfl
theorem q2599 : (Jvm.Cond.code ({ cls := "TransportPair$Window", name := "shrink", desc := "(II)V" } : Jvm.MethodName) prog_33_method_3_code (3 : Nat) (Option.none : Option Jvm.ClassFile.FieldType)) ∈ lw_all := lw_g (lw_at lw_m10 193 rfl) rfl
theorem q2600 : (Jvm.Cond.methodLink "TransportPair$Window" (21 : Nat) ({ cls := "java/lang/Math", name := "max", desc := "(II)I" } : Jvm.MethodName)) ∈ lw_all := lw_g (lw_at lw_m10 194 rfl) rfl
theorem q2601 : (Jvm.Cond.methodLink "TransportPair$Book" (139 : Nat) ({ cls := "TransportPair$Book", name := "persists", desc := "(LTransportPair$Space;II)Z" } : Jvm.MethodName)) ∈ lw_all := lw_g (lw_at lw_m10 195 rfl) rfl
theorem q2603 : (Jvm.Cond.instanceMethod ({ cls := "TransportPair$Book", name := "persists", desc := "(LTransportPair$Space;II)Z" } : Jvm.MethodName)) ∈ lw_all := lw_g (lw_at lw_m10 197 rfl) rfl
theorem q2604 : (Jvm.Cond.code ({ cls := "TransportPair$Book", name := "persists", desc := "(LTransportPair$Space;II)Z" } : Jvm.MethodName) prog_4_method_7_code (6 : Nat) (Option.some Jvm.ClassFile.FieldType.boolean)) ∈ lw_all := lw_g (lw_at lw_m10 198 rfl) rfl
theorem q2605 : (Jvm.Cond.methodLink "TransportPair$Book" (146 : Nat) ({ cls := "TransportPair$Trip", name := "patience", desc := "(Z)I" } : Jvm.MethodName)) ∈ lw_all := lw_g (lw_at lw_m10 199 rfl) rfl
theorem q2606 : (Jvm.Cond.methodLink "TransportPair$Book" (143 : Nat) ({ cls := "TransportPair$Window", name := "collapse", desc := "()V" } : Jvm.MethodName)) ∈ lw_all := lw_g (lw_at lw_m10 200 rfl) rfl
theorem q2607 : (Jvm.Cond.instanceMethod ({ cls := "TransportPair$Window", name := "collapse", desc := "()V" } : Jvm.MethodName)) ∈ lw_all := lw_g (lw_at lw_m10 201 rfl) rfl
theorem q2608 : (Jvm.Cond.selects "TransportPair$Window" ({ cls := "TransportPair$Window", name := "collapse", desc := "()V" } : Jvm.MethodName) ({ cls := "TransportPair$Window", name := "collapse", desc := "()V" } : Jvm.MethodName)) ∈ lw_all := lw_g (lw_at lw_m10 202 rfl) rfl
theorem q2609 : (Jvm.Cond.code ({ cls := "TransportPair$Window", name := "collapse", desc := "()V" } : Jvm.MethodName) prog_33_method_4_code (1 : Nat) (Option.none : Option Jvm.ClassFile.FieldType)) ∈ lw_all := lw_g (lw_at lw_m10 203 rfl) rfl
theorem q2610 : (Jvm.Cond.methodLink "TransportPair$Side" (508 : Nat) ({ cls := "TransportPair$Side", name := "settle", desc := "(I)V" } : Jvm.MethodName)) ∈ lw_all := lw_g (lw_at lw_m10 204 rfl) rfl
theorem q2612 : (Jvm.Cond.instanceMethod ({ cls := "TransportPair$Side", name := "settle", desc := "(I)V" } : Jvm.MethodName)) ∈ lw_all := lw_g (lw_at lw_m10 206 rfl) rfl
theorem q2613 : (Jvm.Cond.code ({ cls := "TransportPair$Side", name := "settle", desc := "(I)V" } : Jvm.MethodName) prog_25_method_30_code (4 : Nat) (Option.none : Option Jvm.ClassFile.FieldType)) ∈ lw_all := lw_g (lw_at lw_m10 207 rfl) rfl
theorem q2614 : (Jvm.Cond.methodLink "TransportPair$Side" (531 : Nat) ({ cls := "TransportPair$Queue", name := "next", desc := "()I" } : Jvm.MethodName)) ∈ lw_all := lw_g (lw_at lw_m10 208 rfl) rfl
theorem q2615 : (Jvm.Cond.instanceMethod ({ cls := "TransportPair$Queue", name := "next", desc := "()I" } : Jvm.MethodName)) ∈ lw_all := lw_g (lw_at lw_m10 209 rfl) rfl
theorem q2616 : (Jvm.Cond.selects "TransportPair$Queue" ({ cls := "TransportPair$Queue", name := "next", desc := "()I" } : Jvm.MethodName) ({ cls := "TransportPair$Queue", name := "next", desc := "()I" } : Jvm.MethodName)) ∈ lw_all := lw_g (lw_at lw_m10 210 rfl) rfl
theorem q2617 : (Jvm.Cond.code ({ cls := "TransportPair$Queue", name := "next", desc := "()I" } : Jvm.MethodName) prog_20_method_4_code (1 : Nat) (Option.some Jvm.ClassFile.FieldType.int)) ∈ lw_all := lw_g (lw_at lw_m10 211 rfl) rfl
theorem q2618 : (Jvm.Cond.methodLink "TransportPair$Side" (536 : Nat) ({ cls := "TransportPair$Side", name := "gone", desc := "(IIZ)V" } : Jvm.MethodName)) ∈ lw_all := lw_g (lw_at lw_m10 212 rfl) rfl
theorem q2620 : (Jvm.Cond.instanceMethod ({ cls := "TransportPair$Side", name := "gone", desc := "(IIZ)V" } : Jvm.MethodName)) ∈ lw_all := lw_g (lw_at lw_m10 214 rfl) rfl
theorem q2621 : (Jvm.Cond.code ({ cls := "TransportPair$Side", name := "gone", desc := "(IIZ)V" } : Jvm.MethodName) prog_25_method_31_code (6 : Nat) (Option.none : Option Jvm.ClassFile.FieldType)) ∈ lw_all := lw_g (lw_at lw_m10 215 rfl) rfl
theorem q2622 : (Jvm.Cond.methodLink "TransportPair$Side" (546 : Nat) ({ cls := "TransportPair$Cargo", name := "end", desc := "(I)I" } : Jvm.MethodName)) ∈ lw_all := lw_g (lw_at lw_m10 216 rfl) rfl
theorem q2623 : (Jvm.Cond.instanceMethod ({ cls := "TransportPair$Cargo", name := "end", desc := "(I)I" } : Jvm.MethodName)) ∈ lw_all := lw_g (lw_at lw_m10 217 rfl) rfl
theorem q2624 : (Jvm.Cond.selects "TransportPair$Cargo" ({ cls := "TransportPair$Cargo", name := "end", desc := "(I)I" } : Jvm.MethodName) ({ cls := "TransportPair$Cargo", name := "end", desc := "(I)I" } : Jvm.MethodName)) ∈ lw_all := lw_g (lw_at lw_m10 218 rfl) rfl
theorem q2625 : (Jvm.Cond.code ({ cls := "TransportPair$Cargo", name := "end", desc := "(I)I" } : Jvm.MethodName) prog_6_method_6_code (2 : Nat) (Option.some Jvm.ClassFile.FieldType.int)) ∈ lw_all := lw_g (lw_at lw_m10 219 rfl) rfl
theorem q2626 : (Jvm.Cond.methodLink "TransportPair$Side" (555 : Nat) ({ cls := "TransportPair$Crypto", name := "gone", desc := "(JIZ)V" } : Jvm.MethodName)) ∈ lw_all := lw_g (lw_at lw_m10 220 rfl) rfl
theorem q2627 : (Jvm.Cond.instanceMethod ({ cls := "TransportPair$Crypto", name := "gone", desc := "(JIZ)V" } : Jvm.MethodName)) ∈ lw_all := lw_g (lw_at lw_m10 221 rfl) rfl
theorem q2628 : (Jvm.Cond.selects "TransportPair$Crypto" ({ cls := "TransportPair$Crypto", name := "gone", desc := "(JIZ)V" } : Jvm.MethodName) ({ cls := "TransportPair$Crypto", name := "gone", desc := "(JIZ)V" } : Jvm.MethodName)) ∈ lw_all := lw_g (lw_at lw_m10 222 rfl) rfl
theorem q2629 : (Jvm.Cond.code ({ cls := "TransportPair$Crypto", name := "gone", desc := "(JIZ)V" } : Jvm.MethodName) prog_8_method_4_code (6 : Nat) (Option.none : Option Jvm.ClassFile.FieldType)) ∈ lw_all := lw_g (lw_at lw_m10 223 rfl) rfl
theorem q2630 : (Jvm.Cond.methodLink "TransportPair$Side" (567 : Nat) ({ cls := "TransportPair$Hall", name := "gone", desc := "(IJJIJZ)V" } : Jvm.MethodName)) ∈ lw_all := lw_g (lw_at lw_m10 224 rfl) rfl
theorem q2631 : (Jvm.Cond.instanceMethod ({ cls := "TransportPair$Hall", name := "gone", desc := "(IJJIJZ)V" } : Jvm.MethodName)) ∈ lw_all := lw_g (lw_at lw_m10 225 rfl) rfl
theorem q2632 : (Jvm.Cond.selects "TransportPair$Hall" ({ cls := "TransportPair$Hall", name := "gone", desc := "(IJJIJZ)V" } : Jvm.MethodName) ({ cls := "TransportPair$Hall", name := "gone", desc := "(IJJIJZ)V" } : Jvm.MethodName)) ∈ lw_all := lw_g (lw_at lw_m10 226 rfl) rfl
theorem q2633 : (Jvm.Cond.code ({ cls := "TransportPair$Hall", name := "gone", desc := "(IJJIJZ)V" } : Jvm.MethodName) prog_12_method_37_code (12 : Nat) (Option.none : Option Jvm.ClassFile.FieldType)) ∈ lw_all := lw_g (lw_at lw_m10 227 rfl) rfl
theorem q2634 : (Jvm.Cond.constantLong "TransportPair$Hall" (342 : Nat) (256 : Int64)) ∈ lw_all := lw_g (lw_at lw_m10 228 rfl) rfl
theorem q2635 : (Jvm.Cond.methodLink "TransportPair$Hall" (344 : Nat) ({ cls := "TransportPair$Hall", name := "isGone", desc := "(LTransportPair$Sending;IIZZ)V" } : Jvm.MethodName)) ∈ lw_all := lw_g (lw_at lw_m10 229 rfl) rfl
theorem q2637 : (Jvm.Cond.instanceMethod ({ cls := "TransportPair$Hall", name := "isGone", desc := "(LTransportPair$Sending;IIZZ)V" } : Jvm.MethodName)) ∈ lw_all := lw_g (lw_at lw_m10 231 rfl) rfl
theorem q2638 : (Jvm.Cond.code ({ cls := "TransportPair$Hall", name := "isGone", desc := "(LTransportPair$Sending;IIZZ)V" } : Jvm.MethodName) prog_12_method_38_code (7 : Nat) (Option.none : Option Jvm.ClassFile.FieldType)) ∈ lw_all := lw_g (lw_at lw_m10 232 rfl) rfl
theorem q2639 : (Jvm.Cond.methodLink "TransportPair$Hall" (355 : Nat) ({ cls := "TransportPair$Spans", name := "add", desc := "(III)I" } : Jvm.MethodName)) ∈ lw_all := lw_g (lw_at lw_m10 233 rfl) rfl
theorem q2640 : (Jvm.Cond.instanceMethod ({ cls := "TransportPair$Spans", name := "add", desc := "(III)I" } : Jvm.MethodName)) ∈ lw_all := lw_g (lw_at lw_m10 234 rfl) rfl
theorem q2641 : (Jvm.Cond.selects "TransportPair$Spans" ({ cls := "TransportPair$Spans", name := "add", desc := "(III)I" } : Jvm.MethodName) ({ cls := "TransportPair$Spans", name := "add", desc := "(III)I" } : Jvm.MethodName)) ∈ lw_all := lw_g (lw_at lw_m10 235 rfl) rfl
theorem q2642 : (Jvm.Cond.code ({ cls := "TransportPair$Spans", name := "add", desc := "(III)I" } : Jvm.MethodName) prog_27_method_4_code (9 : Nat) (Option.some Jvm.ClassFile.FieldType.int)) ∈ lw_all := lw_g (lw_at lw_m10 236 rfl) rfl
theorem q2643 : (Jvm.Cond.methodLink "TransportPair$Spans" (34 : Nat) ({ cls := "java/lang/Math", name := "min", desc := "(II)I" } : Jvm.MethodName)) ∈ lw_all := lw_g (lw_at lw_m10 237 rfl) rfl
theorem q2644 : (Jvm.Cond.methodLink "TransportPair$Spans" (40 : Nat) ({ cls := "java/lang/Math", name := "max", desc := "(II)I" } : Jvm.MethodName)) ∈ lw_all := lw_g (lw_at lw_m10 238 rfl) rfl
theorem q2645 : (Jvm.Cond.methodLink "TransportPair$Spans" (43 : Nat) ({ cls := "TransportPair$Spans", name := "release", desc := "(I)V" } : Jvm.MethodName)) ∈ lw_all := lw_g (lw_at lw_m10 239 rfl) rfl
theorem q2647 : (Jvm.Cond.instanceMethod ({ cls := "TransportPair$Spans", name := "release", desc := "(I)V" } : Jvm.MethodName)) ∈ lw_all := lw_g (lw_at lw_m11 1 rfl) rfl
theorem q2648 : (Jvm.Cond.code ({ cls := "TransportPair$Spans", name := "release", desc := "(I)V" } : Jvm.MethodName) prog_27_method_3_code (2 : Nat) (Option.none : Option Jvm.ClassFile.FieldType)) ∈ lw_all := lw_g (lw_at lw_m11 2 rfl) rfl
theorem q2649 : (Jvm.Cond.methodLink "TransportPair$Spans" (47 : Nat) ({ cls := "TransportPair$Spans", name := "make", desc := "(III)I" } : Jvm.MethodName)) ∈ lw_all := lw_g (lw_at lw_m11 3 rfl) rfl
theorem q2651 : (Jvm.Cond.instanceMethod ({ cls := "TransportPair$Spans", name := "make", desc := "(III)I" } : Jvm.MethodName)) ∈ lw_all := lw_g (lw_at lw_m11 5 rfl) rfl
theorem q2652 : (Jvm.Cond.code ({ cls := "TransportPair$Spans", name := "make", desc := "(III)I" } : Jvm.MethodName) prog_27_method_2_code (5 : Nat) (Option.some Jvm.ClassFile.FieldType.int)) ∈ lw_all := lw_g (lw_at lw_m11 6 rfl) rfl
theorem q2653 : (Jvm.Cond.methodLink "TransportPair$Spans" (28 : Nat) ({ cls := "java/util/Arrays", name := "copyOf", desc := "([II)[I" } : Jvm.MethodName)) ∈ lw_all := lw_g (lw_at lw_m11 7 rfl) rfl
theorem q2654 : (Jvm.Cond.methodLink "TransportPair$Hall" (338 : Nat) ({ cls := "TransportPair$Spans", name := "cut", desc := "(III)I" } : Jvm.MethodName)) ∈ lw_all := lw_g (lw_at lw_m11 8 rfl) rfl
theorem q2655 : (Jvm.Cond.instanceMethod ({ cls := "TransportPair$Spans", name := "cut", desc := "(III)I" } : Jvm.MethodName)) ∈ lw_all := lw_g (lw_at lw_m11 9 rfl) rfl
theorem q2656 : (Jvm.Cond.selects "TransportPair$Spans" ({ cls := "TransportPair$Spans", name := "cut", desc := "(III)I" } : Jvm.MethodName) ({ cls := "TransportPair$Spans", name := "cut", desc := "(III)I" } : Jvm.MethodName)) ∈ lw_all := lw_g (lw_at lw_m11 10 rfl) rfl
theorem q2657 : (Jvm.Cond.code ({ cls := "TransportPair$Spans", name := "cut", desc := "(III)I" } : Jvm.MethodName) prog_27_method_5_code (9 : Nat) (Option.some Jvm.ClassFile.FieldType.int)) ∈ lw_all := lw_g (lw_at lw_m11 11 rfl) rfl
theorem q2658 : (Jvm.Cond.methodLink "TransportPair$Spans" (51 : Nat) ({ cls := "TransportPair$Spans", name := "trim", desc := "(III)V" } : Jvm.MethodName)) ∈ lw_all := lw_g (lw_at lw_m11 12 rfl) rfl
theorem q2660 : (Jvm.Cond.instanceMethod ({ cls := "TransportPair$Spans", name := "trim", desc := "(III)V" } : Jvm.MethodName)) ∈ lw_all := lw_g (lw_at lw_m11 14 rfl) rfl
theorem q2661 : (Jvm.Cond.code ({ cls := "TransportPair$Spans", name := "trim", desc := "(III)V" } : Jvm.MethodName) prog_27_method_6_code (5 : Nat) (Option.none : Option Jvm.ClassFile.FieldType)) ∈ lw_all := lw_g (lw_at lw_m11 15 rfl) rfl
theorem q2662 : (Jvm.Cond.methodLink "TransportPair$Hall" (357 : Nat) ({ cls := "TransportPair$Spans", name := "count", desc := "(I)I" } : Jvm.MethodName)) ∈ lw_all := lw_g (lw_at lw_m11 16 rfl) rfl
theorem q2663 : (Jvm.Cond.instanceMethod ({ cls := "TransportPair$Spans", name := "count", desc := "(I)I" } : Jvm.MethodName)) ∈ lw_all := lw_g (lw_at lw_m11 17 rfl) rfl
theorem q2664 : (Jvm.Cond.selects "TransportPair$Spans" ({ cls := "TransportPair$Spans", name := "count", desc := "(I)I" } : Jvm.MethodName) ({ cls := "TransportPair$Spans", name := "count", desc := "(I)I" } : Jvm.MethodName)) ∈ lw_all := lw_g (lw_at lw_m11 18 rfl) rfl
theorem q2665 : (Jvm.Cond.code ({ cls := "TransportPair$Spans", name := "count", desc := "(I)I" } : Jvm.MethodName) prog_27_method_7_code (4 : Nat) (Option.some Jvm.ClassFile.FieldType.int)) ∈ lw_all := lw_g (lw_at lw_m11 19 rfl) rfl
theorem q2666 : (Jvm.Cond.methodLink "TransportPair$Hall" (348 : Nat) ({ cls := "TransportPair$Hall", name := "isLost", desc := "(IIJJ)V" } : Jvm.MethodName)) ∈ lw_all := lw_g (lw_at lw_m11 20 rfl) rfl
theorem q2668 : (Jvm.Cond.instanceMethod ({ cls := "TransportPair$Hall", name := "isLost", desc := "(IIJJ)V" } : Jvm.MethodName)) ∈ lw_all := lw_g (lw_at lw_m11 22 rfl) rfl
theorem q2669 : (Jvm.Cond.code ({ cls := "TransportPair$Hall", name := "isLost", desc := "(IIJJ)V" } : Jvm.MethodName) prog_12_method_39_code (7 : Nat) (Option.none : Option Jvm.ClassFile.FieldType)) ∈ lw_all := lw_g (lw_at lw_m11 23 rfl) rfl
theorem q2670 : (Jvm.Cond.methodLink "TransportPair$Side" (456 : Nat) ({ cls := "TransportPair$Side", name := "greets", desc := "(I)I" } : Jvm.MethodName)) ∈ lw_all := lw_g (lw_at lw_m11 24 rfl) rfl
theorem q2672 : (Jvm.Cond.instanceMethod ({ cls := "TransportPair$Side", name := "greets", desc := "(I)I" } : Jvm.MethodName)) ∈ lw_all := lw_g (lw_at lw_m11 26 rfl) rfl
theorem q2673 : (Jvm.Cond.code ({ cls := "TransportPair$Side", name := "greets", desc := "(I)I" } : Jvm.MethodName) prog_25_method_29_code (5 : Nat) (Option.some Jvm.ClassFile.FieldType.int)) ∈ lw_all := lw_g (lw_at lw_m11 27 rfl) rfl
theorem q2674 : (Jvm.Cond.methodLink "TransportPair$Side" (511 : Nat) ({ cls := "TransportPair$Crypto", name := "take", desc := "(LTransportPair$Frame;)Z" } : Jvm.MethodName)) ∈ lw_all := lw_g (lw_at lw_m11 28 rfl) rfl
theorem q2675 : (Jvm.Cond.instanceMethod ({ cls := "TransportPair$Crypto", name := "take", desc := "(LTransportPair$Frame;)Z" } : Jvm.MethodName)) ∈ lw_all := lw_g (lw_at lw_m11 29 rfl) rfl
theorem q2676 : (Jvm.Cond.selects "TransportPair$Crypto" ({ cls := "TransportPair$Crypto", name := "take", desc := "(LTransportPair$Frame;)Z" } : Jvm.MethodName) ({ cls := "TransportPair$Crypto", name := "take", desc := "(LTransportPair$Frame;)Z" } : Jvm.MethodName)) ∈ lw_all := lw_g (lw_at lw_m11 30 rfl) rfl
theorem q2677 : (Jvm.Cond.code ({ cls := "TransportPair$Crypto", name := "take", desc := "(LTransportPair$Frame;)Z" } : Jvm.MethodName) prog_8_method_5_code (3 : Nat) (Option.some Jvm.ClassFile.FieldType.boolean)) ∈ lw_all := lw_g (lw_at lw_m11 31 rfl) rfl
theorem q2678 : (Jvm.Cond.constantLong "TransportPair$Crypto" (67 : Nat) (2048 : Int64)) ∈ lw_all := lw_g (lw_at lw_m11 32 rfl) rfl
theorem q2679 : (Jvm.Cond.methodLink "TransportPair$Side" (514 : Nat) ({ cls := "TransportPair$Crypto", name := "more", desc := "()I" } : Jvm.MethodName)) ∈ lw_all := lw_g (lw_at lw_m11 33 rfl) rfl
theorem q2680 : (Jvm.Cond.instanceMethod ({ cls := "TransportPair$Crypto", name := "more", desc := "()I" } : Jvm.MethodName)) ∈ lw_all := lw_g (lw_at lw_m11 34 rfl) rfl
theorem q2681 : (Jvm.Cond.selects "TransportPair$Crypto" ({ cls := "TransportPair$Crypto", name := "more", desc := "()I" } : Jvm.MethodName) ({ cls := "TransportPair$Crypto", name := "more", desc := "()I" } : Jvm.MethodName)) ∈ lw_all := lw_g (lw_at lw_m11 35 rfl) rfl
theorem q2682 : (Jvm.Cond.code ({ cls := "TransportPair$Crypto", name := "more", desc := "()I" } : Jvm.MethodName) prog_8_method_6_code (2 : Nat) (Option.some Jvm.ClassFile.FieldType.int)) ∈ lw_all := lw_g (lw_at lw_m11 36 rfl) rfl
theorem q2683 : (Jvm.Cond.methodLink "TransportPair$Side" (521 : Nat) ({ cls := "TransportPair$Greeting", name := "take", desc := "(I[BII)I" } : Jvm.MethodName)) ∈ lw_all := lw_g (lw_at lw_m11 37 rfl) rfl
theorem q2684 : (Jvm.Cond.instanceMethod ({ cls := "TransportPair$Greeting", name := "take", desc := "(I[BII)I" } : Jvm.MethodName)) ∈ lw_all := lw_g (lw_at lw_m11 38 rfl) rfl
theorem q2685 : (Jvm.Cond.selects "TransportPair$Greeting" ({ cls := "TransportPair$Greeting", name := "take", desc := "(I[BII)I" } : Jvm.MethodName) ({ cls := "TransportPair$Greeting", name := "take", desc := "(I[BII)I" } : Jvm.MethodName)) ∈ lw_all := lw_g (lw_at lw_m11 39 rfl) rfl
theorem q2686 : (Jvm.Cond.code ({ cls := "TransportPair$Greeting", name := "take", desc := "(I[BII)I" } : Jvm.MethodName) prog_10_method_14_code (9 : Nat) (Option.some Jvm.ClassFile.FieldType.int)) ∈ lw_all := lw_g (lw_at lw_m11 40 rfl) rfl
theorem q2687 : (Jvm.Cond.methodLink "TransportPair$Greeting" (177 : Nat) ({ cls := "TransportPair$Greeting", name := "levelOf", desc := "(I)I" } : Jvm.MethodName)) ∈ lw_all := lw_g (lw_at lw_m11 41 rfl) rfl
theorem q2688 : (Jvm.Cond.static ({ cls := "TransportPair$Greeting", name := "levelOf", desc := "(I)I" } : Jvm.MethodName)) ∈ lw_all := lw_g (lw_at lw_m11 42 rfl) rfl
theorem q2689 : (Jvm.Cond.code ({ cls := "TransportPair$Greeting", name := "levelOf", desc := "(I)I" } : Jvm.MethodName) prog_10_method_11_code (1 : Nat) (Option.some Jvm.ClassFile.FieldType.int)) ∈ lw_all := lw_g (lw_at lw_m11 43 rfl) rfl
theorem q2690 : (Jvm.Cond.methodLink "TransportPair$Greeting" (181 : Nat) ({ cls := "TransportPair$Greeting", name := "fails", desc := "(I)I" } : Jvm.MethodName)) ∈ lw_all := lw_g (lw_at lw_m11 44 rfl) rfl
theorem q2692 : (Jvm.Cond.instanceMethod ({ cls := "TransportPair$Greeting", name := "fails", desc := "(I)I" } : Jvm.MethodName)) ∈ lw_all := lw_g (lw_at lw_m11 46 rfl) rfl
theorem q2693 : (Jvm.Cond.code ({ cls := "TransportPair$Greeting", name := "fails", desc := "(I)I" } : Jvm.MethodName) prog_10_method_13_code (2 : Nat) (Option.some Jvm.ClassFile.FieldType.int)) ∈ lw_all := lw_g (lw_at lw_m11 47 rfl) rfl
theorem q2694 : (Jvm.Cond.methodLink "TransportPair$Greeting" (174 : Nat) ({ cls := "TransportPair$Row", name := "clear", desc := "()V" } : Jvm.MethodName)) ∈ lw_all := lw_g (lw_at lw_m11 48 rfl) rfl
theorem q2695 : (Jvm.Cond.instanceMethod ({ cls := "TransportPair$Row", name := "clear", desc := "()V" } : Jvm.MethodName)) ∈ lw_all := lw_g (lw_at lw_m11 49 rfl) rfl
theorem q2696 : (Jvm.Cond.selects "TransportPair$Row" ({ cls := "TransportPair$Row", name := "clear", desc := "()V" } : Jvm.MethodName) ({ cls := "TransportPair$Row", name := "clear", desc := "()V" } : Jvm.MethodName)) ∈ lw_all := lw_g (lw_at lw_m11 50 rfl) rfl
theorem q2697 : (Jvm.Cond.code ({ cls := "TransportPair$Row", name := "clear", desc := "()V" } : Jvm.MethodName) prog_23_method_4_code (1 : Nat) (Option.none : Option Jvm.ClassFile.FieldType)) ∈ lw_all := lw_g (lw_at lw_m11 51 rfl) rfl
theorem q2698 : (Jvm.Cond.methodLink "TransportPair$Greeting" (184 : Nat) ({ cls := "TransportPair$Greeting", name := "fits", desc := "(II)Z" } : Jvm.MethodName)) ∈ lw_all := lw_g (lw_at lw_m11 52 rfl) rfl
theorem q2699 : (Jvm.Cond.static ({ cls := "TransportPair$Greeting", name := "fits", desc := "(II)Z" } : Jvm.MethodName)) ∈ lw_all := lw_g (lw_at lw_m11 53 rfl) rfl
theorem q2700 : (Jvm.Cond.code ({ cls := "TransportPair$Greeting", name := "fits", desc := "(II)Z" } : Jvm.MethodName) prog_10_method_12_code (2 : Nat) (Option.some Jvm.ClassFile.FieldType.boolean)) ∈ lw_all := lw_g (lw_at lw_m11 54 rfl) rfl
theorem q2701 : (Jvm.Cond.methodLink "TransportPair$Greeting" (188 : Nat) ({ cls := "TransportPair$Greeting", name := "comes", desc := "(LTransportPair$Row;I)V" } : Jvm.MethodName)) ∈ lw_all := lw_g (lw_at lw_m11 55 rfl) rfl
theorem q2703 : (Jvm.Cond.instanceMethod ({ cls := "TransportPair$Greeting", name := "comes", desc := "(LTransportPair$Row;I)V" } : Jvm.MethodName)) ∈ lw_all := lw_g (lw_at lw_m11 57 rfl) rfl
theorem q2704 : (Jvm.Cond.code ({ cls := "TransportPair$Greeting", name := "comes", desc := "(LTransportPair$Row;I)V" } : Jvm.MethodName) prog_10_method_15_code (3 : Nat) (Option.none : Option Jvm.ClassFile.FieldType)) ∈ lw_all := lw_g (lw_at lw_m11 58 rfl) rfl
theorem q2705 : (Jvm.Cond.methodLink "TransportPair$Greeting" (192 : Nat) ({ cls := "TransportPair$Greeting", name := "hello", desc := "(LTransportPair$Row;I)V" } : Jvm.MethodName)) ∈ lw_all := lw_g (lw_at lw_m11 59 rfl) rfl
theorem q2707 : (Jvm.Cond.instanceMethod ({ cls := "TransportPair$Greeting", name := "hello", desc := "(LTransportPair$Row;I)V" } : Jvm.MethodName)) ∈ lw_all := lw_g (lw_at lw_m11 61 rfl) rfl
theorem q2708 : (Jvm.Cond.code ({ cls := "TransportPair$Greeting", name := "hello", desc := "(LTransportPair$Row;I)V" } : Jvm.MethodName) prog_10_method_17_code (3 : Nat) (Option.none : Option Jvm.ClassFile.FieldType)) ∈ lw_all := lw_g (lw_at lw_m11 62 rfl) rfl
theorem q2709 : (Jvm.Cond.methodLink "TransportPair$Greeting" (198 : Nat) ({ cls := "TransportPair$Greeting", name := "keep", desc := "(LTransportPair$Row;II)V" } : Jvm.MethodName)) ∈ lw_all := lw_g (lw_at lw_m11 63 rfl) rfl
theorem q2711 : (Jvm.Cond.instanceMethod ({ cls := "TransportPair$Greeting", name := "keep", desc := "(LTransportPair$Row;II)V" } : Jvm.MethodName)) ∈ lw_all := lw_g (lw_at lw_m11 65 rfl) rfl
theorem q2712 : (Jvm.Cond.code ({ cls := "TransportPair$Greeting", name := "keep", desc := "(LTransportPair$Row;II)V" } : Jvm.MethodName) prog_10_method_16_code (4 : Nat) (Option.none : Option Jvm.ClassFile.FieldType)) ∈ lw_all := lw_g (lw_at lw_m11 66 rfl) rfl
theorem q2713 : (Jvm.Cond.methodLink "TransportPair$Greeting" (195 : Nat) ({ cls := "TransportPair$Greeting", name := "greetSecrets", desc := "()V" } : Jvm.MethodName)) ∈ lw_all := lw_g (lw_at lw_m11 67 rfl) rfl
theorem q2715 : (Jvm.Cond.instanceMethod ({ cls := "TransportPair$Greeting", name := "greetSecrets", desc := "()V" } : Jvm.MethodName)) ∈ lw_all := lw_g (lw_at lw_m11 69 rfl) rfl
theorem q2716 : (Jvm.Cond.code ({ cls := "TransportPair$Greeting", name := "greetSecrets", desc := "()V" } : Jvm.MethodName) prog_10_method_6_code (1 : Nat) (Option.none : Option Jvm.ClassFile.FieldType)) ∈ lw_all := lw_g (lw_at lw_m11 70 rfl) rfl
theorem q2717 : (Jvm.Cond.methodLink "TransportPair$Greeting" (135 : Nat) ({ cls := "TransportPair$Greeting", name := "digest", desc := "()V" } : Jvm.MethodName)) ∈ lw_all := lw_g (lw_at lw_m11 71 rfl) rfl
theorem q2719 : (Jvm.Cond.instanceMethod ({ cls := "TransportPair$Greeting", name := "digest", desc := "()V" } : Jvm.MethodName)) ∈ lw_all := lw_g (lw_at lw_m11 73 rfl) rfl
theorem q2720 : (Jvm.Cond.code ({ cls := "TransportPair$Greeting", name := "digest", desc := "()V" } : Jvm.MethodName) prog_10_method_2_code (1 : Nat) (Option.none : Option Jvm.ClassFile.FieldType)) ∈ lw_all := lw_g (lw_at lw_m11 74 rfl) rfl
theorem q2721 : (Jvm.Cond.methodLink "TransportPair$Greeting" (83 : Nat) ({ cls := "TransportPair$Hash", name := "begin", desc := "()V" } : Jvm.MethodName)) ∈ lw_all := lw_g (lw_at lw_m11 75 rfl) rfl
theorem q2722 : (Jvm.Cond.methodLink "TransportPair$Greeting" (92 : Nat) ({ cls := "TransportPair$Hash", name := "add", desc := "([BII)V" } : Jvm.MethodName)) ∈ lw_all := lw_g (lw_at lw_m11 76 rfl) rfl
theorem q2723 : (Jvm.Cond.methodLink "TransportPair$Greeting" (96 : Nat) ({ cls := "TransportPair$Hash", name := "end", desc := "([BI)V" } : Jvm.MethodName)) ∈ lw_all := lw_g (lw_at lw_m11 77 rfl) rfl
theorem q2724 : (Jvm.Cond.fieldLink "TransportPair$Greeting" (137 : Nat) "TransportPair$Label" "GREET_A" "LTransportPair$Label;") ∈ lw_all := lw_g (lw_at lw_m11 78 rfl) rfl
theorem q2726 : (Jvm.Cond.fieldLink "TransportPair$Greeting" (140 : Nat) "TransportPair$Label" "GREET_B" "LTransportPair$Label;") ∈ lw_all := lw_g (lw_at lw_m11 80 rfl) rfl
theorem q2728 : (Jvm.Cond.methodLink "TransportPair$Greeting" (206 : Nat) ({ cls := "TransportPair$Greeting", name := "prove", desc := "(I)V" } : Jvm.MethodName)) ∈ lw_all := lw_g (lw_at lw_m11 82 rfl) rfl
theorem q2730 : (Jvm.Cond.instanceMethod ({ cls := "TransportPair$Greeting", name := "prove", desc := "(I)V" } : Jvm.MethodName)) ∈ lw_all := lw_g (lw_at lw_m11 84 rfl) rfl
theorem q2731 : (Jvm.Cond.code ({ cls := "TransportPair$Greeting", name := "prove", desc := "(I)V" } : Jvm.MethodName) prog_10_method_8_code (2 : Nat) (Option.none : Option Jvm.ClassFile.FieldType)) ∈ lw_all := lw_g (lw_at lw_m11 85 rfl) rfl
theorem q2732 : (Jvm.Cond.fieldLink "TransportPair$Greeting" (149 : Nat) "TransportPair$Label" "DONE" "LTransportPair$Label;") ∈ lw_all := lw_g (lw_at lw_m11 86 rfl) rfl
theorem q2734 : (Jvm.Cond.methodLink "TransportPair$Greeting" (209 : Nat) ({ cls := "TransportPair$Greeting", name := "talkSecrets", desc := "()V" } : Jvm.MethodName)) ∈ lw_all := lw_g (lw_at lw_m11 88 rfl) rfl
theorem q2736 : (Jvm.Cond.instanceMethod ({ cls := "TransportPair$Greeting", name := "talkSecrets", desc := "()V" } : Jvm.MethodName)) ∈ lw_all := lw_g (lw_at lw_m11 90 rfl) rfl
theorem q2737 : (Jvm.Cond.code ({ cls := "TransportPair$Greeting", name := "talkSecrets", desc := "()V" } : Jvm.MethodName) prog_10_method_7_code (1 : Nat) (Option.none : Option Jvm.ClassFile.FieldType)) ∈ lw_all := lw_g (lw_at lw_m11 91 rfl) rfl
theorem q2738 : (Jvm.Cond.fieldLink "TransportPair$Greeting" (143 : Nat) "TransportPair$Label" "TALK_A" "LTransportPair$Label;") ∈ lw_all := lw_g (lw_at lw_m11 92 rfl) rfl
theorem q2740 : (Jvm.Cond.fieldLink "TransportPair$Greeting" (146 : Nat) "TransportPair$Label" "TALK_B" "LTransportPair$Label;") ∈ lw_all := lw_g (lw_at lw_m11 94 rfl) rfl
theorem q2742 : (Jvm.Cond.methodLink "TransportPair$Greeting" (202 : Nat) ({ cls := "TransportPair$Greeting", name := "done", desc := "(LTransportPair$Row;)V" } : Jvm.MethodName)) ∈ lw_all := lw_g (lw_at lw_m11 96 rfl) rfl
theorem q2744 : (Jvm.Cond.instanceMethod ({ cls := "TransportPair$Greeting", name := "done", desc := "(LTransportPair$Row;)V" } : Jvm.MethodName)) ∈ lw_all := lw_g (lw_at lw_m11 98 rfl) rfl
theorem q2745 : (Jvm.Cond.code ({ cls := "TransportPair$Greeting", name := "done", desc := "(LTransportPair$Row;)V" } : Jvm.MethodName) prog_10_method_18_code (4 : Nat) (Option.none : Option Jvm.ClassFile.FieldType)) ∈ lw_all := lw_g (lw_at lw_m11 99 rfl) rfl
theorem q2746 : (Jvm.Cond.methodLink "TransportPair$Side" (524 : Nat) ({ cls := "TransportPair$Side", name := "follow", desc := "()V" } : Jvm.MethodName)) ∈ lw_all := lw_g (lw_at lw_m11 100 rfl) rfl
theorem q2748 : (Jvm.Cond.instanceMethod ({ cls := "TransportPair$Side", name := "follow", desc := "()V" } : Jvm.MethodName)) ∈ lw_all := lw_g (lw_at lw_m11 102 rfl) rfl
theorem q2749 : (Jvm.Cond.code ({ cls := "TransportPair$Side", name := "follow", desc := "()V" } : Jvm.MethodName) prog_25_method_10_code (1 : Nat) (Option.none : Option Jvm.ClassFile.FieldType)) ∈ lw_all := lw_g (lw_at lw_m11 103 rfl) rfl
theorem q2750 : (Jvm.Cond.methodLink "TransportPair$Side" (250 : Nat) ({ cls := "TransportPair$Side", name := "learn", desc := "()Z" } : Jvm.MethodName)) ∈ lw_all := lw_g (lw_at lw_m11 104 rfl) rfl
theorem q2752 : (Jvm.Cond.instanceMethod ({ cls := "TransportPair$Side", name := "learn", desc := "()Z" } : Jvm.MethodName)) ∈ lw_all := lw_g (lw_at lw_m11 106 rfl) rfl
theorem q2753 : (Jvm.Cond.code ({ cls := "TransportPair$Side", name := "learn", desc := "()Z" } : Jvm.MethodName) prog_25_method_11_code (2 : Nat) (Option.some Jvm.ClassFile.FieldType.boolean)) ∈ lw_all := lw_g (lw_at lw_m11 107 rfl) rfl
theorem q2754 : (Jvm.Cond.methodLink "TransportPair$Side" (265 : Nat) ({ cls := "TransportPair$Parameters", name := "read", desc := "(LTransportPair$Bytes;Z)I" } : Jvm.MethodName)) ∈ lw_all := lw_g (lw_at lw_m11 108 rfl) rfl
theorem q2755 : (Jvm.Cond.instanceMethod ({ cls := "TransportPair$Parameters", name := "read", desc := "(LTransportPair$Bytes;Z)I" } : Jvm.MethodName)) ∈ lw_all := lw_g (lw_at lw_m11 109 rfl) rfl
theorem q2756 : (Jvm.Cond.selects "TransportPair$Parameters" ({ cls := "TransportPair$Parameters", name := "read", desc := "(LTransportPair$Bytes;Z)I" } : Jvm.MethodName) ({ cls := "TransportPair$Parameters", name := "read", desc := "(LTransportPair$Bytes;Z)I" } : Jvm.MethodName)) ∈ lw_all := lw_g (lw_at lw_m11 110 rfl) rfl
theorem q2757 : (Jvm.Cond.code ({ cls := "TransportPair$Parameters", name := "read", desc := "(LTransportPair$Bytes;Z)I" } : Jvm.MethodName) prog_19_method_5_code (9 : Nat) (Option.some Jvm.ClassFile.FieldType.int)) ∈ lw_all := lw_g (lw_at lw_m11 111 rfl) rfl
theorem q2758 : (Jvm.Cond.methodLink "TransportPair$Parameters" (47 : Nat) ({ cls := "TransportPair$Bytes", name := "left", desc := "()I" } : Jvm.MethodName)) ∈ lw_all := lw_g (lw_at lw_m11 112 rfl) rfl
theorem q2759 : (Jvm.Cond.methodLink "TransportPair$Parameters" (56 : Nat) ({ cls := "TransportPair$Bytes", name := "number", desc := "()J" } : Jvm.MethodName)) ∈ lw_all := lw_g (lw_at lw_m11 113 rfl) rfl
theorem q2760 : (Jvm.Cond.constantLong "TransportPair$Parameters" (64 : Nat) (17 : Int64)) ∈ lw_all := lw_g (lw_at lw_m11 114 rfl) rfl
theorem q2761 : (Jvm.Cond.methodLink "TransportPair$Parameters" (66 : Nat) ({ cls := "TransportPair$Parameters", name := "one", desc := "(LTransportPair$Bytes;IIZ)I" } : Jvm.MethodName)) ∈ lw_all := lw_g (lw_at lw_m11 115 rfl) rfl
theorem q2763 : (Jvm.Cond.instanceMethod ({ cls := "TransportPair$Parameters", name := "one", desc := "(LTransportPair$Bytes;IIZ)I" } : Jvm.MethodName)) ∈ lw_all := lw_g (lw_at lw_m11 117 rfl) rfl
theorem q2764 : (Jvm.Cond.code ({ cls := "TransportPair$Parameters", name := "one", desc := "(LTransportPair$Bytes;IIZ)I" } : Jvm.MethodName) prog_19_method_6_code (7 : Nat) (Option.some Jvm.ClassFile.FieldType.int)) ∈ lw_all := lw_g (lw_at lw_m11 118 rfl) rfl
theorem q2765 : (Jvm.Cond.methodLink "TransportPair$Parameters" (74 : Nat) ({ cls := "TransportPair$Parameters", name := "isAnswer", desc := "(I)Z" } : Jvm.MethodName)) ∈ lw_all := lw_g (lw_at lw_m11 119 rfl) rfl
theorem q2766 : (Jvm.Cond.static ({ cls := "TransportPair$Parameters", name := "isAnswer", desc := "(I)Z" } : Jvm.MethodName)) ∈ lw_all := lw_g (lw_at lw_m11 120 rfl) rfl
theorem q2767 : (Jvm.Cond.code ({ cls := "TransportPair$Parameters", name := "isAnswer", desc := "(I)Z" } : Jvm.MethodName) prog_19_method_4_code (1 : Nat) (Option.some Jvm.ClassFile.FieldType.boolean)) ∈ lw_all := lw_g (lw_at lw_m11 121 rfl) rfl
theorem q2768 : (Jvm.Cond.methodLink "TransportPair$Parameters" (70 : Nat) ({ cls := "TransportPair$Bytes", name := "pass", desc := "(I)I" } : Jvm.MethodName)) ∈ lw_all := lw_g (lw_at lw_m11 122 rfl) rfl
theorem q2769 : (Jvm.Cond.methodLink "TransportPair$Parameters" (81 : Nat) ({ cls := "TransportPair$Parameters", name := "fits", desc := "(IJ)Z" } : Jvm.MethodName)) ∈ lw_all := lw_g (lw_at lw_m11 123 rfl) rfl
theorem q2770 : (Jvm.Cond.static ({ cls := "TransportPair$Parameters", name := "fits", desc := "(IJ)Z" } : Jvm.MethodName)) ∈ lw_all := lw_g (lw_at lw_m11 124 rfl) rfl
theorem q2771 : (Jvm.Cond.code ({ cls := "TransportPair$Parameters", name := "fits", desc := "(IJ)Z" } : Jvm.MethodName) prog_19_method_7_code (3 : Nat) (Option.some Jvm.ClassFile.FieldType.boolean)) ∈ lw_all := lw_g (lw_at lw_m11 125 rfl) rfl
theorem q2772 : (Jvm.Cond.constantLong "TransportPair$Parameters" (85 : Nat) (1200 : Int64)) ∈ lw_all := lw_g (lw_at lw_m11 126 rfl) rfl
theorem q2773 : (Jvm.Cond.constantLong "TransportPair$Parameters" (87 : Nat) (1152921504606846976 : Int64)) ∈ lw_all := lw_g (lw_at lw_m11 127 rfl) rfl
theorem q2774 : (Jvm.Cond.constantLong "TransportPair$Parameters" (89 : Nat) (20 : Int64)) ∈ lw_all := lw_g (lw_at lw_m11 128 rfl) rfl
theorem q2775 : (Jvm.Cond.constantLong "TransportPair$Parameters" (91 : Nat) (16384 : Int64)) ∈ lw_all := lw_g (lw_at lw_m11 129 rfl) rfl
theorem q2776 : (Jvm.Cond.methodLink "TransportPair$Side" (269 : Nat) ({ cls := "TransportPair$Side", name := "isName", desc := "(II)Z" } : Jvm.MethodName)) ∈ lw_all := lw_g (lw_at lw_m11 130 rfl) rfl
theorem q2778 : (Jvm.Cond.instanceMethod ({ cls := "TransportPair$Side", name := "isName", desc := "(II)Z" } : Jvm.MethodName)) ∈ lw_all := lw_g (lw_at lw_m11 132 rfl) rfl
theorem q2779 : (Jvm.Cond.code ({ cls := "TransportPair$Side", name := "isName", desc := "(II)Z" } : Jvm.MethodName) prog_25_method_12_code (5 : Nat) (Option.some Jvm.ClassFile.FieldType.boolean)) ∈ lw_all := lw_g (lw_at lw_m11 133 rfl) rfl
theorem q2780 : (Jvm.Cond.methodLink "TransportPair$Side" (277 : Nat) ({ cls := "TransportPair$Hall", name := "limits", desc := "(JJJJJJ)V" } : Jvm.MethodName)) ∈ lw_all := lw_g (lw_at lw_m11 134 rfl) rfl
theorem q2781 : (Jvm.Cond.instanceMethod ({ cls := "TransportPair$Hall", name := "limits", desc := "(JJJJJJ)V" } : Jvm.MethodName)) ∈ lw_all := lw_g (lw_at lw_m11 135 rfl) rfl
theorem q2782 : (Jvm.Cond.selects "TransportPair$Hall" ({ cls := "TransportPair$Hall", name := "limits", desc := "(JJJJJJ)V" } : Jvm.MethodName) ({ cls := "TransportPair$Hall", name := "limits", desc := "(JJJJJJ)V" } : Jvm.MethodName)) ∈ lw_all := lw_g (lw_at lw_m11 136 rfl) rfl
theorem q2783 : (Jvm.Cond.code ({ cls := "TransportPair$Hall", name := "limits", desc := "(JJJJJJ)V" } : Jvm.MethodName) prog_12_method_3_code (13 : Nat) (Option.none : Option Jvm.ClassFile.FieldType)) ∈ lw_all := lw_g (lw_at lw_m11 137 rfl) rfl
theorem q2784 : (Jvm.Cond.constantLong "TransportPair$Hall" (85 : Nat) (64 : Int64)) ∈ lw_all := lw_g (lw_at lw_m11 138 rfl) rfl
theorem q2785 : (Jvm.Cond.methodLink "TransportPair$Hall" (87 : Nat) ({ cls := "java/lang/Math", name := "min", desc := "(JJ)J" } : Jvm.MethodName)) ∈ lw_all := lw_g (lw_at lw_m11 139 rfl) rfl
theorem q2786 : (Jvm.Cond.methodLink "TransportPair$Side" (260 : Nat) ({ cls := "TransportPair$Side", name := "confirm", desc := "()V" } : Jvm.MethodName)) ∈ lw_all := lw_g (lw_at lw_m11 140 rfl) rfl
theorem q2788 : (Jvm.Cond.instanceMethod ({ cls := "TransportPair$Side", name := "confirm", desc := "()V" } : Jvm.MethodName)) ∈ lw_all := lw_g (lw_at lw_m11 142 rfl) rfl
theorem q2789 : (Jvm.Cond.code ({ cls := "TransportPair$Side", name := "confirm", desc := "()V" } : Jvm.MethodName) prog_25_method_13_code (1 : Nat) (Option.none : Option Jvm.ClassFile.FieldType)) ∈ lw_all := lw_g (lw_at lw_m11 143 rfl) rfl
theorem q2790 : (Jvm.Cond.methodLink "TransportPair$Side" (465 : Nat) ({ cls := "TransportPair$Side", name := "drains", desc := "(LTransportPair$Frame;)V" } : Jvm.MethodName)) ∈ lw_all := lw_g (lw_at lw_m11 144 rfl) rfl
theorem q2792 : (Jvm.Cond.instanceMethod ({ cls := "TransportPair$Side", name := "drains", desc := "(LTransportPair$Frame;)V" } : Jvm.MethodName)) ∈ lw_all := lw_g (lw_at lw_m11 146 rfl) rfl
theorem q2793 : (Jvm.Cond.code ({ cls := "TransportPair$Side", name := "drains", desc := "(LTransportPair$Frame;)V" } : Jvm.MethodName) prog_25_method_17_code (2 : Nat) (Option.none : Option Jvm.ClassFile.FieldType)) ∈ lw_all := lw_g (lw_at lw_m11 147 rfl) rfl
theorem q2794 : (Jvm.Cond.constantLong "TransportPair$Side" (329 : Nat) (9999 : Int64)) ∈ lw_all := lw_g (lw_at lw_m11 148 rfl) rfl
theorem q2795 : (Jvm.Cond.methodLink "TransportPair$Side" (482 : Nat) ({ cls := "TransportPair$Hall", name := "take", desc := "(IJJJ[BII)I" } : Jvm.MethodName)) ∈ lw_all := lw_g (lw_at lw_m11 149 rfl) rfl
theorem q2796 : (Jvm.Cond.instanceMethod ({ cls := "TransportPair$Hall", name := "take", desc := "(IJJJ[BII)I" } : Jvm.MethodName)) ∈ lw_all := lw_g (lw_at lw_m11 150 rfl) rfl
theorem q2797 : (Jvm.Cond.selects "TransportPair$Hall" ({ cls := "TransportPair$Hall", name := "take", desc := "(IJJJ[BII)I" } : Jvm.MethodName) ({ cls := "TransportPair$Hall", name := "take", desc := "(IJJJ[BII)I" } : Jvm.MethodName)) ∈ lw_all := lw_g (lw_at lw_m11 151 rfl) rfl
theorem q2798 : (Jvm.Cond.code ({ cls := "TransportPair$Hall", name := "take", desc := "(IJJJ[BII)I" } : Jvm.MethodName) prog_12_method_25_code (14 : Nat) (Option.some Jvm.ClassFile.FieldType.int)) ∈ lw_all := lw_g (lw_at lw_m11 152 rfl) rfl
theorem q2799 : (Jvm.Cond.methodLink "TransportPair$Hall" (229 : Nat) ({ cls := "java/lang/Math", name := "max", desc := "(JJ)J" } : Jvm.MethodName)) ∈ lw_all := lw_g (lw_at lw_m11 153 rfl) rfl
theorem q2800 : (Jvm.Cond.methodLink "TransportPair$Hall" (234 : Nat) ({ cls := "TransportPair$Hall", name := "allowed", desc := "(JZ)I" } : Jvm.MethodName)) ∈ lw_all := lw_g (lw_at lw_m11 154 rfl) rfl
theorem q2802 : (Jvm.Cond.instanceMethod ({ cls := "TransportPair$Hall", name := "allowed", desc := "(JZ)I" } : Jvm.MethodName)) ∈ lw_all := lw_g (lw_at lw_m11 156 rfl) rfl
theorem q2803 : (Jvm.Cond.code ({ cls := "TransportPair$Hall", name := "allowed", desc := "(JZ)I" } : Jvm.MethodName) prog_12_method_22_code (6 : Nat) (Option.some Jvm.ClassFile.FieldType.int)) ∈ lw_all := lw_g (lw_at lw_m11 157 rfl) rfl
theorem q2804 : (Jvm.Cond.constantLong "TransportPair$Hall" (218 : Nat) (4 : Int64)) ∈ lw_all := lw_g (lw_at lw_m11 158 rfl) rfl
theorem q2805 : (Jvm.Cond.methodLink "TransportPair$Hall" (237 : Nat) ({ cls := "TransportPair$Hall", name := "fits", desc := "(IJZ)I" } : Jvm.MethodName)) ∈ lw_all := lw_g (lw_at lw_m11 159 rfl) rfl
theorem q2807 : (Jvm.Cond.instanceMethod ({ cls := "TransportPair$Hall", name := "fits", desc := "(IJZ)I" } : Jvm.MethodName)) ∈ lw_all := lw_g (lw_at lw_m11 161 rfl) rfl
theorem q2808 : (Jvm.Cond.code ({ cls := "TransportPair$Hall", name := "fits", desc := "(IJZ)I" } : Jvm.MethodName) prog_12_method_23_code (9 : Nat) (Option.some Jvm.ClassFile.FieldType.int)) ∈ lw_all := lw_g (lw_at lw_m11 162 rfl) rfl
theorem q2809 : (Jvm.Cond.methodLink "TransportPair$Hall" (241 : Nat) ({ cls := "TransportPair$Hall", name := "come", desc := "(I)V" } : Jvm.MethodName)) ∈ lw_all := lw_g (lw_at lw_m11 163 rfl) rfl
theorem q2811 : (Jvm.Cond.instanceMethod ({ cls := "TransportPair$Hall", name := "come", desc := "(I)V" } : Jvm.MethodName)) ∈ lw_all := lw_g (lw_at lw_m11 165 rfl) rfl
theorem q2812 : (Jvm.Cond.code ({ cls := "TransportPair$Hall", name := "come", desc := "(I)V" } : Jvm.MethodName) prog_12_method_12_code (3 : Nat) (Option.none : Option Jvm.ClassFile.FieldType)) ∈ lw_all := lw_g (lw_at lw_m11 166 rfl) rfl
theorem q2813 : (Jvm.Cond.methodLink "TransportPair$Hall" (245 : Nat) ({ cls := "TransportPair$Hall", name := "comes", desc := "(LTransportPair$Receiving;IZ[BII)V" } : Jvm.MethodName)) ∈ lw_all := lw_g (lw_at lw_m11 167 rfl) rfl
theorem q2815 : (Jvm.Cond.instanceMethod ({ cls := "TransportPair$Hall", name := "comes", desc := "(LTransportPair$Receiving;IZ[BII)V" } : Jvm.MethodName)) ∈ lw_all := lw_g (lw_at lw_m11 169 rfl) rfl
theorem q2816 : (Jvm.Cond.code ({ cls := "TransportPair$Hall", name := "comes", desc := "(LTransportPair$Receiving;IZ[BII)V" } : Jvm.MethodName) prog_12_method_26_code (7 : Nat) (Option.none : Option Jvm.ClassFile.FieldType)) ∈ lw_all := lw_g (lw_at lw_m11 170 rfl) rfl
theorem q2817 : (Jvm.Cond.methodLink "TransportPair$Hall" (253 : Nat) ({ cls := "TransportPair$Hall", name := "reach", desc := "(LTransportPair$Receiving;I)V" } : Jvm.MethodName)) ∈ lw_all := lw_g (lw_at lw_m11 171 rfl) rfl
theorem q2819 : (Jvm.Cond.instanceMethod ({ cls := "TransportPair$Hall", name := "reach", desc := "(LTransportPair$Receiving;I)V" } : Jvm.MethodName)) ∈ lw_all := lw_g (lw_at lw_m11 173 rfl) rfl
theorem q2820 : (Jvm.Cond.code ({ cls := "TransportPair$Hall", name := "reach", desc := "(LTransportPair$Receiving;I)V" } : Jvm.MethodName) prog_12_method_24_code (3 : Nat) (Option.none : Option Jvm.ClassFile.FieldType)) ∈ lw_all := lw_g (lw_at lw_m11 174 rfl) rfl
theorem q2821 : (Jvm.Cond.methodLink "TransportPair$Hall" (232 : Nat) ({ cls := "java/lang/Math", name := "max", desc := "(II)I" } : Jvm.MethodName)) ∈ lw_all := lw_g (lw_at lw_m11 175 rfl) rfl
theorem q2822 : (Jvm.Cond.methodLink "TransportPair$Hall" (257 : Nat) ({ cls := "TransportPair$Blocks", name := "put", desc := "(LTransportPair$Receiving;I[BII)V" } : Jvm.MethodName)) ∈ lw_all := lw_g (lw_at lw_m11 176 rfl) rfl
theorem q2823 : (Jvm.Cond.instanceMethod ({ cls := "TransportPair$Blocks", name := "put", desc := "(LTransportPair$Receiving;I[BII)V" } : Jvm.MethodName)) ∈ lw_all := lw_g (lw_at lw_m11 177 rfl) rfl
theorem q2824 : (Jvm.Cond.selects "TransportPair$Blocks" ({ cls := "TransportPair$Blocks", name := "put", desc := "(LTransportPair$Receiving;I[BII)V" } : Jvm.MethodName) ({ cls := "TransportPair$Blocks", name := "put", desc := "(LTransportPair$Receiving;I[BII)V" } : Jvm.MethodName)) ∈ lw_all := lw_g (lw_at lw_m11 178 rfl) rfl
theorem q2825 : (Jvm.Cond.code ({ cls := "TransportPair$Blocks", name := "put", desc := "(LTransportPair$Receiving;I[BII)V" } : Jvm.MethodName) prog_3_method_4_code (9 : Nat) (Option.none : Option Jvm.ClassFile.FieldType)) ∈ lw_all := lw_g (lw_at lw_m11 179 rfl) rfl
theorem q2826 : (Jvm.Cond.methodLink "TransportPair$Blocks" (57 : Nat) ({ cls := "java/lang/Math", name := "max", desc := "(II)I" } : Jvm.MethodName)) ∈ lw_all := lw_g (lw_at lw_m11 180 rfl) rfl
theorem q2827 : (Jvm.Cond.methodLink "TransportPair$Blocks" (62 : Nat) ({ cls := "TransportPair$Blocks", name := "block", desc := "(LTransportPair$Receiving;I)I" } : Jvm.MethodName)) ∈ lw_all := lw_g (lw_at lw_m11 181 rfl) rfl
theorem q2829 : (Jvm.Cond.instanceMethod ({ cls := "TransportPair$Blocks", name := "block", desc := "(LTransportPair$Receiving;I)I" } : Jvm.MethodName)) ∈ lw_all := lw_g (lw_at lw_m11 183 rfl) rfl
theorem q2830 : (Jvm.Cond.code ({ cls := "TransportPair$Blocks", name := "block", desc := "(LTransportPair$Receiving;I)I" } : Jvm.MethodName) prog_3_method_3_code (6 : Nat) (Option.some Jvm.ClassFile.FieldType.int)) ∈ lw_all := lw_g (lw_at lw_m11 184 rfl) rfl
theorem q2831 : (Jvm.Cond.methodLink "TransportPair$Blocks" (50 : Nat) ({ cls := "TransportPair$Blocks", name := "make", desc := "(II)I" } : Jvm.MethodName)) ∈ lw_all := lw_g (lw_at lw_m11 185 rfl) rfl
theorem q2833 : (Jvm.Cond.instanceMethod ({ cls := "TransportPair$Blocks", name := "make", desc := "(II)I" } : Jvm.MethodName)) ∈ lw_all := lw_g (lw_at lw_m11 187 rfl) rfl
theorem q2834 : (Jvm.Cond.code ({ cls := "TransportPair$Blocks", name := "make", desc := "(II)I" } : Jvm.MethodName) prog_3_method_2_code (4 : Nat) (Option.some Jvm.ClassFile.FieldType.int)) ∈ lw_all := lw_g (lw_at lw_m11 188 rfl) rfl
theorem q2835 : (Jvm.Cond.methodLink "TransportPair$Blocks" (33 : Nat) ({ cls := "java/util/Arrays", name := "copyOf", desc := "([BI)[B" } : Jvm.MethodName)) ∈ lw_all := lw_g (lw_at lw_m11 189 rfl) rfl
theorem q2836 : (Jvm.Cond.static ({ cls := "java/util/Arrays", name := "copyOf", desc := "([BI)[B" } : Jvm.MethodName)) ∈ lw_all := lw_g (lw_at lw_m11 190 rfl) rfl
theorem q2837 : (Jvm.Cond.code ({ cls := "java/util/Arrays", name := "copyOf", desc := "([BI)[B" } : Jvm.MethodName) prog_58_method_121_code (3 : Nat) (Option.some (Jvm.ClassFile.FieldType.array Jvm.ClassFile.FieldType.byte))) ∈ lw_all := lw_g (lw_at lw_m11 191 rfl) rfl
theorem q2843 : (Jvm.Cond.methodLink "TransportPair$Blocks" (39 : Nat) ({ cls := "java/util/Arrays", name := "copyOf", desc := "([JI)[J" } : Jvm.MethodName)) ∈ lw_all := lw_g (lw_at lw_m11 197 rfl) rfl
theorem q2844 : (Jvm.Cond.static ({ cls := "java/util/Arrays", name := "copyOf", desc := "([JI)[J" } : Jvm.MethodName)) ∈ lw_all := lw_g (lw_at lw_m11 198 rfl) rfl
theorem q2845 : (Jvm.Cond.code ({ cls := "java/util/Arrays", name := "copyOf", desc := "([JI)[J" } : Jvm.MethodName) prog_58_method_124_code (3 : Nat) (Option.some (Jvm.ClassFile.FieldType.array Jvm.ClassFile.FieldType.long))) ∈ lw_all := lw_g (lw_at lw_m11 199 rfl) rfl
theorem q2851 : (Jvm.Cond.methodLink "TransportPair$Blocks" (42 : Nat) ({ cls := "java/util/Arrays", name := "copyOf", desc := "([II)[I" } : Jvm.MethodName)) ∈ lw_all := lw_g (lw_at lw_m11 205 rfl) rfl
theorem q2852 : (Jvm.Cond.methodLink "TransportPair$Hall" (249 : Nat) ({ cls := "TransportPair$Hall", name := "isReset", desc := "(LTransportPair$Receiving;JI)V" } : Jvm.MethodName)) ∈ lw_all := lw_g (lw_at lw_m11 206 rfl) rfl
theorem q2854 : (Jvm.Cond.instanceMethod ({ cls := "TransportPair$Hall", name := "isReset", desc := "(LTransportPair$Receiving;JI)V" } : Jvm.MethodName)) ∈ lw_all := lw_g (lw_at lw_m11 208 rfl) rfl
theorem q2855 : (Jvm.Cond.code ({ cls := "TransportPair$Hall", name := "isReset", desc := "(LTransportPair$Receiving;JI)V" } : Jvm.MethodName) prog_12_method_27_code (5 : Nat) (Option.none : Option Jvm.ClassFile.FieldType)) ∈ lw_all := lw_g (lw_at lw_m11 209 rfl) rfl
theorem q2856 : (Jvm.Cond.methodLink "TransportPair$Hall" (264 : Nat) ({ cls := "TransportPair$Blocks", name := "clear", desc := "(LTransportPair$Receiving;)V" } : Jvm.MethodName)) ∈ lw_all := lw_g (lw_at lw_m11 210 rfl) rfl
theorem q2857 : (Jvm.Cond.instanceMethod ({ cls := "TransportPair$Blocks", name := "clear", desc := "(LTransportPair$Receiving;)V" } : Jvm.MethodName)) ∈ lw_all := lw_g (lw_at lw_m11 211 rfl) rfl
theorem q2858 : (Jvm.Cond.selects "TransportPair$Blocks" ({ cls := "TransportPair$Blocks", name := "clear", desc := "(LTransportPair$Receiving;)V" } : Jvm.MethodName) ({ cls := "TransportPair$Blocks", name := "clear", desc := "(LTransportPair$Receiving;)V" } : Jvm.MethodName)) ∈ lw_all := lw_g (lw_at lw_m11 212 rfl) rfl
theorem q2859 : (Jvm.Cond.code ({ cls := "TransportPair$Blocks", name := "clear", desc := "(LTransportPair$Receiving;)V" } : Jvm.MethodName) prog_3_method_7_code (2 : Nat) (Option.none : Option Jvm.ClassFile.FieldType)) ∈ lw_all := lw_g (lw_at lw_m11 213 rfl) rfl
theorem q2860 : (Jvm.Cond.methodLink "TransportPair$Side" (449 : Nat) ({ cls := "TransportPair$Space", name := "takes", desc := "(IJZ)Z" } : Jvm.MethodName)) ∈ lw_all := lw_g (lw_at lw_m11 214 rfl) rfl
theorem q2861 : (Jvm.Cond.instanceMethod ({ cls := "TransportPair$Space", name := "takes", desc := "(IJZ)Z" } : Jvm.MethodName)) ∈ lw_all := lw_g (lw_at lw_m11 215 rfl) rfl
theorem q2862 : (Jvm.Cond.selects "TransportPair$Space" ({ cls := "TransportPair$Space", name := "takes", desc := "(IJZ)Z" } : Jvm.MethodName) ({ cls := "TransportPair$Space", name := "takes", desc := "(IJZ)Z" } : Jvm.MethodName)) ∈ lw_all := lw_g (lw_at lw_m11 216 rfl) rfl
theorem q2863 : (Jvm.Cond.code ({ cls := "TransportPair$Space", name := "takes", desc := "(IJZ)Z" } : Jvm.MethodName) prog_26_method_9_code (7 : Nat) (Option.some Jvm.ClassFile.FieldType.boolean)) ∈ lw_all := lw_g (lw_at lw_m11 217 rfl) rfl
theorem q2864 : (Jvm.Cond.methodLink "TransportPair$Space" (89 : Nat) ({ cls := "TransportPair$Ranges", name := "has", desc := "(J)Z" } : Jvm.MethodName)) ∈ lw_all := lw_g (lw_at lw_m11 218 rfl) rfl
theorem q2865 : (Jvm.Cond.methodLink "TransportPair$Space" (106 : Nat) ({ cls := "TransportPair$Ranges", name := "add", desc := "(J)V" } : Jvm.MethodName)) ∈ lw_all := lw_g (lw_at lw_m11 219 rfl) rfl
theorem q2866 : (Jvm.Cond.instanceMethod ({ cls := "TransportPair$Ranges", name := "add", desc := "(J)V" } : Jvm.MethodName)) ∈ lw_all := lw_g (lw_at lw_m11 220 rfl) rfl
theorem q2867 : (Jvm.Cond.selects "TransportPair$Ranges" ({ cls := "TransportPair$Ranges", name := "add", desc := "(J)V" } : Jvm.MethodName) ({ cls := "TransportPair$Ranges", name := "add", desc := "(J)V" } : Jvm.MethodName)) ∈ lw_all := lw_g (lw_at lw_m11 221 rfl) rfl
theorem q2868 : (Jvm.Cond.code ({ cls := "TransportPair$Ranges", name := "add", desc := "(J)V" } : Jvm.MethodName) prog_21_method_7_code (6 : Nat) (Option.none : Option Jvm.ClassFile.FieldType)) ∈ lw_all := lw_g (lw_at lw_m11 222 rfl) rfl
theorem q2869 : (Jvm.Cond.methodLink "TransportPair$Ranges" (30 : Nat) ({ cls := "TransportPair$Ranges", name := "remove", desc := "(I)V" } : Jvm.MethodName)) ∈ lw_all := lw_g (lw_at lw_m11 223 rfl) rfl
theorem q2871 : (Jvm.Cond.instanceMethod ({ cls := "TransportPair$Ranges", name := "remove", desc := "(I)V" } : Jvm.MethodName)) ∈ lw_all := lw_g (lw_at lw_m11 225 rfl) rfl
theorem q2872 : (Jvm.Cond.code ({ cls := "TransportPair$Ranges", name := "remove", desc := "(I)V" } : Jvm.MethodName) prog_21_method_5_code (3 : Nat) (Option.none : Option Jvm.ClassFile.FieldType)) ∈ lw_all := lw_g (lw_at lw_m11 226 rfl) rfl
theorem q2873 : (Jvm.Cond.methodLink "TransportPair$Ranges" (34 : Nat) ({ cls := "TransportPair$Ranges", name := "insert", desc := "(IJ)V" } : Jvm.MethodName)) ∈ lw_all := lw_g (lw_at lw_m11 227 rfl) rfl
theorem q2875 : (Jvm.Cond.instanceMethod ({ cls := "TransportPair$Ranges", name := "insert", desc := "(IJ)V" } : Jvm.MethodName)) ∈ lw_all := lw_g (lw_at lw_m11 229 rfl) rfl
theorem q2876 : (Jvm.Cond.code ({ cls := "TransportPair$Ranges", name := "insert", desc := "(IJ)V" } : Jvm.MethodName) prog_21_method_6_code (5 : Nat) (Option.none : Option Jvm.ClassFile.FieldType)) ∈ lw_all := lw_g (lw_at lw_m11 230 rfl) rfl
theorem q2877 : (Jvm.Cond.methodLink "TransportPairLaw" (178 : Nat) ({ cls := "TransportPairLaw", name := "drop", desc := "(LTransportPair;II[J)I" } : Jvm.MethodName)) ∈ lw_all := lw_g (lw_at lw_m11 231 rfl) rfl
theorem q2878 : (Jvm.Cond.static ({ cls := "TransportPairLaw", name := "drop", desc := "(LTransportPair;II[J)I" } : Jvm.MethodName)) ∈ lw_all := lw_g (lw_at lw_m11 232 rfl) rfl
theorem q2879 : (Jvm.Cond.codeWith ({ cls := "TransportPairLaw", name := "drop", desc := "(LTransportPair;II[J)I" } : Jvm.MethodName) method_19_code (5 : Nat) (Option.some Jvm.ClassFile.FieldType.int) [((0 : Nat), (10 : Nat), (13 : Nat), (19 : Nat)), ((0 : Nat), (10 : Nat), (17 : Nat), (62 : Nat))]) ∈ lw_all := lw_g (lw_at lw_m11 233 rfl) rfl
theorem q2880 : (Jvm.Cond.methodLink "TransportPairLaw" (73 : Nat) ({ cls := "TransportPair", name := "drop", desc := "(II)I" } : Jvm.MethodName)) ∈ lw_all := lw_g (lw_at lw_m11 234 rfl) rfl
theorem q2881 : (Jvm.Cond.instanceMethod ({ cls := "TransportPair", name := "drop", desc := "(II)I" } : Jvm.MethodName)) ∈ lw_all := lw_g (lw_at lw_m11 235 rfl) rfl
theorem q2882 : (Jvm.Cond.selects "TransportPair" ({ cls := "TransportPair", name := "drop", desc := "(II)I" } : Jvm.MethodName) ({ cls := "TransportPair", name := "drop", desc := "(II)I" } : Jvm.MethodName)) ∈ lw_all := lw_g (lw_at lw_m11 236 rfl) rfl
theorem q2883 : (Jvm.Cond.code ({ cls := "TransportPair", name := "drop", desc := "(II)I" } : Jvm.MethodName) prog_1_method_29_code (5 : Nat) (Option.some Jvm.ClassFile.FieldType.int)) ∈ lw_all := lw_g (lw_at lw_m11 237 rfl) rfl
theorem q2884 : (Jvm.Cond.methodLink "TransportPairLaw" (181 : Nat) ({ cls := "TransportPairLaw", name := "twice", desc := "(LTransportPair;II[J)I" } : Jvm.MethodName)) ∈ lw_all := lw_g (lw_at lw_m11 238 rfl) rfl
theorem q2885 : (Jvm.Cond.static ({ cls := "TransportPairLaw", name := "twice", desc := "(LTransportPair;II[J)I" } : Jvm.MethodName)) ∈ lw_all := lw_g (lw_at lw_m11 239 rfl) rfl
theorem q2886 : (Jvm.Cond.codeWith ({ cls := "TransportPairLaw", name := "twice", desc := "(LTransportPair;II[J)I" } : Jvm.MethodName) method_20_code (5 : Nat) (Option.some Jvm.ClassFile.FieldType.int) [((0 : Nat), (10 : Nat), (13 : Nat), (19 : Nat)), ((0 : Nat), (10 : Nat), (17 : Nat), (62 : Nat))]) ∈ lw_all := lw_g (lw_at lw_m12 0 rfl) rfl
theorem q2887 : (Jvm.Cond.methodLink "TransportPairLaw" (76 : Nat) ({ cls := "TransportPair", name := "twice", desc := "(II)I" } : Jvm.MethodName)) ∈ lw_all := lw_g (lw_at lw_m12 1 rfl) rfl
theorem q2888 : (Jvm.Cond.instanceMethod ({ cls := "TransportPair", name := "twice", desc := "(II)I" } : Jvm.MethodName)) ∈ lw_all := lw_g (lw_at lw_m12 2 rfl) rfl
theorem q2889 : (Jvm.Cond.selects "TransportPair" ({ cls := "TransportPair", name := "twice", desc := "(II)I" } : Jvm.MethodName) ({ cls := "TransportPair", name := "twice", desc := "(II)I" } : Jvm.MethodName)) ∈ lw_all := lw_g (lw_at lw_m12 3 rfl) rfl
theorem q2890 : (Jvm.Cond.code ({ cls := "TransportPair", name := "twice", desc := "(II)I" } : Jvm.MethodName) prog_1_method_30_code (4 : Nat) (Option.some Jvm.ClassFile.FieldType.int)) ∈ lw_all := lw_g (lw_at lw_m12 4 rfl) rfl
theorem q2891 : (Jvm.Cond.methodLink "TransportPair" (213 : Nat) ({ cls := "TransportPair$Line", name := "add", desc := "([BII)V" } : Jvm.MethodName)) ∈ lw_all := lw_g (lw_at lw_m12 5 rfl) rfl
theorem q2892 : (Jvm.Cond.instanceMethod ({ cls := "TransportPair$Line", name := "add", desc := "([BII)V" } : Jvm.MethodName)) ∈ lw_all := lw_g (lw_at lw_m12 6 rfl) rfl
theorem q2893 : (Jvm.Cond.selects "TransportPair$Line" ({ cls := "TransportPair$Line", name := "add", desc := "([BII)V" } : Jvm.MethodName) ({ cls := "TransportPair$Line", name := "add", desc := "([BII)V" } : Jvm.MethodName)) ∈ lw_all := lw_g (lw_at lw_m12 7 rfl) rfl
theorem q2894 : (Jvm.Cond.code ({ cls := "TransportPair$Line", name := "add", desc := "([BII)V" } : Jvm.MethodName) prog_17_method_2_code (4 : Nat) (Option.none : Option Jvm.ClassFile.FieldType)) ∈ lw_all := lw_g (lw_at lw_m12 8 rfl) rfl
theorem q2895 : (Jvm.Cond.methodLink "TransportPair$Line" (33 : Nat) ({ cls := "java/lang/System", name := "arraycopy", desc := "(Ljava/lang/Object;ILjava/lang/Object;II)V" } : Jvm.MethodName)) ∈ lw_all := lw_g (lw_at lw_m12 9 rfl) rfl
theorem q2896 : (Jvm.Cond.methodLink "TransportPairLaw" (184 : Nat) ({ cls := "TransportPairLaw", name := "alter", desc := "(LTransportPair;IIII[J)I" } : Jvm.MethodName)) ∈ lw_all := lw_g (lw_at lw_m12 10 rfl) rfl
theorem q2897 : (Jvm.Cond.static ({ cls := "TransportPairLaw", name := "alter", desc := "(LTransportPair;IIII[J)I" } : Jvm.MethodName)) ∈ lw_all := lw_g (lw_at lw_m12 11 rfl) rfl
theorem q2898 : (Jvm.Cond.codeWith ({ cls := "TransportPairLaw", name := "alter", desc := "(LTransportPair;IIII[J)I" } : Jvm.MethodName) method_21_code (7 : Nat) (Option.some Jvm.ClassFile.FieldType.int) [((0 : Nat), (14 : Nat), (17 : Nat), (19 : Nat)), ((0 : Nat), (14 : Nat), (21 : Nat), (62 : Nat))]) ∈ lw_all := lw_g (lw_at lw_m12 12 rfl) rfl
theorem q2899 : (Jvm.Cond.methodLink "TransportPairLaw" (79 : Nat) ({ cls := "TransportPair", name := "alter", desc := "(IIII)I" } : Jvm.MethodName)) ∈ lw_all := lw_g (lw_at lw_m12 13 rfl) rfl
theorem q2900 : (Jvm.Cond.instanceMethod ({ cls := "TransportPair", name := "alter", desc := "(IIII)I" } : Jvm.MethodName)) ∈ lw_all := lw_g (lw_at lw_m12 14 rfl) rfl
theorem q2901 : (Jvm.Cond.selects "TransportPair" ({ cls := "TransportPair", name := "alter", desc := "(IIII)I" } : Jvm.MethodName) ({ cls := "TransportPair", name := "alter", desc := "(IIII)I" } : Jvm.MethodName)) ∈ lw_all := lw_g (lw_at lw_m12 15 rfl) rfl
theorem q2902 : (Jvm.Cond.code ({ cls := "TransportPair", name := "alter", desc := "(IIII)I" } : Jvm.MethodName) prog_1_method_31_code (6 : Nat) (Option.some Jvm.ClassFile.FieldType.int)) ∈ lw_all := lw_g (lw_at lw_m12 16 rfl) rfl
theorem q2903 : (Jvm.Cond.methodLink "TransportPairLaw" (188 : Nat) ({ cls := "TransportPairLaw", name := "flow", desc := "(LTransportPair;I)I" } : Jvm.MethodName)) ∈ lw_all := lw_g (lw_at lw_m12 17 rfl) rfl
theorem q2904 : (Jvm.Cond.static ({ cls := "TransportPairLaw", name := "flow", desc := "(LTransportPair;I)I" } : Jvm.MethodName)) ∈ lw_all := lw_g (lw_at lw_m12 18 rfl) rfl
theorem q2905 : (Jvm.Cond.codeWith ({ cls := "TransportPairLaw", name := "flow", desc := "(LTransportPair;I)I" } : Jvm.MethodName) method_22_code (3 : Nat) (Option.some Jvm.ClassFile.FieldType.int) [((0 : Nat), (5 : Nat), (8 : Nat), (19 : Nat))]) ∈ lw_all := lw_g (lw_at lw_m12 19 rfl) rfl
theorem q2906 : (Jvm.Cond.methodLink "TransportPairLaw" (83 : Nat) ({ cls := "TransportPair", name := "flow", desc := "(I)V" } : Jvm.MethodName)) ∈ lw_all := lw_g (lw_at lw_m12 20 rfl) rfl
theorem q2907 : (Jvm.Cond.instanceMethod ({ cls := "TransportPair", name := "flow", desc := "(I)V" } : Jvm.MethodName)) ∈ lw_all := lw_g (lw_at lw_m12 21 rfl) rfl
theorem q2908 : (Jvm.Cond.selects "TransportPair" ({ cls := "TransportPair", name := "flow", desc := "(I)V" } : Jvm.MethodName) ({ cls := "TransportPair", name := "flow", desc := "(I)V" } : Jvm.MethodName)) ∈ lw_all := lw_g (lw_at lw_m12 22 rfl) rfl
theorem q2909 : (Jvm.Cond.code ({ cls := "TransportPair", name := "flow", desc := "(I)V" } : Jvm.MethodName) prog_1_method_32_code (2 : Nat) (Option.none : Option Jvm.ClassFile.FieldType)) ∈ lw_all := lw_g (lw_at lw_m12 23 rfl) rfl
theorem q2910 : (Jvm.Cond.methodLink "TransportPairLaw" (191 : Nat) ({ cls := "TransportPairLaw", name := "tick", desc := "(LTransportPair;I[J)I" } : Jvm.MethodName)) ∈ lw_all := lw_g (lw_at lw_m12 24 rfl) rfl
theorem q2911 : (Jvm.Cond.static ({ cls := "TransportPairLaw", name := "tick", desc := "(LTransportPair;I[J)I" } : Jvm.MethodName)) ∈ lw_all := lw_g (lw_at lw_m12 25 rfl) rfl
theorem q2912 : (Jvm.Cond.codeWith ({ cls := "TransportPairLaw", name := "tick", desc := "(LTransportPair;I[J)I" } : Jvm.MethodName) method_23_code (4 : Nat) (Option.some Jvm.ClassFile.FieldType.int) [((0 : Nat), (9 : Nat), (12 : Nat), (19 : Nat)), ((0 : Nat), (9 : Nat), (15 : Nat), (13 : Nat))]) ∈ lw_all := lw_g (lw_at lw_m12 26 rfl) rfl
theorem q2913 : (Jvm.Cond.methodLink "TransportPairLaw" (86 : Nat) ({ cls := "TransportPair", name := "tick", desc := "(I)I" } : Jvm.MethodName)) ∈ lw_all := lw_g (lw_at lw_m12 27 rfl) rfl
theorem q2914 : (Jvm.Cond.instanceMethod ({ cls := "TransportPair", name := "tick", desc := "(I)I" } : Jvm.MethodName)) ∈ lw_all := lw_g (lw_at lw_m12 28 rfl) rfl
theorem q2915 : (Jvm.Cond.selects "TransportPair" ({ cls := "TransportPair", name := "tick", desc := "(I)I" } : Jvm.MethodName) ({ cls := "TransportPair", name := "tick", desc := "(I)I" } : Jvm.MethodName)) ∈ lw_all := lw_g (lw_at lw_m12 29 rfl) rfl
theorem q2916 : (Jvm.Cond.code ({ cls := "TransportPair", name := "tick", desc := "(I)I" } : Jvm.MethodName) prog_1_method_33_code (3 : Nat) (Option.some Jvm.ClassFile.FieldType.int)) ∈ lw_all := lw_g (lw_at lw_m12 30 rfl) rfl
theorem q2917 : (Jvm.Cond.constant "TransportPair" (223 : Nat) (200000 : Int32)) ∈ lw_all := lw_g (lw_at lw_m12 31 rfl) rfl
theorem q2918 : (Jvm.Cond.methodLink "TransportPair" (224 : Nat) ({ cls := "TransportPair", name := "tick", desc := "()V" } : Jvm.MethodName)) ∈ lw_all := lw_g (lw_at lw_m12 32 rfl) rfl
theorem q2920 : (Jvm.Cond.instanceMethod ({ cls := "TransportPair", name := "tick", desc := "()V" } : Jvm.MethodName)) ∈ lw_all := lw_g (lw_at lw_m12 34 rfl) rfl
theorem q2921 : (Jvm.Cond.code ({ cls := "TransportPair", name := "tick", desc := "()V" } : Jvm.MethodName) prog_1_method_34_code (3 : Nat) (Option.none : Option Jvm.ClassFile.FieldType)) ∈ lw_all := lw_g (lw_at lw_m12 35 rfl) rfl
theorem q2922 : (Jvm.Cond.methodLink "TransportPair" (227 : Nat) ({ cls := "TransportPair$Side", name := "tick", desc := "(LTransportPair$Line;)V" } : Jvm.MethodName)) ∈ lw_all := lw_g (lw_at lw_m12 36 rfl) rfl
theorem q2923 : (Jvm.Cond.instanceMethod ({ cls := "TransportPair$Side", name := "tick", desc := "(LTransportPair$Line;)V" } : Jvm.MethodName)) ∈ lw_all := lw_g (lw_at lw_m12 37 rfl) rfl
theorem q2924 : (Jvm.Cond.selects "TransportPair$Side" ({ cls := "TransportPair$Side", name := "tick", desc := "(LTransportPair$Line;)V" } : Jvm.MethodName) ({ cls := "TransportPair$Side", name := "tick", desc := "(LTransportPair$Line;)V" } : Jvm.MethodName)) ∈ lw_all := lw_g (lw_at lw_m12 38 rfl) rfl
theorem q2925 : (Jvm.Cond.code ({ cls := "TransportPair$Side", name := "tick", desc := "(LTransportPair$Line;)V" } : Jvm.MethodName) prog_25_method_32_code (4 : Nat) (Option.none : Option Jvm.ClassFile.FieldType)) ∈ lw_all := lw_g (lw_at lw_m12 39 rfl) rfl
theorem q2926 : (Jvm.Cond.methodLink "TransportPair$Side" (570 : Nat) ({ cls := "TransportPair$Book", name := "tick", desc := "()I" } : Jvm.MethodName)) ∈ lw_all := lw_g (lw_at lw_m12 40 rfl) rfl
theorem q2927 : (Jvm.Cond.instanceMethod ({ cls := "TransportPair$Book", name := "tick", desc := "()I" } : Jvm.MethodName)) ∈ lw_all := lw_g (lw_at lw_m12 41 rfl) rfl
theorem q2928 : (Jvm.Cond.selects "TransportPair$Book" ({ cls := "TransportPair$Book", name := "tick", desc := "()I" } : Jvm.MethodName) ({ cls := "TransportPair$Book", name := "tick", desc := "()I" } : Jvm.MethodName)) ∈ lw_all := lw_g (lw_at lw_m12 42 rfl) rfl
theorem q2929 : (Jvm.Cond.code ({ cls := "TransportPair$Book", name := "tick", desc := "()I" } : Jvm.MethodName) prog_4_method_13_code (2 : Nat) (Option.some Jvm.ClassFile.FieldType.int)) ∈ lw_all := lw_g (lw_at lw_m12 43 rfl) rfl
theorem q2930 : (Jvm.Cond.methodLink "TransportPair$Book" (178 : Nat) ({ cls := "TransportPair$Book", name := "earliest", desc := "(Z)I" } : Jvm.MethodName)) ∈ lw_all := lw_g (lw_at lw_m12 44 rfl) rfl
theorem q2932 : (Jvm.Cond.instanceMethod ({ cls := "TransportPair$Book", name := "earliest", desc := "(Z)I" } : Jvm.MethodName)) ∈ lw_all := lw_g (lw_at lw_m12 46 rfl) rfl
theorem q2933 : (Jvm.Cond.code ({ cls := "TransportPair$Book", name := "earliest", desc := "(Z)I" } : Jvm.MethodName) prog_4_method_12_code (6 : Nat) (Option.some Jvm.ClassFile.FieldType.int)) ∈ lw_all := lw_g (lw_at lw_m12 47 rfl) rfl
theorem q2934 : (Jvm.Cond.methodLink "TransportPair$Book" (175 : Nat) ({ cls := "TransportPair$Book", name := "probeTime", desc := "(I)I" } : Jvm.MethodName)) ∈ lw_all := lw_g (lw_at lw_m12 48 rfl) rfl
theorem q2935 : (Jvm.Cond.instanceMethod ({ cls := "TransportPair$Book", name := "probeTime", desc := "(I)I" } : Jvm.MethodName)) ∈ lw_all := lw_g (lw_at lw_m12 49 rfl) rfl
theorem q2936 : (Jvm.Cond.selects "TransportPair$Book" ({ cls := "TransportPair$Book", name := "probeTime", desc := "(I)I" } : Jvm.MethodName) ({ cls := "TransportPair$Book", name := "probeTime", desc := "(I)I" } : Jvm.MethodName)) ∈ lw_all := lw_g (lw_at lw_m12 50 rfl) rfl
theorem q2937 : (Jvm.Cond.code ({ cls := "TransportPair$Book", name := "probeTime", desc := "(I)I" } : Jvm.MethodName) prog_4_method_11_code (4 : Nat) (Option.some Jvm.ClassFile.FieldType.int)) ∈ lw_all := lw_g (lw_at lw_m12 51 rfl) rfl
theorem q2938 : (Jvm.Cond.methodLink "TransportPair$Book" (160 : Nat) ({ cls := "TransportPair$Book", name := "patience", desc := "(I)I" } : Jvm.MethodName)) ∈ lw_all := lw_g (lw_at lw_m12 52 rfl) rfl
theorem q2939 : (Jvm.Cond.instanceMethod ({ cls := "TransportPair$Book", name := "patience", desc := "(I)I" } : Jvm.MethodName)) ∈ lw_all := lw_g (lw_at lw_m12 53 rfl) rfl
theorem q2940 : (Jvm.Cond.selects "TransportPair$Book" ({ cls := "TransportPair$Book", name := "patience", desc := "(I)I" } : Jvm.MethodName) ({ cls := "TransportPair$Book", name := "patience", desc := "(I)I" } : Jvm.MethodName)) ∈ lw_all := lw_g (lw_at lw_m12 54 rfl) rfl
theorem q2941 : (Jvm.Cond.code ({ cls := "TransportPair$Book", name := "patience", desc := "(I)I" } : Jvm.MethodName) prog_4_method_8_code (2 : Nat) (Option.some Jvm.ClassFile.FieldType.int)) ∈ lw_all := lw_g (lw_at lw_m12 55 rfl) rfl
theorem q2942 : (Jvm.Cond.methodLink "TransportPair$Book" (168 : Nat) ({ cls := "TransportPair$Book", name := "firstSpace", desc := "()I" } : Jvm.MethodName)) ∈ lw_all := lw_g (lw_at lw_m12 56 rfl) rfl
theorem q2944 : (Jvm.Cond.instanceMethod ({ cls := "TransportPair$Book", name := "firstSpace", desc := "()I" } : Jvm.MethodName)) ∈ lw_all := lw_g (lw_at lw_m12 58 rfl) rfl
theorem q2945 : (Jvm.Cond.code ({ cls := "TransportPair$Book", name := "firstSpace", desc := "()I" } : Jvm.MethodName) prog_4_method_10_code (2 : Nat) (Option.some Jvm.ClassFile.FieldType.int)) ∈ lw_all := lw_g (lw_at lw_m12 59 rfl) rfl
theorem q2946 : (Jvm.Cond.methodLink "TransportPair$Book" (171 : Nat) ({ cls := "TransportPair$Book", name := "isQuiet", desc := "()Z" } : Jvm.MethodName)) ∈ lw_all := lw_g (lw_at lw_m12 60 rfl) rfl
theorem q2948 : (Jvm.Cond.instanceMethod ({ cls := "TransportPair$Book", name := "isQuiet", desc := "()Z" } : Jvm.MethodName)) ∈ lw_all := lw_g (lw_at lw_m12 62 rfl) rfl
theorem q2949 : (Jvm.Cond.code ({ cls := "TransportPair$Book", name := "isQuiet", desc := "()Z" } : Jvm.MethodName) prog_4_method_9_code (6 : Nat) (Option.some Jvm.ClassFile.FieldType.boolean)) ∈ lw_all := lw_g (lw_at lw_m12 63 rfl) rfl
theorem q2950 : (Jvm.Cond.methodLink "TransportPair$Side" (573 : Nat) ({ cls := "TransportPair$Side", name := "end", desc := "(I)V" } : Jvm.MethodName)) ∈ lw_all := lw_g (lw_at lw_m12 64 rfl) rfl
theorem q2952 : (Jvm.Cond.instanceMethod ({ cls := "TransportPair$Side", name := "end", desc := "(I)V" } : Jvm.MethodName)) ∈ lw_all := lw_g (lw_at lw_m12 66 rfl) rfl
theorem q2953 : (Jvm.Cond.code ({ cls := "TransportPair$Side", name := "end", desc := "(I)V" } : Jvm.MethodName) prog_25_method_18_code (2 : Nat) (Option.none : Option Jvm.ClassFile.FieldType)) ∈ lw_all := lw_g (lw_at lw_m12 67 rfl) rfl
theorem q2954 : (Jvm.Cond.methodLink "TransportPair$Side" (575 : Nat) ({ cls := "TransportPair$Side", name := "probe", desc := "(I)V" } : Jvm.MethodName)) ∈ lw_all := lw_g (lw_at lw_m12 68 rfl) rfl
theorem q2956 : (Jvm.Cond.instanceMethod ({ cls := "TransportPair$Side", name := "probe", desc := "(I)V" } : Jvm.MethodName)) ∈ lw_all := lw_g (lw_at lw_m12 70 rfl) rfl
theorem q2957 : (Jvm.Cond.code ({ cls := "TransportPair$Side", name := "probe", desc := "(I)V" } : Jvm.MethodName) prog_25_method_33_code (4 : Nat) (Option.none : Option Jvm.ClassFile.FieldType)) ∈ lw_all := lw_g (lw_at lw_m12 71 rfl) rfl
theorem q2958 : (Jvm.Cond.methodLink "TransportPair$Side" (592 : Nat) ({ cls := "TransportPair$Space", name := "state", desc := "(I)I" } : Jvm.MethodName)) ∈ lw_all := lw_g (lw_at lw_m12 72 rfl) rfl
theorem q2959 : (Jvm.Cond.methodLink "TransportPair$Side" (594 : Nat) ({ cls := "TransportPair$Space", name := "is", desc := "(II)Z" } : Jvm.MethodName)) ∈ lw_all := lw_g (lw_at lw_m12 73 rfl) rfl
theorem q2960 : (Jvm.Cond.methodLink "TransportPair$Side" (578 : Nat) ({ cls := "TransportPair$Side", name := "quietLimit", desc := "()I" } : Jvm.MethodName)) ∈ lw_all := lw_g (lw_at lw_m12 74 rfl) rfl
theorem q2962 : (Jvm.Cond.instanceMethod ({ cls := "TransportPair$Side", name := "quietLimit", desc := "()I" } : Jvm.MethodName)) ∈ lw_all := lw_g (lw_at lw_m12 76 rfl) rfl
theorem q2963 : (Jvm.Cond.code ({ cls := "TransportPair$Side", name := "quietLimit", desc := "()I" } : Jvm.MethodName) prog_25_method_19_code (7 : Nat) (Option.some Jvm.ClassFile.FieldType.int)) ∈ lw_all := lw_g (lw_at lw_m12 77 rfl) rfl
theorem q2964 : (Jvm.Cond.constantLong "TransportPair$Side" (337 : Nat) (1000000 : Int64)) ∈ lw_all := lw_g (lw_at lw_m12 78 rfl) rfl
theorem q2965 : (Jvm.Cond.methodLink "TransportPair$Side" (339 : Nat) ({ cls := "java/lang/Math", name := "max", desc := "(JJ)J" } : Jvm.MethodName)) ∈ lw_all := lw_g (lw_at lw_m12 79 rfl) rfl
theorem q2966 : (Jvm.Cond.constant "TransportPair$Side" (581 : Nat) (40000 : Int32)) ∈ lw_all := lw_g (lw_at lw_m12 80 rfl) rfl
theorem q2967 : (Jvm.Cond.methodLink "TransportPair$Side" (582 : Nat) ({ cls := "TransportPair$Side", name := "sends", desc := "(LTransportPair$Line;)V" } : Jvm.MethodName)) ∈ lw_all := lw_g (lw_at lw_m12 81 rfl) rfl
theorem q2969 : (Jvm.Cond.instanceMethod ({ cls := "TransportPair$Side", name := "sends", desc := "(LTransportPair$Line;)V" } : Jvm.MethodName)) ∈ lw_all := lw_g (lw_at lw_m12 83 rfl) rfl
theorem q2970 : (Jvm.Cond.code ({ cls := "TransportPair$Side", name := "sends", desc := "(LTransportPair$Line;)V" } : Jvm.MethodName) prog_25_method_34_code (4 : Nat) (Option.none : Option Jvm.ClassFile.FieldType)) ∈ lw_all := lw_g (lw_at lw_m12 84 rfl) rfl
theorem q2971 : (Jvm.Cond.methodLink "TransportPair$Side" (597 : Nat) ({ cls := "TransportPair$Side", name := "datagram", desc := "(LTransportPair$Line;Z)Z" } : Jvm.MethodName)) ∈ lw_all := lw_g (lw_at lw_m12 85 rfl) rfl
theorem q2973 : (Jvm.Cond.instanceMethod ({ cls := "TransportPair$Side", name := "datagram", desc := "(LTransportPair$Line;Z)Z" } : Jvm.MethodName)) ∈ lw_all := lw_g (lw_at lw_m12 87 rfl) rfl
theorem q2974 : (Jvm.Cond.code ({ cls := "TransportPair$Side", name := "datagram", desc := "(LTransportPair$Line;Z)Z" } : Jvm.MethodName) prog_25_method_36_code (9 : Nat) (Option.some Jvm.ClassFile.FieldType.boolean)) ∈ lw_all := lw_g (lw_at lw_m12 88 rfl) rfl
theorem q2975 : (Jvm.Cond.methodLink "TransportPair$Side" (601 : Nat) ({ cls := "TransportPair$Side", name := "isWorn", desc := "()Z" } : Jvm.MethodName)) ∈ lw_all := lw_g (lw_at lw_m12 89 rfl) rfl
theorem q2977 : (Jvm.Cond.instanceMethod ({ cls := "TransportPair$Side", name := "isWorn", desc := "()Z" } : Jvm.MethodName)) ∈ lw_all := lw_g (lw_at lw_m12 91 rfl) rfl
theorem q2978 : (Jvm.Cond.code ({ cls := "TransportPair$Side", name := "isWorn", desc := "()Z" } : Jvm.MethodName) prog_25_method_37_code (3 : Nat) (Option.some Jvm.ClassFile.FieldType.boolean)) ∈ lw_all := lw_g (lw_at lw_m12 92 rfl) rfl
theorem q2979 : (Jvm.Cond.constant "TransportPair$Side" (604 : Nat) (50000 : Int32)) ∈ lw_all := lw_g (lw_at lw_m12 93 rfl) rfl
theorem q2980 : (Jvm.Cond.methodLink "TransportPair$Side" (608 : Nat) ({ cls := "TransportPair$Side", name := "headSize", desc := "(I)I" } : Jvm.MethodName)) ∈ lw_all := lw_g (lw_at lw_m12 94 rfl) rfl
theorem q2981 : (Jvm.Cond.static ({ cls := "TransportPair$Side", name := "headSize", desc := "(I)I" } : Jvm.MethodName)) ∈ lw_all := lw_g (lw_at lw_m12 95 rfl) rfl
theorem q2982 : (Jvm.Cond.code ({ cls := "TransportPair$Side", name := "headSize", desc := "(I)I" } : Jvm.MethodName) prog_25_method_35_code (1 : Nat) (Option.some Jvm.ClassFile.FieldType.int)) ∈ lw_all := lw_g (lw_at lw_m12 96 rfl) rfl
theorem q2983 : (Jvm.Cond.methodLink "TransportPair$Side" (611 : Nat) ({ cls := "TransportPair$Side", name := "draft", desc := "(IIZ)V" } : Jvm.MethodName)) ∈ lw_all := lw_g (lw_at lw_m12 97 rfl) rfl
theorem q2985 : (Jvm.Cond.instanceMethod ({ cls := "TransportPair$Side", name := "draft", desc := "(IIZ)V" } : Jvm.MethodName)) ∈ lw_all := lw_g (lw_at lw_m12 99 rfl) rfl
theorem q2986 : (Jvm.Cond.code ({ cls := "TransportPair$Side", name := "draft", desc := "(IIZ)V" } : Jvm.MethodName) prog_25_method_40_code (8 : Nat) (Option.none : Option Jvm.ClassFile.FieldType)) ∈ lw_all := lw_g (lw_at lw_m12 100 rfl) rfl
theorem q2987 : (Jvm.Cond.methodLink "TransportPair$Side" (637 : Nat) ({ cls := "TransportPair$Side", name := "closes", desc := "(I)V" } : Jvm.MethodName)) ∈ lw_all := lw_g (lw_at lw_m12 101 rfl) rfl
theorem q2989 : (Jvm.Cond.instanceMethod ({ cls := "TransportPair$Side", name := "closes", desc := "(I)V" } : Jvm.MethodName)) ∈ lw_all := lw_g (lw_at lw_m12 103 rfl) rfl
theorem q2990 : (Jvm.Cond.code ({ cls := "TransportPair$Side", name := "closes", desc := "(I)V" } : Jvm.MethodName) prog_25_method_41_code (3 : Nat) (Option.none : Option Jvm.ClassFile.FieldType)) ∈ lw_all := lw_g (lw_at lw_m12 104 rfl) rfl
theorem q2991 : (Jvm.Cond.methodLink "TransportPair$Side" (677 : Nat) ({ cls := "TransportPair$Frame", name := "clear", desc := "()V" } : Jvm.MethodName)) ∈ lw_all := lw_g (lw_at lw_m12 105 rfl) rfl
theorem q2992 : (Jvm.Cond.constantLong "TransportPair$Side" (680 : Nat) (12 : Int64)) ∈ lw_all := lw_g (lw_at lw_m12 106 rfl) rfl
theorem q2993 : (Jvm.Cond.methodLink "TransportPair$Side" (682 : Nat) ({ cls := "TransportPair$Frame", name := "write", desc := "(LTransportPair$Bytes;)V" } : Jvm.MethodName)) ∈ lw_all := lw_g (lw_at lw_m12 107 rfl) rfl
theorem q2994 : (Jvm.Cond.instanceMethod ({ cls := "TransportPair$Frame", name := "write", desc := "(LTransportPair$Bytes;)V" } : Jvm.MethodName)) ∈ lw_all := lw_g (lw_at lw_m12 108 rfl) rfl
theorem q2995 : (Jvm.Cond.selects "TransportPair$Frame" ({ cls := "TransportPair$Frame", name := "write", desc := "(LTransportPair$Bytes;)V" } : Jvm.MethodName) ({ cls := "TransportPair$Frame", name := "write", desc := "(LTransportPair$Bytes;)V" } : Jvm.MethodName)) ∈ lw_all := lw_g (lw_at lw_m12 109 rfl) rfl
theorem q2996 : (Jvm.Cond.code ({ cls := "TransportPair$Frame", name := "write", desc := "(LTransportPair$Bytes;)V" } : Jvm.MethodName) prog_9_method_19_code (3 : Nat) (Option.none : Option Jvm.ClassFile.FieldType)) ∈ lw_all := lw_g (lw_at lw_m12 110 rfl) rfl
theorem q2997 : (Jvm.Cond.methodLink "TransportPair$Frame" (152 : Nat) ({ cls := "TransportPair$Bytes", name := "put", desc := "(I)V" } : Jvm.MethodName)) ∈ lw_all := lw_g (lw_at lw_m12 111 rfl) rfl
theorem q2998 : (Jvm.Cond.instanceMethod ({ cls := "TransportPair$Bytes", name := "put", desc := "(I)V" } : Jvm.MethodName)) ∈ lw_all := lw_g (lw_at lw_m12 112 rfl) rfl
theorem q2999 : (Jvm.Cond.selects "TransportPair$Bytes" ({ cls := "TransportPair$Bytes", name := "put", desc := "(I)V" } : Jvm.MethodName) ({ cls := "TransportPair$Bytes", name := "put", desc := "(I)V" } : Jvm.MethodName)) ∈ lw_all := lw_g (lw_at lw_m12 113 rfl) rfl
theorem q3000 : (Jvm.Cond.code ({ cls := "TransportPair$Bytes", name := "put", desc := "(I)V" } : Jvm.MethodName) prog_5_method_9_code (2 : Nat) (Option.none : Option Jvm.ClassFile.FieldType)) ∈ lw_all := lw_g (lw_at lw_m12 114 rfl) rfl
theorem q3001 : (Jvm.Cond.methodLink "TransportPair$Frame" (156 : Nat) ({ cls := "TransportPair$Frame", name := "writeRanges", desc := "(LTransportPair$Bytes;)V" } : Jvm.MethodName)) ∈ lw_all := lw_g (lw_at lw_m12 115 rfl) rfl
theorem q3003 : (Jvm.Cond.instanceMethod ({ cls := "TransportPair$Frame", name := "writeRanges", desc := "(LTransportPair$Bytes;)V" } : Jvm.MethodName)) ∈ lw_all := lw_g (lw_at lw_m12 117 rfl) rfl
theorem q3004 : (Jvm.Cond.code ({ cls := "TransportPair$Frame", name := "writeRanges", desc := "(LTransportPair$Bytes;)V" } : Jvm.MethodName) prog_9_method_20_code (3 : Nat) (Option.none : Option Jvm.ClassFile.FieldType)) ∈ lw_all := lw_g (lw_at lw_m12 118 rfl) rfl
theorem q3005 : (Jvm.Cond.methodLink "TransportPair$Frame" (163 : Nat) ({ cls := "TransportPair$Bytes", name := "putNumber", desc := "(J)V" } : Jvm.MethodName)) ∈ lw_all := lw_g (lw_at lw_m12 119 rfl) rfl
theorem q3006 : (Jvm.Cond.methodLink "TransportPair$Frame" (159 : Nat) ({ cls := "TransportPair$Bytes", name := "putMany", desc := "(JI)V" } : Jvm.MethodName)) ∈ lw_all := lw_g (lw_at lw_m12 120 rfl) rfl
theorem q3007 : (Jvm.Cond.methodLink "TransportPair$Frame" (167 : Nat) ({ cls := "TransportPair$Bytes", name := "putRow", desc := "([BII)V" } : Jvm.MethodName)) ∈ lw_all := lw_g (lw_at lw_m12 121 rfl) rfl
theorem q3008 : (Jvm.Cond.methodLink "TransportPair$Side" (643 : Nat) ({ cls := "TransportPair$Book", name := "due", desc := "(I)Z" } : Jvm.MethodName)) ∈ lw_all := lw_g (lw_at lw_m12 122 rfl) rfl
theorem q3009 : (Jvm.Cond.instanceMethod ({ cls := "TransportPair$Book", name := "due", desc := "(I)Z" } : Jvm.MethodName)) ∈ lw_all := lw_g (lw_at lw_m12 123 rfl) rfl
theorem q3010 : (Jvm.Cond.selects "TransportPair$Book" ({ cls := "TransportPair$Book", name := "due", desc := "(I)Z" } : Jvm.MethodName) ({ cls := "TransportPair$Book", name := "due", desc := "(I)Z" } : Jvm.MethodName)) ∈ lw_all := lw_g (lw_at lw_m12 124 rfl) rfl
theorem q3011 : (Jvm.Cond.code ({ cls := "TransportPair$Book", name := "due", desc := "(I)Z" } : Jvm.MethodName) prog_4_method_15_code (3 : Nat) (Option.some Jvm.ClassFile.FieldType.boolean)) ∈ lw_all := lw_g (lw_at lw_m12 125 rfl) rfl
theorem q3012 : (Jvm.Cond.methodLink "TransportPair$Side" (649 : Nat) ({ cls := "TransportPair$Side", name := "acknowledges", desc := "(I)V" } : Jvm.MethodName)) ∈ lw_all := lw_g (lw_at lw_m12 126 rfl) rfl
theorem q3014 : (Jvm.Cond.instanceMethod ({ cls := "TransportPair$Side", name := "acknowledges", desc := "(I)V" } : Jvm.MethodName)) ∈ lw_all := lw_g (lw_at lw_m12 128 rfl) rfl
theorem q3015 : (Jvm.Cond.code ({ cls := "TransportPair$Side", name := "acknowledges", desc := "(I)V" } : Jvm.MethodName) prog_25_method_42_code (6 : Nat) (Option.none : Option Jvm.ClassFile.FieldType)) ∈ lw_all := lw_g (lw_at lw_m12 129 rfl) rfl
theorem q3016 : (Jvm.Cond.methodLink "TransportPair$Side" (690 : Nat) ({ cls := "TransportPair$Book", name := "delay", desc := "(I)I" } : Jvm.MethodName)) ∈ lw_all := lw_g (lw_at lw_m12 130 rfl) rfl
theorem q3017 : (Jvm.Cond.instanceMethod ({ cls := "TransportPair$Book", name := "delay", desc := "(I)I" } : Jvm.MethodName)) ∈ lw_all := lw_g (lw_at lw_m12 131 rfl) rfl
theorem q3018 : (Jvm.Cond.selects "TransportPair$Book" ({ cls := "TransportPair$Book", name := "delay", desc := "(I)I" } : Jvm.MethodName) ({ cls := "TransportPair$Book", name := "delay", desc := "(I)I" } : Jvm.MethodName)) ∈ lw_all := lw_g (lw_at lw_m12 132 rfl) rfl
theorem q3019 : (Jvm.Cond.code ({ cls := "TransportPair$Book", name := "delay", desc := "(I)I" } : Jvm.MethodName) prog_4_method_16_code (2 : Nat) (Option.some Jvm.ClassFile.FieldType.int)) ∈ lw_all := lw_g (lw_at lw_m12 133 rfl) rfl
theorem q3020 : (Jvm.Cond.methodLink "TransportPair$Side" (694 : Nat) ({ cls := "TransportPair$Frame", name := "span", desc := "(JJ)V" } : Jvm.MethodName)) ∈ lw_all := lw_g (lw_at lw_m12 134 rfl) rfl
theorem q3021 : (Jvm.Cond.methodLink "TransportPair$Side" (662 : Nat) ({ cls := "TransportPair$Side", name := "carries", desc := "(I)V" } : Jvm.MethodName)) ∈ lw_all := lw_g (lw_at lw_m12 135 rfl) rfl
theorem q3023 : (Jvm.Cond.instanceMethod ({ cls := "TransportPair$Side", name := "carries", desc := "(I)V" } : Jvm.MethodName)) ∈ lw_all := lw_g (lw_at lw_m12 137 rfl) rfl
theorem q3024 : (Jvm.Cond.code ({ cls := "TransportPair$Side", name := "carries", desc := "(I)V" } : Jvm.MethodName) prog_25_method_44_code (2 : Nat) (Option.none : Option Jvm.ClassFile.FieldType)) ∈ lw_all := lw_g (lw_at lw_m12 138 rfl) rfl
theorem q3025 : (Jvm.Cond.methodLink "TransportPair$Side" (665 : Nat) ({ cls := "TransportPair$Bytes", name := "left", desc := "()I" } : Jvm.MethodName)) ∈ lw_all := lw_g (lw_at lw_m12 139 rfl) rfl
theorem q3026 : (Jvm.Cond.methodLink "TransportPair$Side" (703 : Nat) ({ cls := "TransportPair$Crypto", name := "fill", desc := "(LTransportPair$Frame;LTransportPair$Row;I)Z" } : Jvm.MethodName)) ∈ lw_all := lw_g (lw_at lw_m12 140 rfl) rfl
theorem q3027 : (Jvm.Cond.instanceMethod ({ cls := "TransportPair$Crypto", name := "fill", desc := "(LTransportPair$Frame;LTransportPair$Row;I)Z" } : Jvm.MethodName)) ∈ lw_all := lw_g (lw_at lw_m12 141 rfl) rfl
theorem q3028 : (Jvm.Cond.selects "TransportPair$Crypto" ({ cls := "TransportPair$Crypto", name := "fill", desc := "(LTransportPair$Frame;LTransportPair$Row;I)Z" } : Jvm.MethodName) ({ cls := "TransportPair$Crypto", name := "fill", desc := "(LTransportPair$Frame;LTransportPair$Row;I)Z" } : Jvm.MethodName)) ∈ lw_all := lw_g (lw_at lw_m12 142 rfl) rfl
theorem q3029 : (Jvm.Cond.code ({ cls := "TransportPair$Crypto", name := "fill", desc := "(LTransportPair$Frame;LTransportPair$Row;I)Z" } : Jvm.MethodName) prog_8_method_3_code (9 : Nat) (Option.some Jvm.ClassFile.FieldType.boolean)) ∈ lw_all := lw_g (lw_at lw_m12 143 rfl) rfl
theorem q3030 : (Jvm.Cond.methodLink "TransportPair$Crypto" (29 : Nat) ({ cls := "TransportPair$Crypto", name := "next", desc := "(I)I" } : Jvm.MethodName)) ∈ lw_all := lw_g (lw_at lw_m12 144 rfl) rfl
theorem q3032 : (Jvm.Cond.instanceMethod ({ cls := "TransportPair$Crypto", name := "next", desc := "(I)I" } : Jvm.MethodName)) ∈ lw_all := lw_g (lw_at lw_m12 146 rfl) rfl
theorem q3033 : (Jvm.Cond.code ({ cls := "TransportPair$Crypto", name := "next", desc := "(I)I" } : Jvm.MethodName) prog_8_method_2_code (3 : Nat) (Option.some Jvm.ClassFile.FieldType.int)) ∈ lw_all := lw_g (lw_at lw_m12 147 rfl) rfl
theorem q3034 : (Jvm.Cond.methodLink "TransportPair$Crypto" (33 : Nat) ({ cls := "TransportPair$Bytes", name := "sizeOf", desc := "(J)I" } : Jvm.MethodName)) ∈ lw_all := lw_g (lw_at lw_m12 148 rfl) rfl
theorem q3035 : (Jvm.Cond.methodLink "TransportPair$Crypto" (39 : Nat) ({ cls := "TransportPair$Frame", name := "clear", desc := "()V" } : Jvm.MethodName)) ∈ lw_all := lw_g (lw_at lw_m12 149 rfl) rfl
theorem q3036 : (Jvm.Cond.methodLink "TransportPair$Crypto" (61 : Nat) ({ cls := "java/lang/Math", name := "max", desc := "(II)I" } : Jvm.MethodName)) ∈ lw_all := lw_g (lw_at lw_m12 150 rfl) rfl
theorem q3037 : (Jvm.Cond.methodLink "TransportPair$Side" (707 : Nat) ({ cls := "TransportPair$Side", name := "put", desc := "(I)V" } : Jvm.MethodName)) ∈ lw_all := lw_g (lw_at lw_m12 151 rfl) rfl
theorem q3039 : (Jvm.Cond.instanceMethod ({ cls := "TransportPair$Side", name := "put", desc := "(I)V" } : Jvm.MethodName)) ∈ lw_all := lw_g (lw_at lw_m12 153 rfl) rfl
theorem q3040 : (Jvm.Cond.code ({ cls := "TransportPair$Side", name := "put", desc := "(I)V" } : Jvm.MethodName) prog_25_method_43_code (2 : Nat) (Option.none : Option Jvm.ClassFile.FieldType)) ∈ lw_all := lw_g (lw_at lw_m12 154 rfl) rfl
theorem q3041 : (Jvm.Cond.methodLink "TransportPair$Side" (698 : Nat) ({ cls := "TransportPair$Cargo", name := "add", desc := "(LTransportPair$Frame;)V" } : Jvm.MethodName)) ∈ lw_all := lw_g (lw_at lw_m12 155 rfl) rfl
theorem q3042 : (Jvm.Cond.instanceMethod ({ cls := "TransportPair$Cargo", name := "add", desc := "(LTransportPair$Frame;)V" } : Jvm.MethodName)) ∈ lw_all := lw_g (lw_at lw_m12 156 rfl) rfl
theorem q3043 : (Jvm.Cond.selects "TransportPair$Cargo" ({ cls := "TransportPair$Cargo", name := "add", desc := "(LTransportPair$Frame;)V" } : Jvm.MethodName) ({ cls := "TransportPair$Cargo", name := "add", desc := "(LTransportPair$Frame;)V" } : Jvm.MethodName)) ∈ lw_all := lw_g (lw_at lw_m12 157 rfl) rfl
theorem q3044 : (Jvm.Cond.code ({ cls := "TransportPair$Cargo", name := "add", desc := "(LTransportPair$Frame;)V" } : Jvm.MethodName) prog_6_method_5_code (2 : Nat) (Option.none : Option Jvm.ClassFile.FieldType)) ∈ lw_all := lw_g (lw_at lw_m12 158 rfl) rfl
theorem q3045 : (Jvm.Cond.methodLink "TransportPair$Cargo" (34 : Nat) ({ cls := "TransportPair$Cargo", name := "twice", desc := "([I)[I" } : Jvm.MethodName)) ∈ lw_all := lw_g (lw_at lw_m12 159 rfl) rfl
theorem q3046 : (Jvm.Cond.static ({ cls := "TransportPair$Cargo", name := "twice", desc := "([I)[I" } : Jvm.MethodName)) ∈ lw_all := lw_g (lw_at lw_m12 160 rfl) rfl
theorem q3047 : (Jvm.Cond.code ({ cls := "TransportPair$Cargo", name := "twice", desc := "([I)[I" } : Jvm.MethodName) prog_6_method_3_code (2 : Nat) (Option.some (Jvm.ClassFile.FieldType.array Jvm.ClassFile.FieldType.int))) ∈ lw_all := lw_g (lw_at lw_m12 161 rfl) rfl
theorem q3048 : (Jvm.Cond.methodLink "TransportPair$Cargo" (41 : Nat) ({ cls := "java/lang/System", name := "arraycopy", desc := "(Ljava/lang/Object;ILjava/lang/Object;II)V" } : Jvm.MethodName)) ∈ lw_all := lw_g (lw_at lw_m12 162 rfl) rfl
theorem q3049 : (Jvm.Cond.methodLink "TransportPair$Cargo" (47 : Nat) ({ cls := "TransportPair$Cargo", name := "twice", desc := "([B)[B" } : Jvm.MethodName)) ∈ lw_all := lw_g (lw_at lw_m12 163 rfl) rfl
theorem q3050 : (Jvm.Cond.static ({ cls := "TransportPair$Cargo", name := "twice", desc := "([B)[B" } : Jvm.MethodName)) ∈ lw_all := lw_g (lw_at lw_m12 164 rfl) rfl
theorem q3051 : (Jvm.Cond.code ({ cls := "TransportPair$Cargo", name := "twice", desc := "([B)[B" } : Jvm.MethodName) prog_6_method_4_code (2 : Nat) (Option.some (Jvm.ClassFile.FieldType.array Jvm.ClassFile.FieldType.byte))) ∈ lw_all := lw_g (lw_at lw_m12 165 rfl) rfl
theorem q3052 : (Jvm.Cond.methodLinkNest "TransportPair$Cargo" (50 : Nat) ({ cls := "TransportPair$Frame", name := "twice", desc := "([J)[J" } : Jvm.MethodName) "TransportPair") ∈ lw_tbl := lw_at lw_m12 166 rfl
theorem q3053 : (Jvm.Cond.methodLink "TransportPair$Side" (708 : Nat) ({ cls := "TransportPair$Hall", name := "fill", desc := "(I)Z" } : Jvm.MethodName)) ∈ lw_all := lw_g (lw_at lw_m12 167 rfl) rfl
theorem q3054 : (Jvm.Cond.instanceMethod ({ cls := "TransportPair$Hall", name := "fill", desc := "(I)Z" } : Jvm.MethodName)) ∈ lw_all := lw_g (lw_at lw_m12 168 rfl) rfl
theorem q3055 : (Jvm.Cond.selects "TransportPair$Hall" ({ cls := "TransportPair$Hall", name := "fill", desc := "(I)Z" } : Jvm.MethodName) ({ cls := "TransportPair$Hall", name := "fill", desc := "(I)Z" } : Jvm.MethodName)) ∈ lw_all := lw_g (lw_at lw_m12 169 rfl) rfl
theorem q3056 : (Jvm.Cond.code ({ cls := "TransportPair$Hall", name := "fill", desc := "(I)Z" } : Jvm.MethodName) prog_12_method_30_code (2 : Nat) (Option.some Jvm.ClassFile.FieldType.boolean)) ∈ lw_all := lw_g (lw_at lw_m12 170 rfl) rfl
theorem q3057 : (Jvm.Cond.methodLink "TransportPair$Hall" (284 : Nat) ({ cls := "TransportPair$Hall", name := "fillsEnds", desc := "(I)Z" } : Jvm.MethodName)) ∈ lw_all := lw_g (lw_at lw_m12 171 rfl) rfl
theorem q3059 : (Jvm.Cond.instanceMethod ({ cls := "TransportPair$Hall", name := "fillsEnds", desc := "(I)Z" } : Jvm.MethodName)) ∈ lw_all := lw_g (lw_at lw_m12 173 rfl) rfl
theorem q3060 : (Jvm.Cond.code ({ cls := "TransportPair$Hall", name := "fillsEnds", desc := "(I)Z" } : Jvm.MethodName) prog_12_method_31_code (4 : Nat) (Option.some Jvm.ClassFile.FieldType.boolean)) ∈ lw_all := lw_g (lw_at lw_m12 174 rfl) rfl
theorem q3061 : (Jvm.Cond.methodLink "TransportPair$Hall" (303 : Nat) ({ cls := "TransportPair$Hall", name := "frame", desc := "(IJJJI)Z" } : Jvm.MethodName)) ∈ lw_all := lw_g (lw_at lw_m12 175 rfl) rfl
theorem q3063 : (Jvm.Cond.instanceMethod ({ cls := "TransportPair$Hall", name := "frame", desc := "(IJJJI)Z" } : Jvm.MethodName)) ∈ lw_all := lw_g (lw_at lw_m12 177 rfl) rfl
theorem q3064 : (Jvm.Cond.code ({ cls := "TransportPair$Hall", name := "frame", desc := "(IJJJI)Z" } : Jvm.MethodName) prog_12_method_28_code (11 : Nat) (Option.some Jvm.ClassFile.FieldType.boolean)) ∈ lw_all := lw_g (lw_at lw_m12 178 rfl) rfl
theorem q3065 : (Jvm.Cond.methodLinkNest "TransportPair$Hall" (267 : Nat) ({ cls := "TransportPair", name := "sizeOf", desc := "(J)I" } : Jvm.MethodName) "TransportPair") ∈ lw_tbl := lw_at lw_m12 179 rfl
theorem q3066 : (Jvm.Cond.static ({ cls := "TransportPair", name := "sizeOf", desc := "(J)I" } : Jvm.MethodName)) ∈ lw_all := lw_g (lw_at lw_m12 180 rfl) rfl
theorem q3067 : (Jvm.Cond.code ({ cls := "TransportPair", name := "sizeOf", desc := "(J)I" } : Jvm.MethodName) prog_1_method_2_code (2 : Nat) (Option.some Jvm.ClassFile.FieldType.int)) ∈ lw_all := lw_g (lw_at lw_m12 181 rfl) rfl
theorem q3068 : (Jvm.Cond.constantLong "TransportPair" (3 : Nat) (16384 : Int64)) ∈ lw_all := lw_g (lw_at lw_m12 182 rfl) rfl
theorem q3069 : (Jvm.Cond.constantLong "TransportPair" (5 : Nat) (1073741824 : Int64)) ∈ lw_all := lw_g (lw_at lw_m12 183 rfl) rfl
theorem q3070 : (Jvm.Cond.methodLink "TransportPair$Hall" (287 : Nat) ({ cls := "TransportPair$Hall", name := "fillsGrants", desc := "(I)Z" } : Jvm.MethodName)) ∈ lw_all := lw_g (lw_at lw_m12 184 rfl) rfl
theorem q3072 : (Jvm.Cond.instanceMethod ({ cls := "TransportPair$Hall", name := "fillsGrants", desc := "(I)Z" } : Jvm.MethodName)) ∈ lw_all := lw_g (lw_at lw_m12 186 rfl) rfl
theorem q3073 : (Jvm.Cond.code ({ cls := "TransportPair$Hall", name := "fillsGrants", desc := "(I)Z" } : Jvm.MethodName) prog_12_method_32_code (4 : Nat) (Option.some Jvm.ClassFile.FieldType.boolean)) ∈ lw_all := lw_g (lw_at lw_m12 187 rfl) rfl
theorem q3074 : (Jvm.Cond.methodLink "TransportPair$Hall" (290 : Nat) ({ cls := "TransportPair$Hall", name := "fillsBlocked", desc := "(I)Z" } : Jvm.MethodName)) ∈ lw_all := lw_g (lw_at lw_m12 188 rfl) rfl
theorem q3076 : (Jvm.Cond.instanceMethod ({ cls := "TransportPair$Hall", name := "fillsBlocked", desc := "(I)Z" } : Jvm.MethodName)) ∈ lw_all := lw_g (lw_at lw_m12 190 rfl) rfl
theorem q3077 : (Jvm.Cond.code ({ cls := "TransportPair$Hall", name := "fillsBlocked", desc := "(I)Z" } : Jvm.MethodName) prog_12_method_34_code (5 : Nat) (Option.some Jvm.ClassFile.FieldType.boolean)) ∈ lw_all := lw_g (lw_at lw_m12 191 rfl) rfl
theorem q3078 : (Jvm.Cond.methodLink "TransportPair$Hall" (313 : Nat) ({ cls := "TransportPair$Hall", name := "waits", desc := "(LTransportPair$Sending;)Z" } : Jvm.MethodName)) ∈ lw_all := lw_g (lw_at lw_m12 192 rfl) rfl
theorem q3079 : (Jvm.Cond.static ({ cls := "TransportPair$Hall", name := "waits", desc := "(LTransportPair$Sending;)Z" } : Jvm.MethodName)) ∈ lw_all := lw_g (lw_at lw_m12 193 rfl) rfl
theorem q3080 : (Jvm.Cond.code ({ cls := "TransportPair$Hall", name := "waits", desc := "(LTransportPair$Sending;)Z" } : Jvm.MethodName) prog_12_method_33_code (1 : Nat) (Option.some Jvm.ClassFile.FieldType.boolean)) ∈ lw_all := lw_g (lw_at lw_m12 194 rfl) rfl
theorem q3081 : (Jvm.Cond.methodLink "TransportPair$Hall" (293 : Nat) ({ cls := "TransportPair$Hall", name := "fillsStream", desc := "(I)Z" } : Jvm.MethodName)) ∈ lw_all := lw_g (lw_at lw_m12 195 rfl) rfl
theorem q3083 : (Jvm.Cond.instanceMethod ({ cls := "TransportPair$Hall", name := "fillsStream", desc := "(I)Z" } : Jvm.MethodName)) ∈ lw_all := lw_g (lw_at lw_m12 197 rfl) rfl
theorem q3084 : (Jvm.Cond.code ({ cls := "TransportPair$Hall", name := "fillsStream", desc := "(I)Z" } : Jvm.MethodName) prog_12_method_35_code (5 : Nat) (Option.some Jvm.ClassFile.FieldType.boolean)) ∈ lw_all := lw_g (lw_at lw_m12 198 rfl) rfl
theorem q3085 : (Jvm.Cond.methodLink "TransportPair$Hall" (321 : Nat) ({ cls := "TransportPair$Hall", name := "fills", desc := "(ILTransportPair$Sending;I)Z" } : Jvm.MethodName)) ∈ lw_all := lw_g (lw_at lw_m12 199 rfl) rfl
theorem q3087 : (Jvm.Cond.instanceMethod ({ cls := "TransportPair$Hall", name := "fills", desc := "(ILTransportPair$Sending;I)Z" } : Jvm.MethodName)) ∈ lw_all := lw_g (lw_at lw_m12 201 rfl) rfl
theorem q3088 : (Jvm.Cond.code ({ cls := "TransportPair$Hall", name := "fills", desc := "(ILTransportPair$Sending;I)Z" } : Jvm.MethodName) prog_12_method_36_code (13 : Nat) (Option.some Jvm.ClassFile.FieldType.boolean)) ∈ lw_all := lw_g (lw_at lw_m12 202 rfl) rfl
theorem q3089 : (Jvm.Cond.methodLink "TransportPair$Hall" (334 : Nat) ({ cls := "TransportPair$Store", name := "copy", desc := "(LTransportPair$Sending;I[BI)V" } : Jvm.MethodName)) ∈ lw_all := lw_g (lw_at lw_m12 203 rfl) rfl
theorem q3090 : (Jvm.Cond.instanceMethod ({ cls := "TransportPair$Store", name := "copy", desc := "(LTransportPair$Sending;I[BI)V" } : Jvm.MethodName)) ∈ lw_all := lw_g (lw_at lw_m12 204 rfl) rfl
theorem q3091 : (Jvm.Cond.selects "TransportPair$Store" ({ cls := "TransportPair$Store", name := "copy", desc := "(LTransportPair$Sending;I[BI)V" } : Jvm.MethodName) ({ cls := "TransportPair$Store", name := "copy", desc := "(LTransportPair$Sending;I[BI)V" } : Jvm.MethodName)) ∈ lw_all := lw_g (lw_at lw_m12 205 rfl) rfl
theorem q3092 : (Jvm.Cond.code ({ cls := "TransportPair$Store", name := "copy", desc := "(LTransportPair$Sending;I[BI)V" } : Jvm.MethodName) prog_28_method_4_code (10 : Nat) (Option.none : Option Jvm.ClassFile.FieldType)) ∈ lw_all := lw_g (lw_at lw_m12 206 rfl) rfl
theorem q3093 : (Jvm.Cond.methodLink "TransportPair$Store" (66 : Nat) ({ cls := "java/lang/Math", name := "max", desc := "(II)I" } : Jvm.MethodName)) ∈ lw_all := lw_g (lw_at lw_m12 207 rfl) rfl
theorem q3094 : (Jvm.Cond.methodLink "TransportPair$Side" (668 : Nat) ({ cls := "TransportPair$Bytes", name := "put", desc := "(I)V" } : Jvm.MethodName)) ∈ lw_all := lw_g (lw_at lw_m12 208 rfl) rfl
theorem q3095 : (Jvm.Cond.methodLink "TransportPair$Side" (670 : Nat) ({ cls := "TransportPair$Book", name := "written", desc := "(I)I" } : Jvm.MethodName)) ∈ lw_all := lw_g (lw_at lw_m12 209 rfl) rfl
theorem q3096 : (Jvm.Cond.instanceMethod ({ cls := "TransportPair$Book", name := "written", desc := "(I)I" } : Jvm.MethodName)) ∈ lw_all := lw_g (lw_at lw_m12 210 rfl) rfl
theorem q3097 : (Jvm.Cond.selects "TransportPair$Book" ({ cls := "TransportPair$Book", name := "written", desc := "(I)I" } : Jvm.MethodName) ({ cls := "TransportPair$Book", name := "written", desc := "(I)I" } : Jvm.MethodName)) ∈ lw_all := lw_g (lw_at lw_m12 211 rfl) rfl
theorem q3098 : (Jvm.Cond.code ({ cls := "TransportPair$Book", name := "written", desc := "(I)I" } : Jvm.MethodName) prog_4_method_17_code (2 : Nat) (Option.some Jvm.ClassFile.FieldType.int)) ∈ lw_all := lw_g (lw_at lw_m12 212 rfl) rfl
theorem q3099 : (Jvm.Cond.methodLink "TransportPair$Book" (207 : Nat) ({ cls := "TransportPair$Book", name := "delay", desc := "(I)I" } : Jvm.MethodName)) ∈ lw_all := lw_g (lw_at lw_m12 213 rfl) rfl
theorem q3100 : (Jvm.Cond.methodLink "TransportPair$Side" (673 : Nat) ({ cls := "TransportPair$Cargo", name := "begin", desc := "()V" } : Jvm.MethodName)) ∈ lw_all := lw_g (lw_at lw_m12 214 rfl) rfl
theorem q3101 : (Jvm.Cond.instanceMethod ({ cls := "TransportPair$Cargo", name := "begin", desc := "()V" } : Jvm.MethodName)) ∈ lw_all := lw_g (lw_at lw_m12 215 rfl) rfl
theorem q3102 : (Jvm.Cond.selects "TransportPair$Cargo" ({ cls := "TransportPair$Cargo", name := "begin", desc := "()V" } : Jvm.MethodName) ({ cls := "TransportPair$Cargo", name := "begin", desc := "()V" } : Jvm.MethodName)) ∈ lw_all := lw_g (lw_at lw_m12 216 rfl) rfl
theorem q3103 : (Jvm.Cond.code ({ cls := "TransportPair$Cargo", name := "begin", desc := "()V" } : Jvm.MethodName) prog_6_method_2_code (1 : Nat) (Option.none : Option Jvm.ClassFile.FieldType)) ∈ lw_all := lw_g (lw_at lw_m12 217 rfl) rfl
theorem q3104 : (Jvm.Cond.methodLink "TransportPair$Side" (614 : Nat) ({ cls := "TransportPair$Side", name := "bytesOf", desc := "(I)I" } : Jvm.MethodName)) ∈ lw_all := lw_g (lw_at lw_m12 218 rfl) rfl
theorem q3106 : (Jvm.Cond.instanceMethod ({ cls := "TransportPair$Side", name := "bytesOf", desc := "(I)I" } : Jvm.MethodName)) ∈ lw_all := lw_g (lw_at lw_m12 220 rfl) rfl
theorem q3107 : (Jvm.Cond.code ({ cls := "TransportPair$Side", name := "bytesOf", desc := "(I)I" } : Jvm.MethodName) prog_25_method_38_code (3 : Nat) (Option.some Jvm.ClassFile.FieldType.int)) ∈ lw_all := lw_g (lw_at lw_m12 221 rfl) rfl
theorem q3108 : (Jvm.Cond.methodLink "TransportPair$Side" (632 : Nat) ({ cls := "TransportPair$Counting", name := "bytesOf", desc := "(JJ)I" } : Jvm.MethodName)) ∈ lw_all := lw_g (lw_at lw_m12 222 rfl) rfl
theorem q3109 : (Jvm.Cond.static ({ cls := "TransportPair$Counting", name := "bytesOf", desc := "(JJ)I" } : Jvm.MethodName)) ∈ lw_all := lw_g (lw_at lw_m12 223 rfl) rfl
theorem q3110 : (Jvm.Cond.code ({ cls := "TransportPair$Counting", name := "bytesOf", desc := "(JJ)I" } : Jvm.MethodName) prog_7_method_2_code (6 : Nat) (Option.some Jvm.ClassFile.FieldType.int)) ∈ lw_all := lw_g (lw_at lw_m12 224 rfl) rfl
theorem q3111 : (Jvm.Cond.constantLong "TransportPair$Counting" (9 : Nat) (128 : Int64)) ∈ lw_all := lw_g (lw_at lw_m12 225 rfl) rfl
theorem q3112 : (Jvm.Cond.constantLong "TransportPair$Counting" (11 : Nat) (32768 : Int64)) ∈ lw_all := lw_g (lw_at lw_m12 226 rfl) rfl
theorem q3113 : (Jvm.Cond.constantLong "TransportPair$Counting" (13 : Nat) (8388608 : Int64)) ∈ lw_all := lw_g (lw_at lw_m12 227 rfl) rfl
theorem q3114 : (Jvm.Cond.constantLong "TransportPair$Counting" (15 : Nat) (2147483648 : Int64)) ∈ lw_all := lw_g (lw_at lw_m12 228 rfl) rfl
theorem q3115 : (Jvm.Cond.methodLink "TransportPair$Side" (635 : Nat) ({ cls := "java/lang/Math", name := "max", desc := "(II)I" } : Jvm.MethodName)) ∈ lw_all := lw_g (lw_at lw_m12 229 rfl) rfl
theorem q3116 : (Jvm.Cond.methodLink "TransportPair$Side" (617 : Nat) ({ cls := "TransportPair$Side", name := "pad", desc := "(II)V" } : Jvm.MethodName)) ∈ lw_all := lw_g (lw_at lw_m12 230 rfl) rfl
theorem q3118 : (Jvm.Cond.instanceMethod ({ cls := "TransportPair$Side", name := "pad", desc := "(II)V" } : Jvm.MethodName)) ∈ lw_all := lw_g (lw_at lw_m12 232 rfl) rfl
theorem q3119 : (Jvm.Cond.code ({ cls := "TransportPair$Side", name := "pad", desc := "(II)V" } : Jvm.MethodName) prog_25_method_39_code (4 : Nat) (Option.none : Option Jvm.ClassFile.FieldType)) ∈ lw_all := lw_g (lw_at lw_m12 233 rfl) rfl
theorem q3120 : (Jvm.Cond.methodLink "TransportPair$Side" (620 : Nat) ({ cls := "TransportPair$Side", name := "seal", desc := "(II)I" } : Jvm.MethodName)) ∈ lw_all := lw_g (lw_at lw_m12 234 rfl) rfl
theorem q3122 : (Jvm.Cond.instanceMethod ({ cls := "TransportPair$Side", name := "seal", desc := "(II)I" } : Jvm.MethodName)) ∈ lw_all := lw_g (lw_at lw_m12 236 rfl) rfl
theorem q3123 : (Jvm.Cond.code ({ cls := "TransportPair$Side", name := "seal", desc := "(II)I" } : Jvm.MethodName) prog_25_method_45_code (7 : Nat) (Option.some Jvm.ClassFile.FieldType.int)) ∈ lw_all := lw_g (lw_at lw_m12 237 rfl) rfl
theorem q3124 : (Jvm.Cond.methodLink "TransportPair$Side" (719 : Nat) ({ cls := "TransportPair$Header", name := "write", desc := "(LTransportPair$Bytes;II[BIIII)V" } : Jvm.MethodName)) ∈ lw_all := lw_g (lw_at lw_m12 238 rfl) rfl
theorem q3125 : (Jvm.Cond.static ({ cls := "TransportPair$Header", name := "write", desc := "(LTransportPair$Bytes;II[BIIII)V" } : Jvm.MethodName)) ∈ lw_all := lw_g (lw_at lw_m12 239 rfl) rfl
theorem q3126 : (Jvm.Cond.code ({ cls := "TransportPair$Header", name := "write", desc := "(LTransportPair$Bytes;II[BIIII)V" } : Jvm.MethodName) prog_14_method_8_code (8 : Nat) (Option.none : Option Jvm.ClassFile.FieldType)) ∈ lw_all := lw_g (lw_at lw_m13 0 rfl) rfl
theorem q3127 : (Jvm.Cond.methodLink "TransportPair$Header" (97 : Nat) ({ cls := "TransportPair$Bytes", name := "put", desc := "(I)V" } : Jvm.MethodName)) ∈ lw_all := lw_g (lw_at lw_m13 1 rfl) rfl
theorem q3128 : (Jvm.Cond.methodLink "TransportPair$Header" (101 : Nat) ({ cls := "TransportPair$Bytes", name := "putRow", desc := "([BII)V" } : Jvm.MethodName)) ∈ lw_all := lw_g (lw_at lw_m13 2 rfl) rfl
theorem q3129 : (Jvm.Cond.methodLink "TransportPair$Header" (105 : Nat) ({ cls := "TransportPair$Bytes", name := "putMany", desc := "(JI)V" } : Jvm.MethodName)) ∈ lw_all := lw_g (lw_at lw_m13 3 rfl) rfl
theorem q3130 : (Jvm.Cond.methodLink "TransportPair$Header" (109 : Nat) ({ cls := "TransportPair$Bytes", name := "putNumber", desc := "(J)V" } : Jvm.MethodName)) ∈ lw_all := lw_g (lw_at lw_m13 4 rfl) rfl
theorem q3131 : (Jvm.Cond.methodLink "TransportPair$Header" (113 : Nat) ({ cls := "TransportPair$Bytes", name := "putSized", desc := "(JI)V" } : Jvm.MethodName)) ∈ lw_all := lw_g (lw_at lw_m13 5 rfl) rfl
theorem q3132 : (Jvm.Cond.methodLink "TransportPair$Side" (722 : Nat) ({ cls := "TransportPair$Bytes", name := "putMany", desc := "(JI)V" } : Jvm.MethodName)) ∈ lw_all := lw_g (lw_at lw_m13 6 rfl) rfl
theorem q3133 : (Jvm.Cond.methodLink "TransportPair$Side" (726 : Nat) ({ cls := "TransportPair$Guard", name := "seal", desc := "(LTransportPair$Bench;J[BIII)I" } : Jvm.MethodName)) ∈ lw_all := lw_g (lw_at lw_m13 7 rfl) rfl
theorem q3134 : (Jvm.Cond.instanceMethod ({ cls := "TransportPair$Guard", name := "seal", desc := "(LTransportPair$Bench;J[BIII)I" } : Jvm.MethodName)) ∈ lw_all := lw_g (lw_at lw_m13 8 rfl) rfl
theorem q3135 : (Jvm.Cond.selects "TransportPair$Guard" ({ cls := "TransportPair$Guard", name := "seal", desc := "(LTransportPair$Bench;J[BIII)I" } : Jvm.MethodName) ({ cls := "TransportPair$Guard", name := "seal", desc := "(LTransportPair$Bench;J[BIII)I" } : Jvm.MethodName)) ∈ lw_all := lw_g (lw_at lw_m13 9 rfl) rfl
theorem q3136 : (Jvm.Cond.code ({ cls := "TransportPair$Guard", name := "seal", desc := "(LTransportPair$Bench;J[BIII)I" } : Jvm.MethodName) prog_11_method_7_code (8 : Nat) (Option.some Jvm.ClassFile.FieldType.int)) ∈ lw_all := lw_g (lw_at lw_m13 10 rfl) rfl
theorem q3137 : (Jvm.Cond.methodLink "TransportPair$Side" (728 : Nat) ({ cls := "TransportPair$Book", name := "send", desc := "(IIZZ)I" } : Jvm.MethodName)) ∈ lw_all := lw_g (lw_at lw_m13 11 rfl) rfl
theorem q3138 : (Jvm.Cond.instanceMethod ({ cls := "TransportPair$Book", name := "send", desc := "(IIZZ)I" } : Jvm.MethodName)) ∈ lw_all := lw_g (lw_at lw_m13 12 rfl) rfl
theorem q3139 : (Jvm.Cond.selects "TransportPair$Book" ({ cls := "TransportPair$Book", name := "send", desc := "(IIZZ)I" } : Jvm.MethodName) ({ cls := "TransportPair$Book", name := "send", desc := "(IIZZ)I" } : Jvm.MethodName)) ∈ lw_all := lw_g (lw_at lw_m13 13 rfl) rfl
theorem q3140 : (Jvm.Cond.code ({ cls := "TransportPair$Book", name := "send", desc := "(IIZZ)I" } : Jvm.MethodName) prog_4_method_2_code (6 : Nat) (Option.some Jvm.ClassFile.FieldType.int)) ∈ lw_all := lw_g (lw_at lw_m13 14 rfl) rfl
theorem q3141 : (Jvm.Cond.methodLink "TransportPair$Book" (52 : Nat) ({ cls := "TransportPair$Space", name := "add", desc := "(IIZZZ)I" } : Jvm.MethodName)) ∈ lw_all := lw_g (lw_at lw_m13 15 rfl) rfl
theorem q3142 : (Jvm.Cond.instanceMethod ({ cls := "TransportPair$Space", name := "add", desc := "(IIZZZ)I" } : Jvm.MethodName)) ∈ lw_all := lw_g (lw_at lw_m13 16 rfl) rfl
theorem q3143 : (Jvm.Cond.selects "TransportPair$Space" ({ cls := "TransportPair$Space", name := "add", desc := "(IIZZZ)I" } : Jvm.MethodName) ({ cls := "TransportPair$Space", name := "add", desc := "(IIZZZ)I" } : Jvm.MethodName)) ∈ lw_all := lw_g (lw_at lw_m13 17 rfl) rfl
theorem q3144 : (Jvm.Cond.code ({ cls := "TransportPair$Space", name := "add", desc := "(IIZZZ)I" } : Jvm.MethodName) prog_26_method_5_code (6 : Nat) (Option.some Jvm.ClassFile.FieldType.int)) ∈ lw_all := lw_g (lw_at lw_m13 18 rfl) rfl
theorem q3145 : (Jvm.Cond.methodLink "TransportPair$Space" (63 : Nat) ({ cls := "TransportPair$Space", name := "grow", desc := "()V" } : Jvm.MethodName)) ∈ lw_all := lw_g (lw_at lw_m13 19 rfl) rfl
theorem q3147 : (Jvm.Cond.instanceMethod ({ cls := "TransportPair$Space", name := "grow", desc := "()V" } : Jvm.MethodName)) ∈ lw_all := lw_g (lw_at lw_m13 21 rfl) rfl
theorem q3148 : (Jvm.Cond.code ({ cls := "TransportPair$Space", name := "grow", desc := "()V" } : Jvm.MethodName) prog_26_method_4_code (4 : Nat) (Option.none : Option Jvm.ClassFile.FieldType)) ∈ lw_all := lw_g (lw_at lw_m13 22 rfl) rfl
theorem q3149 : (Jvm.Cond.methodLink "TransportPair$Space" (57 : Nat) ({ cls := "java/lang/System", name := "arraycopy", desc := "(Ljava/lang/Object;ILjava/lang/Object;II)V" } : Jvm.MethodName)) ∈ lw_all := lw_g (lw_at lw_m13 23 rfl) rfl
theorem q3150 : (Jvm.Cond.methodLink "TransportPair$Side" (623 : Nat) ({ cls := "TransportPair$Line", name := "add", desc := "([BII)V" } : Jvm.MethodName)) ∈ lw_all := lw_g (lw_at lw_m13 24 rfl) rfl
theorem q3151 : (Jvm.Cond.methodLink "TransportPairLaw" (194 : Nat) ({ cls := "TransportPairLaw", name := "line", desc := "(LTransportPair;II[J)I" } : Jvm.MethodName)) ∈ lw_all := lw_g (lw_at lw_m13 25 rfl) rfl
theorem q3152 : (Jvm.Cond.static ({ cls := "TransportPairLaw", name := "line", desc := "(LTransportPair;II[J)I" } : Jvm.MethodName)) ∈ lw_all := lw_g (lw_at lw_m13 26 rfl) rfl
theorem q3153 : (Jvm.Cond.codeWith ({ cls := "TransportPairLaw", name := "line", desc := "(LTransportPair;II[J)I" } : Jvm.MethodName) method_24_code (5 : Nat) (Option.some Jvm.ClassFile.FieldType.int) [((0 : Nat), (10 : Nat), (13 : Nat), (19 : Nat))]) ∈ lw_all := lw_g (lw_at lw_m13 27 rfl) rfl
theorem q3154 : (Jvm.Cond.methodLink "TransportPairLaw" (89 : Nat) ({ cls := "TransportPair", name := "line", desc := "(II)I" } : Jvm.MethodName)) ∈ lw_all := lw_g (lw_at lw_m13 28 rfl) rfl
theorem q3155 : (Jvm.Cond.instanceMethod ({ cls := "TransportPair", name := "line", desc := "(II)I" } : Jvm.MethodName)) ∈ lw_all := lw_g (lw_at lw_m13 29 rfl) rfl
theorem q3156 : (Jvm.Cond.selects "TransportPair" ({ cls := "TransportPair", name := "line", desc := "(II)I" } : Jvm.MethodName) ({ cls := "TransportPair", name := "line", desc := "(II)I" } : Jvm.MethodName)) ∈ lw_all := lw_g (lw_at lw_m13 30 rfl) rfl
theorem q3157 : (Jvm.Cond.code ({ cls := "TransportPair", name := "line", desc := "(II)I" } : Jvm.MethodName) prog_1_method_35_code (4 : Nat) (Option.some Jvm.ClassFile.FieldType.int)) ∈ lw_all := lw_g (lw_at lw_m13 31 rfl) rfl
theorem q3158 : (Jvm.Cond.constantLong "TransportPair" (230 : Nat) (2 : Int64)) ∈ lw_all := lw_g (lw_at lw_m13 32 rfl) rfl
theorem q3159 : (Jvm.Cond.methodLink "TransportPairLaw" (197 : Nat) ({ cls := "TransportPairLaw", name := "at", desc := "(LTransportPair;III[J)I" } : Jvm.MethodName)) ∈ lw_all := lw_g (lw_at lw_m13 33 rfl) rfl
theorem q3160 : (Jvm.Cond.static ({ cls := "TransportPairLaw", name := "at", desc := "(LTransportPair;III[J)I" } : Jvm.MethodName)) ∈ lw_all := lw_g (lw_at lw_m13 34 rfl) rfl
theorem q3161 : (Jvm.Cond.codeWith ({ cls := "TransportPairLaw", name := "at", desc := "(LTransportPair;III[J)I" } : Jvm.MethodName) method_25_code (6 : Nat) (Option.some Jvm.ClassFile.FieldType.int) [((0 : Nat), (12 : Nat), (15 : Nat), (19 : Nat)), ((0 : Nat), (12 : Nat), (19 : Nat), (62 : Nat))]) ∈ lw_all := lw_g (lw_at lw_m13 35 rfl) rfl
theorem q3162 : (Jvm.Cond.methodLink "TransportPairLaw" (92 : Nat) ({ cls := "TransportPair", name := "at", desc := "(III)I" } : Jvm.MethodName)) ∈ lw_all := lw_g (lw_at lw_m13 36 rfl) rfl
theorem q3163 : (Jvm.Cond.instanceMethod ({ cls := "TransportPair", name := "at", desc := "(III)I" } : Jvm.MethodName)) ∈ lw_all := lw_g (lw_at lw_m13 37 rfl) rfl
theorem q3164 : (Jvm.Cond.selects "TransportPair" ({ cls := "TransportPair", name := "at", desc := "(III)I" } : Jvm.MethodName) ({ cls := "TransportPair", name := "at", desc := "(III)I" } : Jvm.MethodName)) ∈ lw_all := lw_g (lw_at lw_m13 38 rfl) rfl
theorem q3165 : (Jvm.Cond.code ({ cls := "TransportPair", name := "at", desc := "(III)I" } : Jvm.MethodName) prog_1_method_36_code (5 : Nat) (Option.some Jvm.ClassFile.FieldType.int)) ∈ lw_all := lw_g (lw_at lw_m13 39 rfl) rfl
theorem q3166 : (Jvm.Cond.constantLong "TransportPair" (238 : Nat) (-2 : Int64)) ∈ lw_all := lw_g (lw_at lw_m13 40 rfl) rfl
theorem q3167 : (Jvm.Cond.methodLink "TransportPairLaw" (200 : Nat) ({ cls := "TransportPairLaw", name := "look", desc := "(LTransportPair;II[J)I" } : Jvm.MethodName)) ∈ lw_all := lw_g (lw_at lw_m13 41 rfl) rfl
theorem q3168 : (Jvm.Cond.static ({ cls := "TransportPairLaw", name := "look", desc := "(LTransportPair;II[J)I" } : Jvm.MethodName)) ∈ lw_all := lw_g (lw_at lw_m13 42 rfl) rfl
theorem q3169 : (Jvm.Cond.codeWith ({ cls := "TransportPairLaw", name := "look", desc := "(LTransportPair;II[J)I" } : Jvm.MethodName) method_26_code (5 : Nat) (Option.some Jvm.ClassFile.FieldType.int) [((0 : Nat), (10 : Nat), (13 : Nat), (19 : Nat))]) ∈ lw_all := lw_g (lw_at lw_m13 43 rfl) rfl
theorem q3170 : (Jvm.Cond.methodLink "TransportPairLaw" (95 : Nat) ({ cls := "TransportPair", name := "look", desc := "(II)I" } : Jvm.MethodName)) ∈ lw_all := lw_g (lw_at lw_m13 44 rfl) rfl
theorem q3171 : (Jvm.Cond.instanceMethod ({ cls := "TransportPair", name := "look", desc := "(II)I" } : Jvm.MethodName)) ∈ lw_all := lw_g (lw_at lw_m13 45 rfl) rfl
theorem q3172 : (Jvm.Cond.selects "TransportPair" ({ cls := "TransportPair", name := "look", desc := "(II)I" } : Jvm.MethodName) ({ cls := "TransportPair", name := "look", desc := "(II)I" } : Jvm.MethodName)) ∈ lw_all := lw_g (lw_at lw_m13 46 rfl) rfl
theorem q3173 : (Jvm.Cond.code ({ cls := "TransportPair", name := "look", desc := "(II)I" } : Jvm.MethodName) prog_1_method_37_code (4 : Nat) (Option.some Jvm.ClassFile.FieldType.int)) ∈ lw_all := lw_g (lw_at lw_m13 47 rfl) rfl
theorem q3174 : (Jvm.Cond.methodLink "TransportPairLaw" (203 : Nat) ({ cls := "TransportPairLaw", name := "book", desc := "(LTransportPair;II[J)I" } : Jvm.MethodName)) ∈ lw_all := lw_g (lw_at lw_m13 48 rfl) rfl
theorem q3175 : (Jvm.Cond.static ({ cls := "TransportPairLaw", name := "book", desc := "(LTransportPair;II[J)I" } : Jvm.MethodName)) ∈ lw_all := lw_g (lw_at lw_m13 49 rfl) rfl
theorem q3176 : (Jvm.Cond.codeWith ({ cls := "TransportPairLaw", name := "book", desc := "(LTransportPair;II[J)I" } : Jvm.MethodName) method_27_code (5 : Nat) (Option.some Jvm.ClassFile.FieldType.int) [((0 : Nat), (10 : Nat), (13 : Nat), (19 : Nat))]) ∈ lw_all := lw_g (lw_at lw_m13 50 rfl) rfl
theorem q3177 : (Jvm.Cond.methodLink "TransportPairLaw" (98 : Nat) ({ cls := "TransportPair", name := "book", desc := "(II)I" } : Jvm.MethodName)) ∈ lw_all := lw_g (lw_at lw_m13 51 rfl) rfl
theorem q3178 : (Jvm.Cond.instanceMethod ({ cls := "TransportPair", name := "book", desc := "(II)I" } : Jvm.MethodName)) ∈ lw_all := lw_g (lw_at lw_m13 52 rfl) rfl
theorem q3179 : (Jvm.Cond.selects "TransportPair" ({ cls := "TransportPair", name := "book", desc := "(II)I" } : Jvm.MethodName) ({ cls := "TransportPair", name := "book", desc := "(II)I" } : Jvm.MethodName)) ∈ lw_all := lw_g (lw_at lw_m13 53 rfl) rfl
theorem q3180 : (Jvm.Cond.code ({ cls := "TransportPair", name := "book", desc := "(II)I" } : Jvm.MethodName) prog_1_method_38_code (4 : Nat) (Option.some Jvm.ClassFile.FieldType.int)) ∈ lw_all := lw_g (lw_at lw_m13 54 rfl) rfl
theorem q3181 : (Jvm.Cond.constantLong "TransportPair" (278 : Nat) (10 : Int64)) ∈ lw_all := lw_g (lw_at lw_m13 55 rfl) rfl
theorem q3182 : (Jvm.Cond.methodLink "TransportPair" (280 : Nat) ({ cls := "TransportPair$Book", name := "look", desc := "(I)I" } : Jvm.MethodName)) ∈ lw_all := lw_g (lw_at lw_m13 56 rfl) rfl
theorem q3183 : (Jvm.Cond.instanceMethod ({ cls := "TransportPair$Book", name := "look", desc := "(I)I" } : Jvm.MethodName)) ∈ lw_all := lw_g (lw_at lw_m13 57 rfl) rfl
theorem q3184 : (Jvm.Cond.selects "TransportPair$Book" ({ cls := "TransportPair$Book", name := "look", desc := "(I)I" } : Jvm.MethodName) ({ cls := "TransportPair$Book", name := "look", desc := "(I)I" } : Jvm.MethodName)) ∈ lw_all := lw_g (lw_at lw_m13 58 rfl) rfl
theorem q3185 : (Jvm.Cond.code ({ cls := "TransportPair$Book", name := "look", desc := "(I)I" } : Jvm.MethodName) prog_4_method_18_code (2 : Nat) (Option.some Jvm.ClassFile.FieldType.int)) ∈ lw_all := lw_g (lw_at lw_m13 59 rfl) rfl
theorem q3186 : (Jvm.Cond.methodLink "TransportPairLaw" (206 : Nat) ({ cls := "TransportPairLaw", name := "space", desc := "(LTransportPair;III[J)I" } : Jvm.MethodName)) ∈ lw_all := lw_g (lw_at lw_m13 60 rfl) rfl
theorem q3187 : (Jvm.Cond.static ({ cls := "TransportPairLaw", name := "space", desc := "(LTransportPair;III[J)I" } : Jvm.MethodName)) ∈ lw_all := lw_g (lw_at lw_m13 61 rfl) rfl
theorem q3188 : (Jvm.Cond.codeWith ({ cls := "TransportPairLaw", name := "space", desc := "(LTransportPair;III[J)I" } : Jvm.MethodName) method_28_code (6 : Nat) (Option.some Jvm.ClassFile.FieldType.int) [((0 : Nat), (11 : Nat), (14 : Nat), (19 : Nat))]) ∈ lw_all := lw_g (lw_at lw_m13 62 rfl) rfl
theorem q3189 : (Jvm.Cond.methodLink "TransportPairLaw" (101 : Nat) ({ cls := "TransportPair", name := "space", desc := "(III)J" } : Jvm.MethodName)) ∈ lw_all := lw_g (lw_at lw_m13 63 rfl) rfl
theorem q3190 : (Jvm.Cond.instanceMethod ({ cls := "TransportPair", name := "space", desc := "(III)J" } : Jvm.MethodName)) ∈ lw_all := lw_g (lw_at lw_m13 64 rfl) rfl
theorem q3191 : (Jvm.Cond.selects "TransportPair" ({ cls := "TransportPair", name := "space", desc := "(III)J" } : Jvm.MethodName) ({ cls := "TransportPair", name := "space", desc := "(III)J" } : Jvm.MethodName)) ∈ lw_all := lw_g (lw_at lw_m13 65 rfl) rfl
theorem q3192 : (Jvm.Cond.code ({ cls := "TransportPair", name := "space", desc := "(III)J" } : Jvm.MethodName) prog_1_method_39_code (5 : Nat) (Option.some Jvm.ClassFile.FieldType.long)) ∈ lw_all := lw_g (lw_at lw_m13 66 rfl) rfl
theorem q3193 : (Jvm.Cond.constantLong "TransportPair" (284 : Nat) (11 : Int64)) ∈ lw_all := lw_g (lw_at lw_m13 67 rfl) rfl
theorem q3194 : (Jvm.Cond.methodLink "TransportPair" (289 : Nat) ({ cls := "TransportPair$Book", name := "space", desc := "(II)J" } : Jvm.MethodName)) ∈ lw_all := lw_g (lw_at lw_m13 68 rfl) rfl
theorem q3195 : (Jvm.Cond.instanceMethod ({ cls := "TransportPair$Book", name := "space", desc := "(II)J" } : Jvm.MethodName)) ∈ lw_all := lw_g (lw_at lw_m13 69 rfl) rfl
theorem q3196 : (Jvm.Cond.selects "TransportPair$Book" ({ cls := "TransportPair$Book", name := "space", desc := "(II)J" } : Jvm.MethodName) ({ cls := "TransportPair$Book", name := "space", desc := "(II)J" } : Jvm.MethodName)) ∈ lw_all := lw_g (lw_at lw_m13 70 rfl) rfl
theorem q3197 : (Jvm.Cond.code ({ cls := "TransportPair$Book", name := "space", desc := "(II)J" } : Jvm.MethodName) prog_4_method_19_code (4 : Nat) (Option.some Jvm.ClassFile.FieldType.long)) ∈ lw_all := lw_g (lw_at lw_m13 71 rfl) rfl
theorem q3198 : (Jvm.Cond.methodLink "TransportPairLaw" (209 : Nat) ({ cls := "TransportPairLaw", name := "stream", desc := "(LTransportPair;III[J)I" } : Jvm.MethodName)) ∈ lw_all := lw_g (lw_at lw_m13 72 rfl) rfl
theorem q3199 : (Jvm.Cond.static ({ cls := "TransportPairLaw", name := "stream", desc := "(LTransportPair;III[J)I" } : Jvm.MethodName)) ∈ lw_all := lw_g (lw_at lw_m13 73 rfl) rfl
theorem q3200 : (Jvm.Cond.codeWith ({ cls := "TransportPairLaw", name := "stream", desc := "(LTransportPair;III[J)I" } : Jvm.MethodName) method_29_code (6 : Nat) (Option.some Jvm.ClassFile.FieldType.int) [((0 : Nat), (11 : Nat), (14 : Nat), (19 : Nat))]) ∈ lw_all := lw_g (lw_at lw_m13 74 rfl) rfl
theorem q3201 : (Jvm.Cond.methodLink "TransportPairLaw" (105 : Nat) ({ cls := "TransportPair", name := "stream", desc := "(III)J" } : Jvm.MethodName)) ∈ lw_all := lw_g (lw_at lw_m13 75 rfl) rfl
theorem q3202 : (Jvm.Cond.instanceMethod ({ cls := "TransportPair", name := "stream", desc := "(III)J" } : Jvm.MethodName)) ∈ lw_all := lw_g (lw_at lw_m13 76 rfl) rfl
theorem q3203 : (Jvm.Cond.selects "TransportPair" ({ cls := "TransportPair", name := "stream", desc := "(III)J" } : Jvm.MethodName) ({ cls := "TransportPair", name := "stream", desc := "(III)J" } : Jvm.MethodName)) ∈ lw_all := lw_g (lw_at lw_m13 77 rfl) rfl
theorem q3204 : (Jvm.Cond.code ({ cls := "TransportPair", name := "stream", desc := "(III)J" } : Jvm.MethodName) prog_1_method_40_code (5 : Nat) (Option.some Jvm.ClassFile.FieldType.long)) ∈ lw_all := lw_g (lw_at lw_m13 78 rfl) rfl
theorem q3205 : (Jvm.Cond.constantLong "TransportPair" (293 : Nat) (14 : Int64)) ∈ lw_all := lw_g (lw_at lw_m13 79 rfl) rfl
theorem q3206 : (Jvm.Cond.methodLink "TransportPair" (295 : Nat) ({ cls := "TransportPair$Hall", name := "look", desc := "(II)J" } : Jvm.MethodName)) ∈ lw_all := lw_g (lw_at lw_m13 80 rfl) rfl
theorem q3207 : (Jvm.Cond.instanceMethod ({ cls := "TransportPair$Hall", name := "look", desc := "(II)J" } : Jvm.MethodName)) ∈ lw_all := lw_g (lw_at lw_m13 81 rfl) rfl
theorem q3208 : (Jvm.Cond.selects "TransportPair$Hall" ({ cls := "TransportPair$Hall", name := "look", desc := "(II)J" } : Jvm.MethodName) ({ cls := "TransportPair$Hall", name := "look", desc := "(II)J" } : Jvm.MethodName)) ∈ lw_all := lw_g (lw_at lw_m13 82 rfl) rfl
theorem q3209 : (Jvm.Cond.code ({ cls := "TransportPair$Hall", name := "look", desc := "(II)J" } : Jvm.MethodName) prog_12_method_40_code (5 : Nat) (Option.some Jvm.ClassFile.FieldType.long)) ∈ lw_all := lw_g (lw_at lw_m13 83 rfl) rfl
theorem q3210 : (Jvm.Cond.methodLink "TransportPairLaw" (212 : Nat) ({ cls := "TransportPairLaw", name := "streams", desc := "(LTransportPair;II[J)I" } : Jvm.MethodName)) ∈ lw_all := lw_g (lw_at lw_m13 84 rfl) rfl
theorem q3211 : (Jvm.Cond.static ({ cls := "TransportPairLaw", name := "streams", desc := "(LTransportPair;II[J)I" } : Jvm.MethodName)) ∈ lw_all := lw_g (lw_at lw_m13 85 rfl) rfl
theorem q3212 : (Jvm.Cond.codeWith ({ cls := "TransportPairLaw", name := "streams", desc := "(LTransportPair;II[J)I" } : Jvm.MethodName) method_30_code (5 : Nat) (Option.some Jvm.ClassFile.FieldType.int) [((0 : Nat), (9 : Nat), (12 : Nat), (19 : Nat))]) ∈ lw_all := lw_g (lw_at lw_m13 86 rfl) rfl
theorem q3213 : (Jvm.Cond.methodLink "TransportPairLaw" (108 : Nat) ({ cls := "TransportPair", name := "streams", desc := "(II)J" } : Jvm.MethodName)) ∈ lw_all := lw_g (lw_at lw_m13 87 rfl) rfl
theorem q3214 : (Jvm.Cond.instanceMethod ({ cls := "TransportPair", name := "streams", desc := "(II)J" } : Jvm.MethodName)) ∈ lw_all := lw_g (lw_at lw_m13 88 rfl) rfl
theorem q3215 : (Jvm.Cond.selects "TransportPair" ({ cls := "TransportPair", name := "streams", desc := "(II)J" } : Jvm.MethodName) ({ cls := "TransportPair", name := "streams", desc := "(II)J" } : Jvm.MethodName)) ∈ lw_all := lw_g (lw_at lw_m13 89 rfl) rfl
theorem q3216 : (Jvm.Cond.code ({ cls := "TransportPair", name := "streams", desc := "(II)J" } : Jvm.MethodName) prog_1_method_41_code (4 : Nat) (Option.some Jvm.ClassFile.FieldType.long)) ∈ lw_all := lw_g (lw_at lw_m13 90 rfl) rfl
theorem q3217 : (Jvm.Cond.constantLong "TransportPair" (297 : Nat) (13 : Int64)) ∈ lw_all := lw_g (lw_at lw_m13 91 rfl) rfl
theorem q3218 : (Jvm.Cond.methodLink "TransportPair" (299 : Nat) ({ cls := "TransportPair$Hall", name := "look", desc := "(I)J" } : Jvm.MethodName)) ∈ lw_all := lw_g (lw_at lw_m13 92 rfl) rfl
theorem q3219 : (Jvm.Cond.instanceMethod ({ cls := "TransportPair$Hall", name := "look", desc := "(I)J" } : Jvm.MethodName)) ∈ lw_all := lw_g (lw_at lw_m13 93 rfl) rfl
theorem q3220 : (Jvm.Cond.selects "TransportPair$Hall" ({ cls := "TransportPair$Hall", name := "look", desc := "(I)J" } : Jvm.MethodName) ({ cls := "TransportPair$Hall", name := "look", desc := "(I)J" } : Jvm.MethodName)) ∈ lw_all := lw_g (lw_at lw_m13 94 rfl) rfl
theorem q3221 : (Jvm.Cond.code ({ cls := "TransportPair$Hall", name := "look", desc := "(I)J" } : Jvm.MethodName) prog_12_method_41_code (3 : Nat) (Option.some Jvm.ClassFile.FieldType.long)) ∈ lw_all := lw_g (lw_at lw_m13 95 rfl) rfl
theorem q3222 : (Jvm.Cond.classLink "TransportPairLaw" (113 : Nat) "TransportPairModel") ∈ lw_all := lw_g (lw_at lw_m13 96 rfl) rfl
theorem q3223 : (Jvm.Cond.instantiable "TransportPairModel" (23 : Nat)) ∈ lw_all := lw_g (lw_at lw_m13 97 rfl) rfl
theorem q3224 : (Jvm.Cond.methodLink "TransportPairLaw" (115 : Nat) ({ cls := "TransportPairModel", name := "<init>", desc := "()V" } : Jvm.MethodName)) ∈ lw_all := lw_g (lw_at lw_m13 98 rfl) rfl
theorem q3225 : (Jvm.Cond.instanceMethod ({ cls := "TransportPairModel", name := "<init>", desc := "()V" } : Jvm.MethodName)) ∈ lw_all := lw_g (lw_at lw_m13 99 rfl) rfl
theorem q3226 : (Jvm.Cond.code ({ cls := "TransportPairModel", name := "<init>", desc := "()V" } : Jvm.MethodName) prog_35_method_1_code (3 : Nat) (Option.none : Option Jvm.ClassFile.FieldType)) ∈ lw_all := lw_g (lw_at lw_m13 100 rfl) rfl
theorem q3227 : (Jvm.Cond.methodLink "TransportPairModel" (1 : Nat) ({ cls := "java/lang/Object", name := "<init>", desc := "()V" } : Jvm.MethodName)) ∈ lw_all := lw_g (lw_at lw_m13 101 rfl) rfl
theorem q3228 : (Jvm.Cond.constant "TransportPairModel" (7 : Nat) (65536 : Int32)) ∈ lw_all := lw_g (lw_at lw_m13 102 rfl) rfl
theorem q3229 : (Jvm.Cond.classLink "TransportPairModel" (18 : Nat) "TransportPairModel$Seals") ∈ lw_all := lw_g (lw_at lw_m13 103 rfl) rfl
theorem q3230 : (Jvm.Cond.instantiable "TransportPairModel$Seals" (25 : Nat)) ∈ lw_all := lw_g (lw_at lw_m13 104 rfl) rfl
theorem q3231 : (Jvm.Cond.methodLink "TransportPairModel" (20 : Nat) ({ cls := "TransportPairModel$Seals", name := "<init>", desc := "()V" } : Jvm.MethodName)) ∈ lw_all := lw_g (lw_at lw_m13 105 rfl) rfl
theorem q3232 : (Jvm.Cond.instanceMethod ({ cls := "TransportPairModel$Seals", name := "<init>", desc := "()V" } : Jvm.MethodName)) ∈ lw_all := lw_g (lw_at lw_m13 106 rfl) rfl
theorem q3233 : (Jvm.Cond.code ({ cls := "TransportPairModel$Seals", name := "<init>", desc := "()V" } : Jvm.MethodName) prog_40_method_1_code (3 : Nat) (Option.none : Option Jvm.ClassFile.FieldType)) ∈ lw_all := lw_g (lw_at lw_m13 107 rfl) rfl
theorem q3234 : (Jvm.Cond.methodLink "TransportPairModel$Seals" (1 : Nat) ({ cls := "java/lang/Object", name := "<init>", desc := "()V" } : Jvm.MethodName)) ∈ lw_all := lw_g (lw_at lw_m13 108 rfl) rfl
theorem q3235 : (Jvm.Cond.methodLink "TransportPairModel$Seals" (80 : Nat) ({ cls := "TransportPairModel$Seals", name := "nextPrime", desc := "(I)I" } : Jvm.MethodName)) ∈ lw_all := lw_g (lw_at lw_m13 109 rfl) rfl
theorem q3236 : (Jvm.Cond.static ({ cls := "TransportPairModel$Seals", name := "nextPrime", desc := "(I)I" } : Jvm.MethodName)) ∈ lw_all := lw_g (lw_at lw_m13 110 rfl) rfl
theorem q3237 : (Jvm.Cond.code ({ cls := "TransportPairModel$Seals", name := "nextPrime", desc := "(I)I" } : Jvm.MethodName) prog_40_method_2_code (4 : Nat) (Option.some Jvm.ClassFile.FieldType.int)) ∈ lw_all := lw_g (lw_at lw_m13 111 rfl) rfl
theorem q3238 : (Jvm.Cond.methodLink "TransportPairModel$Seals" (84 : Nat) ({ cls := "TransportPairModel$Seals", name := "rootOf", desc := "(II)J" } : Jvm.MethodName)) ∈ lw_all := lw_g (lw_at lw_m13 112 rfl) rfl
theorem q3240 : (Jvm.Cond.instanceMethod ({ cls := "TransportPairModel$Seals", name := "rootOf", desc := "(II)J" } : Jvm.MethodName)) ∈ lw_all := lw_g (lw_at lw_m13 114 rfl) rfl
theorem q3241 : (Jvm.Cond.code ({ cls := "TransportPairModel$Seals", name := "rootOf", desc := "(II)J" } : Jvm.MethodName) prog_40_method_3_code (6 : Nat) (Option.some Jvm.ClassFile.FieldType.long)) ∈ lw_all := lw_g (lw_at lw_m13 115 rfl) rfl
theorem q3242 : (Jvm.Cond.methodLink "TransportPairModel$Seals" (88 : Nat) ({ cls := "TransportPairModel$Seals", name := "isAbove", desc := "(JII)Z" } : Jvm.MethodName)) ∈ lw_all := lw_g (lw_at lw_m13 116 rfl) rfl
theorem q3244 : (Jvm.Cond.instanceMethod ({ cls := "TransportPairModel$Seals", name := "isAbove", desc := "(JII)Z" } : Jvm.MethodName)) ∈ lw_all := lw_g (lw_at lw_m13 118 rfl) rfl
theorem q3245 : (Jvm.Cond.code ({ cls := "TransportPairModel$Seals", name := "isAbove", desc := "(JII)Z" } : Jvm.MethodName) prog_40_method_4_code (7 : Nat) (Option.some Jvm.ClassFile.FieldType.boolean)) ∈ lw_all := lw_g (lw_at lw_m13 119 rfl) rfl
theorem q3246 : (Jvm.Cond.constantLong "TransportPairModel$Seals" (94 : Nat) (65535 : Int64)) ∈ lw_all := lw_g (lw_at lw_m13 120 rfl) rfl
theorem q3247 : (Jvm.Cond.methodLink "TransportPairModel$Seals" (96 : Nat) ({ cls := "TransportPairModel$Seals", name := "times", desc := "()V" } : Jvm.MethodName)) ∈ lw_all := lw_g (lw_at lw_m13 121 rfl) rfl
theorem q3249 : (Jvm.Cond.instanceMethod ({ cls := "TransportPairModel$Seals", name := "times", desc := "()V" } : Jvm.MethodName)) ∈ lw_all := lw_g (lw_at lw_m13 123 rfl) rfl
theorem q3250 : (Jvm.Cond.code ({ cls := "TransportPairModel$Seals", name := "times", desc := "()V" } : Jvm.MethodName) prog_40_method_5_code (5 : Nat) (Option.none : Option Jvm.ClassFile.FieldType)) ∈ lw_all := lw_g (lw_at lw_m13 124 rfl) rfl
theorem q3251 : (Jvm.Cond.constantLong "TransportPairModel$Seals" (92 : Nat) (4294967295 : Int64)) ∈ lw_all := lw_g (lw_at lw_m13 125 rfl) rfl
theorem q3252 : (Jvm.Cond.fieldLink "TransportPairModel$Seals" (7 : Nat) "TransportPairModel$Seals" "begin" "[J") ∈ lw_all := lw_g (lw_at lw_m13 126 rfl) rfl
theorem q3253 : (Jvm.Cond.fieldLink "TransportPairModel$Seals" (13 : Nat) "TransportPairModel$Seals" "each" "[J") ∈ lw_all := lw_g (lw_at lw_m13 127 rfl) rfl
theorem q3254 : (Jvm.Cond.fieldLink "TransportPairModel$Seals" (16 : Nat) "TransportPairModel$Seals" "root" "[I") ∈ lw_all := lw_g (lw_at lw_m13 128 rfl) rfl
theorem q3255 : (Jvm.Cond.fieldLink "TransportPairModel$Seals" (20 : Nat) "TransportPairModel$Seals" "power" "[I") ∈ lw_all := lw_g (lw_at lw_m13 129 rfl) rfl
theorem q3256 : (Jvm.Cond.fieldLink "TransportPairModel$Seals" (23 : Nat) "TransportPairModel$Seals" "work" "[I") ∈ lw_all := lw_g (lw_at lw_m13 130 rfl) rfl
theorem q3257 : (Jvm.Cond.fieldLink "TransportPairModel$Seals" (26 : Nat) "TransportPairModel$Seals" "w" "[J") ∈ lw_all := lw_g (lw_at lw_m13 131 rfl) rfl
theorem q3258 : (Jvm.Cond.fieldLink "TransportPairModel$Seals" (29 : Nat) "TransportPairModel$Seals" "h" "[J") ∈ lw_all := lw_g (lw_at lw_m13 132 rfl) rfl
theorem q3259 : (Jvm.Cond.fieldLink "TransportPairModel$Seals" (32 : Nat) "TransportPairModel$Seals" "state" "[J") ∈ lw_all := lw_g (lw_at lw_m13 133 rfl) rfl
theorem q3260 : (Jvm.Cond.fieldLink "TransportPairModel$Seals" (35 : Nat) "TransportPairModel$Seals" "sum" "[I") ∈ lw_all := lw_g (lw_at lw_m13 134 rfl) rfl
theorem q3261 : (Jvm.Cond.fieldLink "TransportPairModel$Seals" (38 : Nat) "TransportPairModel$Seals" "pad" "[I") ∈ lw_all := lw_g (lw_at lw_m13 135 rfl) rfl
theorem q3262 : (Jvm.Cond.fieldLink "TransportPairModel$Seals" (41 : Nat) "TransportPairModel$Seals" "text" "[I") ∈ lw_all := lw_g (lw_at lw_m13 136 rfl) rfl
theorem q3263 : (Jvm.Cond.fieldLink "TransportPairModel$Seals" (117 : Nat) "TransportPairModel$Seals" "texts" "I") ∈ lw_all := lw_g (lw_at lw_m13 137 rfl) rfl
theorem q3264 : (Jvm.Cond.fieldLink "TransportPairModel$Seals" (44 : Nat) "TransportPairModel$Seals" "info" "[I") ∈ lw_all := lw_g (lw_at lw_m13 138 rfl) rfl
theorem q3265 : (Jvm.Cond.fieldLink "TransportPairModel$Seals" (125 : Nat) "TransportPairModel$Seals" "infos" "I") ∈ lw_all := lw_g (lw_at lw_m13 139 rfl) rfl
theorem q3266 : (Jvm.Cond.fieldLink "TransportPairModel$Seals" (47 : Nat) "TransportPairModel$Seals" "made" "[I") ∈ lw_all := lw_g (lw_at lw_m13 140 rfl) rfl
theorem q3267 : (Jvm.Cond.fieldLink "TransportPairModel$Seals" (50 : Nat) "TransportPairModel$Seals" "blockKey" "[I") ∈ lw_all := lw_g (lw_at lw_m13 141 rfl) rfl
theorem q3268 : (Jvm.Cond.fieldLink "TransportPairModel$Seals" (53 : Nat) "TransportPairModel$Seals" "nonce" "[I") ∈ lw_all := lw_g (lw_at lw_m13 142 rfl) rfl
theorem q3269 : (Jvm.Cond.fieldLink "TransportPairModel$Seals" (56 : Nat) "TransportPairModel$Seals" "x" "[J") ∈ lw_all := lw_g (lw_at lw_m13 143 rfl) rfl
theorem q3270 : (Jvm.Cond.fieldLink "TransportPairModel$Seals" (59 : Nat) "TransportPairModel$Seals" "first" "[J") ∈ lw_all := lw_g (lw_at lw_m13 144 rfl) rfl
theorem q3271 : (Jvm.Cond.fieldLink "TransportPairModel$Seals" (62 : Nat) "TransportPairModel$Seals" "block" "[I") ∈ lw_all := lw_g (lw_at lw_m13 145 rfl) rfl
theorem q3272 : (Jvm.Cond.fieldLink "TransportPairModel$Seals" (65 : Nat) "TransportPairModel$Seals" "a" "[I") ∈ lw_all := lw_g (lw_at lw_m13 146 rfl) rfl
theorem q3273 : (Jvm.Cond.fieldLink "TransportPairModel$Seals" (68 : Nat) "TransportPairModel$Seals" "\x72" "[I") ∈ lw_all := lw_g (lw_at lw_m13 147 rfl) rfl
theorem q3274 : (Jvm.Cond.fieldLink "TransportPairModel$Seals" (71 : Nat) "TransportPairModel$Seals" "product" "[I") ∈ lw_all := lw_g (lw_at lw_m13 148 rfl) rfl
theorem q3275 : (Jvm.Cond.fieldLink "TransportPairModel$Seals" (74 : Nat) "TransportPairModel$Seals" "tag" "[I") ∈ lw_all := lw_g (lw_at lw_m13 149 rfl) rfl
theorem q3276 : (Jvm.Cond.fieldLink "TransportPairModel$Seals" (77 : Nat) "TransportPairModel$Seals" "sealed" "[I") ∈ lw_all := lw_g (lw_at lw_m13 150 rfl) rfl
theorem q3328 : (Jvm.Cond.classLink "TransportPairModel" (25 : Nat) "TransportPairModel$Streams") ∈ lw_all := lw_g (lw_at lw_m13 202 rfl) rfl
theorem q3329 : (Jvm.Cond.instantiable "TransportPairModel$Streams" (56 : Nat)) ∈ lw_all := lw_g (lw_at lw_m13 203 rfl) rfl
theorem q3330 : (Jvm.Cond.methodLink "TransportPairModel" (27 : Nat) ({ cls := "TransportPairModel$Streams", name := "<init>", desc := "()V" } : Jvm.MethodName)) ∈ lw_all := lw_g (lw_at lw_m13 204 rfl) rfl
theorem q3331 : (Jvm.Cond.instanceMethod ({ cls := "TransportPairModel$Streams", name := "<init>", desc := "()V" } : Jvm.MethodName)) ∈ lw_all := lw_g (lw_at lw_m13 205 rfl) rfl
theorem q3332 : (Jvm.Cond.code ({ cls := "TransportPairModel$Streams", name := "<init>", desc := "()V" } : Jvm.MethodName) prog_42_method_1_code (3 : Nat) (Option.none : Option Jvm.ClassFile.FieldType)) ∈ lw_all := lw_g (lw_at lw_m13 206 rfl) rfl
theorem q3333 : (Jvm.Cond.methodLink "TransportPairModel$Streams" (3 : Nat) ({ cls := "java/lang/Object", name := "<init>", desc := "()V" } : Jvm.MethodName)) ∈ lw_all := lw_g (lw_at lw_m13 207 rfl) rfl
theorem q3334 : (Jvm.Cond.constant "TransportPairModel$Streams" (137 : Nat) (131072 : Int32)) ∈ lw_all := lw_g (lw_at lw_m13 208 rfl) rfl
theorem q3335 : (Jvm.Cond.constant "TransportPairModel$Streams" (163 : Nat) (180224 : Int32)) ∈ lw_all := lw_g (lw_at lw_m13 209 rfl) rfl
theorem q3336 : (Jvm.Cond.constantLong "TransportPairModel$Streams" (170 : Nat) (-1 : Int64)) ∈ lw_all := lw_g (lw_at lw_m13 210 rfl) rfl
theorem q3337 : (Jvm.Cond.fieldLink "TransportPairModel$Streams" (9 : Nat) "TransportPairModel$Streams" "grants" "[J") ∈ lw_all := lw_g (lw_at lw_m13 211 rfl) rfl
theorem q3338 : (Jvm.Cond.fieldLink "TransportPairModel$Streams" (15 : Nat) "TransportPairModel$Streams" "told" "[J") ∈ lw_all := lw_g (lw_at lw_m13 212 rfl) rfl
theorem q3339 : (Jvm.Cond.fieldLink "TransportPairModel$Streams" (18 : Nat) "TransportPairModel$Streams" "limits" "[J") ∈ lw_all := lw_g (lw_at lw_m13 213 rfl) rfl
theorem q3340 : (Jvm.Cond.fieldLink "TransportPairModel$Streams" (21 : Nat) "TransportPairModel$Streams" "toldBlocked" "[J") ∈ lw_all := lw_g (lw_at lw_m13 214 rfl) rfl
theorem q3341 : (Jvm.Cond.fieldLink "TransportPairModel$Streams" (24 : Nat) "TransportPairModel$Streams" "opened" "[I") ∈ lw_all := lw_g (lw_at lw_m13 215 rfl) rfl
theorem q3342 : (Jvm.Cond.fieldLink "TransportPairModel$Streams" (28 : Nat) "TransportPairModel$Streams" "theirs" "[I") ∈ lw_all := lw_g (lw_at lw_m13 216 rfl) rfl
theorem q3343 : (Jvm.Cond.fieldLink "TransportPairModel$Streams" (31 : Nat) "TransportPairModel$Streams" "granted" "[I") ∈ lw_all := lw_g (lw_at lw_m13 217 rfl) rfl
theorem q3344 : (Jvm.Cond.fieldLink "TransportPairModel$Streams" (34 : Nat) "TransportPairModel$Streams" "tellStreams" "[Z") ∈ lw_all := lw_g (lw_at lw_m13 218 rfl) rfl
theorem q3345 : (Jvm.Cond.fieldLink "TransportPairModel$Streams" (38 : Nat) "TransportPairModel$Streams" "refused" "[Z") ∈ lw_all := lw_g (lw_at lw_m13 219 rfl) rfl
theorem q3346 : (Jvm.Cond.fieldLink "TransportPairModel$Streams" (41 : Nat) "TransportPairModel$Streams" "dataGrant" "[J") ∈ lw_all := lw_g (lw_at lw_m13 220 rfl) rfl
theorem q3347 : (Jvm.Cond.fieldLink "TransportPairModel$Streams" (44 : Nat) "TransportPairModel$Streams" "tellData" "[Z") ∈ lw_all := lw_g (lw_at lw_m13 221 rfl) rfl
theorem q3348 : (Jvm.Cond.fieldLink "TransportPairModel$Streams" (47 : Nat) "TransportPairModel$Streams" "lastStream" "[I") ∈ lw_all := lw_g (lw_at lw_m13 222 rfl) rfl
theorem q3349 : (Jvm.Cond.fieldLink "TransportPairModel$Streams" (50 : Nat) "TransportPairModel$Streams" "there" "[Z") ∈ lw_all := lw_g (lw_at lw_m13 223 rfl) rfl
theorem q3350 : (Jvm.Cond.fieldLink "TransportPairModel$Streams" (53 : Nat) "TransportPairModel$Streams" "limit" "[J") ∈ lw_all := lw_g (lw_at lw_m13 224 rfl) rfl
theorem q3351 : (Jvm.Cond.fieldLink "TransportPairModel$Streams" (56 : Nat) "TransportPairModel$Streams" "finished" "[Z") ∈ lw_all := lw_g (lw_at lw_m13 225 rfl) rfl
theorem q3352 : (Jvm.Cond.fieldLink "TransportPairModel$Streams" (59 : Nat) "TransportPairModel$Streams" "end" "[I") ∈ lw_all := lw_g (lw_at lw_m13 226 rfl) rfl
theorem q3353 : (Jvm.Cond.fieldLink "TransportPairModel$Streams" (62 : Nat) "TransportPairModel$Streams" "resets" "[I") ∈ lw_all := lw_g (lw_at lw_m13 227 rfl) rfl
theorem q3354 : (Jvm.Cond.fieldLink "TransportPairModel$Streams" (65 : Nat) "TransportPairModel$Streams" "tellReset" "[Z") ∈ lw_all := lw_g (lw_at lw_m13 228 rfl) rfl
theorem q3355 : (Jvm.Cond.fieldLink "TransportPairModel$Streams" (68 : Nat) "TransportPairModel$Streams" "code" "[J") ∈ lw_all := lw_g (lw_at lw_m13 229 rfl) rfl
theorem q3356 : (Jvm.Cond.fieldLink "TransportPairModel$Streams" (71 : Nat) "TransportPairModel$Streams" "toldLimit" "[J") ∈ lw_all := lw_g (lw_at lw_m13 230 rfl) rfl
theorem q3357 : (Jvm.Cond.fieldLink "TransportPairModel$Streams" (74 : Nat) "TransportPairModel$Streams" "firstByte" "[I") ∈ lw_all := lw_g (lw_at lw_m13 231 rfl) rfl
theorem q3358 : (Jvm.Cond.fieldLink "TransportPairModel$Streams" (77 : Nat) "TransportPairModel$Streams" "lastByte" "[I") ∈ lw_all := lw_g (lw_at lw_m13 232 rfl) rfl
theorem q3359 : (Jvm.Cond.fieldLink "TransportPairModel$Streams" (80 : Nat) "TransportPairModel$Streams" "newByte" "[I") ∈ lw_all := lw_g (lw_at lw_m13 233 rfl) rfl
theorem q3360 : (Jvm.Cond.fieldLink "TransportPairModel$Streams" (83 : Nat) "TransportPairModel$Streams" "written" "[I") ∈ lw_all := lw_g (lw_at lw_m13 234 rfl) rfl
theorem q3361 : (Jvm.Cond.fieldLink "TransportPairModel$Streams" (86 : Nat) "TransportPairModel$Streams" "sent" "[I") ∈ lw_all := lw_g (lw_at lw_m13 235 rfl) rfl
theorem q3362 : (Jvm.Cond.fieldLink "TransportPairModel$Streams" (89 : Nat) "TransportPairModel$Streams" "here" "[I") ∈ lw_all := lw_g (lw_at lw_m13 236 rfl) rfl
theorem q3363 : (Jvm.Cond.fieldLink "TransportPairModel$Streams" (92 : Nat) "TransportPairModel$Streams" "lost" "[I") ∈ lw_all := lw_g (lw_at lw_m13 237 rfl) rfl
theorem q3364 : (Jvm.Cond.fieldLink "TransportPairModel$Streams" (95 : Nat) "TransportPairModel$Streams" "highest" "[J") ∈ lw_all := lw_g (lw_at lw_m13 238 rfl) rfl
theorem q3365 : (Jvm.Cond.fieldLink "TransportPairModel$Streams" (98 : Nat) "TransportPairModel$Streams" "size" "[J") ∈ lw_all := lw_g (lw_at lw_m13 239 rfl) rfl
theorem q3366 : (Jvm.Cond.fieldLink "TransportPairModel$Streams" (101 : Nat) "TransportPairModel$Streams" "read" "[I") ∈ lw_all := lw_g (lw_at lw_m14 0 rfl) rfl
theorem q3367 : (Jvm.Cond.fieldLink "TransportPairModel$Streams" (104 : Nat) "TransportPairModel$Streams" "ready" "[I") ∈ lw_all := lw_g (lw_at lw_m14 1 rfl) rfl
theorem q3368 : (Jvm.Cond.fieldLink "TransportPairModel$Streams" (107 : Nat) "TransportPairModel$Streams" "wasReset" "[Z") ∈ lw_all := lw_g (lw_at lw_m14 2 rfl) rfl
theorem q3369 : (Jvm.Cond.fieldLink "TransportPairModel$Streams" (110 : Nat) "TransportPairModel$Streams" "theirCode" "[J") ∈ lw_all := lw_g (lw_at lw_m14 3 rfl) rfl
theorem q3370 : (Jvm.Cond.fieldLink "TransportPairModel$Streams" (113 : Nat) "TransportPairModel$Streams" "grant" "[J") ∈ lw_all := lw_g (lw_at lw_m14 4 rfl) rfl
theorem q3371 : (Jvm.Cond.fieldLink "TransportPairModel$Streams" (116 : Nat) "TransportPairModel$Streams" "tellGrant" "[Z") ∈ lw_all := lw_g (lw_at lw_m14 5 rfl) rfl
theorem q3372 : (Jvm.Cond.fieldLink "TransportPairModel$Streams" (119 : Nat) "TransportPairModel$Streams" "stopped" "[Z") ∈ lw_all := lw_g (lw_at lw_m14 6 rfl) rfl
theorem q3373 : (Jvm.Cond.fieldLink "TransportPairModel$Streams" (122 : Nat) "TransportPairModel$Streams" "tellStop" "[Z") ∈ lw_all := lw_g (lw_at lw_m14 7 rfl) rfl
theorem q3374 : (Jvm.Cond.fieldLink "TransportPairModel$Streams" (125 : Nat) "TransportPairModel$Streams" "stopCode" "[J") ∈ lw_all := lw_g (lw_at lw_m14 8 rfl) rfl
theorem q3375 : (Jvm.Cond.fieldLink "TransportPairModel$Streams" (128 : Nat) "TransportPairModel$Streams" "over" "[Z") ∈ lw_all := lw_g (lw_at lw_m14 9 rfl) rfl
theorem q3376 : (Jvm.Cond.fieldLink "TransportPairModel$Streams" (131 : Nat) "TransportPairModel$Streams" "firstPiece" "[I") ∈ lw_all := lw_g (lw_at lw_m14 10 rfl) rfl
theorem q3377 : (Jvm.Cond.fieldLink "TransportPairModel$Streams" (134 : Nat) "TransportPairModel$Streams" "total" "[I") ∈ lw_all := lw_g (lw_at lw_m14 11 rfl) rfl
theorem q3378 : (Jvm.Cond.fieldLink "TransportPairModel$Streams" (138 : Nat) "TransportPairModel$Streams" "value" "[B") ∈ lw_all := lw_g (lw_at lw_m14 12 rfl) rfl
theorem q3379 : (Jvm.Cond.fieldLink "TransportPairModel$Streams" (142 : Nat) "TransportPairModel$Streams" "mark" "[B") ∈ lw_all := lw_g (lw_at lw_m14 13 rfl) rfl
theorem q3380 : (Jvm.Cond.fieldLink "TransportPairModel$Streams" (145 : Nat) "TransportPairModel$Streams" "next" "[I") ∈ lw_all := lw_g (lw_at lw_m14 14 rfl) rfl
theorem q3381 : (Jvm.Cond.fieldLink "TransportPairModel$Streams" (148 : Nat) "TransportPairModel$Streams" "allSent" "[I") ∈ lw_all := lw_g (lw_at lw_m14 15 rfl) rfl
theorem q3382 : (Jvm.Cond.fieldLink "TransportPairModel$Streams" (151 : Nat) "TransportPairModel$Streams" "pieces" "[I") ∈ lw_all := lw_g (lw_at lw_m14 16 rfl) rfl
theorem q3383 : (Jvm.Cond.fieldLink "TransportPairModel$Streams" (154 : Nat) "TransportPairModel$Streams" "pieceNumber" "[I") ∈ lw_all := lw_g (lw_at lw_m14 17 rfl) rfl
theorem q3384 : (Jvm.Cond.fieldLink "TransportPairModel$Streams" (157 : Nat) "TransportPairModel$Streams" "pieceNext" "[I") ∈ lw_all := lw_g (lw_at lw_m14 18 rfl) rfl
theorem q3385 : (Jvm.Cond.fieldLink "TransportPairModel$Streams" (160 : Nat) "TransportPairModel$Streams" "has" "[J") ∈ lw_all := lw_g (lw_at lw_m14 19 rfl) rfl
theorem q3386 : (Jvm.Cond.fieldLink "TransportPairModel$Streams" (164 : Nat) "TransportPairModel$Streams" "came" "[B") ∈ lw_all := lw_g (lw_at lw_m14 20 rfl) rfl
theorem q3387 : (Jvm.Cond.fieldLink "TransportPairModel$Streams" (289 : Nat) "TransportPairModel$Streams" "kind" "I") ∈ lw_all := lw_g (lw_at lw_m14 21 rfl) rfl
theorem q3388 : (Jvm.Cond.fieldLinkNest "TransportPairModel$Side" (624 : Nat) "TransportPairModel$Streams" "kind" "I" "TransportPairModel") ∈ lw_tbl := lw_at lw_m14 22 rfl
theorem q3389 : (Jvm.Cond.fieldLink "TransportPairModel$Streams" (253 : Nat) "TransportPairModel$Streams" "fa" "J") ∈ lw_all := lw_g (lw_at lw_m14 23 rfl) rfl
theorem q3390 : (Jvm.Cond.fieldLinkNest "TransportPairModel$Side" (625 : Nat) "TransportPairModel$Streams" "fa" "J" "TransportPairModel") ∈ lw_tbl := lw_at lw_m14 24 rfl
theorem q3391 : (Jvm.Cond.fieldLink "TransportPairModel$Streams" (261 : Nat) "TransportPairModel$Streams" "fb" "J") ∈ lw_all := lw_g (lw_at lw_m14 25 rfl) rfl
theorem q3392 : (Jvm.Cond.fieldLinkNest "TransportPairModel$Side" (628 : Nat) "TransportPairModel$Streams" "fb" "J" "TransportPairModel") ∈ lw_tbl := lw_at lw_m14 26 rfl
theorem q3393 : (Jvm.Cond.fieldLink "TransportPairModel$Streams" (268 : Nat) "TransportPairModel$Streams" "fc" "J") ∈ lw_all := lw_g (lw_at lw_m14 27 rfl) rfl
theorem q3394 : (Jvm.Cond.fieldLinkNest "TransportPairModel$Side" (634 : Nat) "TransportPairModel$Streams" "fc" "J" "TransportPairModel") ∈ lw_tbl := lw_at lw_m14 28 rfl
theorem q3395 : (Jvm.Cond.fieldLink "TransportPairModel$Streams" (264 : Nat) "TransportPairModel$Streams" "fSize" "I") ∈ lw_all := lw_g (lw_at lw_m14 29 rfl) rfl
theorem q3396 : (Jvm.Cond.fieldLinkNest "TransportPairModel$Side" (631 : Nat) "TransportPairModel$Streams" "fSize" "I" "TransportPairModel") ∈ lw_tbl := lw_at lw_m14 30 rfl
theorem q3397 : (Jvm.Cond.fieldLink "TransportPairModel$Streams" (167 : Nat) "TransportPairModel$Streams" "fData" "[I") ∈ lw_all := lw_g (lw_at lw_m14 31 rfl) rfl
theorem q3511 : (Jvm.Cond.classLink "TransportPairModel" (32 : Nat) "TransportPairModel$Side") ∈ lw_all := lw_g (lw_at lw_m14 145 rfl) rfl
theorem q3512 : (Jvm.Cond.arrayOver (Jvm.ClassFile.FieldType.object "TransportPairModel$Side")) ∈ lw_tbl := lw_at lw_m14 146 rfl
theorem q3513 : (Jvm.Cond.instantiable "TransportPairModel$Side" (53 : Nat)) ∈ lw_all := lw_g (lw_at lw_m14 147 rfl) rfl
theorem q3514 : (Jvm.Cond.methodLink "TransportPairModel" (34 : Nat) ({ cls := "TransportPairModel$Side", name := "<init>", desc := "(ILTransportPairModel$Seals;LTransportPairModel$Streams;)V" } : Jvm.MethodName)) ∈ lw_all := lw_g (lw_at lw_m14 148 rfl) rfl
theorem q3515 : (Jvm.Cond.instanceMethod ({ cls := "TransportPairModel$Side", name := "<init>", desc := "(ILTransportPairModel$Seals;LTransportPairModel$Streams;)V" } : Jvm.MethodName)) ∈ lw_all := lw_g (lw_at lw_m14 149 rfl) rfl
theorem q3516 : (Jvm.Cond.code ({ cls := "TransportPairModel$Side", name := "<init>", desc := "(ILTransportPairModel$Seals;LTransportPairModel$Streams;)V" } : Jvm.MethodName) prog_41_method_1_code (4 : Nat) (Option.none : Option Jvm.ClassFile.FieldType)) ∈ lw_all := lw_g (lw_at lw_m14 150 rfl) rfl
theorem q3517 : (Jvm.Cond.methodLink "TransportPairModel$Side" (3 : Nat) ({ cls := "java/lang/Object", name := "<init>", desc := "()V" } : Jvm.MethodName)) ∈ lw_all := lw_g (lw_at lw_m14 151 rfl) rfl
theorem q3518 : (Jvm.Cond.classLink "TransportPairModel$Side" (9 : Nat) "TransportPairModel$Book") ∈ lw_all := lw_g (lw_at lw_m14 152 rfl) rfl
theorem q3519 : (Jvm.Cond.instantiable "TransportPairModel$Book" (38 : Nat)) ∈ lw_all := lw_g (lw_at lw_m14 153 rfl) rfl
theorem q3520 : (Jvm.Cond.methodLink "TransportPairModel$Side" (11 : Nat) ({ cls := "TransportPairModel$Book", name := "<init>", desc := "()V" } : Jvm.MethodName)) ∈ lw_all := lw_g (lw_at lw_m14 154 rfl) rfl
theorem q3521 : (Jvm.Cond.instanceMethod ({ cls := "TransportPairModel$Book", name := "<init>", desc := "()V" } : Jvm.MethodName)) ∈ lw_all := lw_g (lw_at lw_m14 155 rfl) rfl
theorem q3522 : (Jvm.Cond.code ({ cls := "TransportPairModel$Book", name := "<init>", desc := "()V" } : Jvm.MethodName) prog_36_method_1_code (2 : Nat) (Option.none : Option Jvm.ClassFile.FieldType)) ∈ lw_all := lw_g (lw_at lw_m14 156 rfl) rfl
theorem q3523 : (Jvm.Cond.methodLink "TransportPairModel$Book" (3 : Nat) ({ cls := "java/lang/Object", name := "<init>", desc := "()V" } : Jvm.MethodName)) ∈ lw_all := lw_g (lw_at lw_m14 157 rfl) rfl
theorem q3524 : (Jvm.Cond.fieldLinkNest "TransportPairModel$Side" (193 : Nat) "TransportPairModel$Book" "time" "I" "TransportPairModel") ∈ lw_tbl := lw_at lw_m14 158 rfl
theorem q3525 : (Jvm.Cond.fieldLink "TransportPairModel$Book" (146 : Nat) "TransportPairModel$Book" "time" "I") ∈ lw_all := lw_g (lw_at lw_m14 159 rfl) rfl
theorem q3526 : (Jvm.Cond.fieldLink "TransportPairModel$Book" (121 : Nat) "TransportPairModel$Book" "confirmed" "Z") ∈ lw_all := lw_g (lw_at lw_m14 160 rfl) rfl
theorem q3527 : (Jvm.Cond.fieldLinkNest "TransportPairModel$Side" (351 : Nat) "TransportPairModel$Book" "confirmed" "Z" "TransportPairModel") ∈ lw_tbl := lw_at lw_m14 161 rfl
theorem q3528 : (Jvm.Cond.fieldLinkNest "TransportPairModel" (283 : Nat) "TransportPairModel$Book" "confirmed" "Z" "TransportPairModel") ∈ lw_tbl := lw_at lw_m14 162 rfl
theorem q3529 : (Jvm.Cond.fieldLinkNest "TransportPairModel$Side" (202 : Nat) "TransportPairModel$Book" "anxious" "Z" "TransportPairModel") ∈ lw_tbl := lw_at lw_m14 163 rfl
theorem q3530 : (Jvm.Cond.fieldLink "TransportPairModel$Book" (136 : Nat) "TransportPairModel$Book" "anxious" "Z") ∈ lw_all := lw_g (lw_at lw_m14 164 rfl) rfl
theorem q3531 : (Jvm.Cond.fieldLink "TransportPairModel$Book" (9 : Nat) "TransportPairModel$Book" "sent" "[I") ∈ lw_all := lw_g (lw_at lw_m14 165 rfl) rfl
theorem q3532 : (Jvm.Cond.fieldLinkNest "TransportPairModel$Side" (387 : Nat) "TransportPairModel$Book" "sent" "[I" "TransportPairModel") ∈ lw_tbl := lw_at lw_m14 166 rfl
theorem q3533 : (Jvm.Cond.fieldLink "TransportPairModel$Book" (15 : Nat) "TransportPairModel$Book" "size" "[I") ∈ lw_all := lw_g (lw_at lw_m14 167 rfl) rfl
theorem q3534 : (Jvm.Cond.fieldLink "TransportPairModel$Book" (18 : Nat) "TransportPairModel$Book" "when" "[I") ∈ lw_all := lw_g (lw_at lw_m14 168 rfl) rfl
theorem q3535 : (Jvm.Cond.fieldLink "TransportPairModel$Book" (21 : Nat) "TransportPairModel$Book" "state" "[B") ∈ lw_all := lw_g (lw_at lw_m14 169 rfl) rfl
theorem q3536 : (Jvm.Cond.fieldLink "TransportPairModel$Book" (25 : Nat) "TransportPairModel$Book" "eliciting" "[Z") ∈ lw_all := lw_g (lw_at lw_m14 170 rfl) rfl
theorem q3537 : (Jvm.Cond.fieldLink "TransportPairModel$Book" (29 : Nat) "TransportPairModel$Book" "counted" "[Z") ∈ lw_all := lw_g (lw_at lw_m14 171 rfl) rfl
theorem q3538 : (Jvm.Cond.fieldLink "TransportPairModel$Book" (32 : Nat) "TransportPairModel$Book" "filling" "[Z") ∈ lw_all := lw_g (lw_at lw_m14 172 rfl) rfl
theorem q3539 : (Jvm.Cond.fieldLink "TransportPairModel$Book" (35 : Nat) "TransportPairModel$Book" "firstOut" "[I") ∈ lw_all := lw_g (lw_at lw_m14 173 rfl) rfl
theorem q3540 : (Jvm.Cond.fieldLink "TransportPairModel$Book" (38 : Nat) "TransportPairModel$Book" "discarded" "[Z") ∈ lw_all := lw_g (lw_at lw_m14 174 rfl) rfl
theorem q3541 : (Jvm.Cond.fieldLinkNest "TransportPairModel$Side" (131 : Nat) "TransportPairModel$Book" "discarded" "[Z" "TransportPairModel") ∈ lw_tbl := lw_at lw_m14 175 rfl
theorem q3542 : (Jvm.Cond.fieldLink "TransportPairModel$Book" (41 : Nat) "TransportPairModel$Book" "top" "[I") ∈ lw_all := lw_g (lw_at lw_m14 176 rfl) rfl
theorem q3543 : (Jvm.Cond.fieldLinkNest "TransportPairModel$Side" (496 : Nat) "TransportPairModel$Book" "top" "[I" "TransportPairModel") ∈ lw_tbl := lw_at lw_m14 177 rfl
theorem q3544 : (Jvm.Cond.fieldLink "TransportPairModel$Book" (44 : Nat) "TransportPairModel$Book" "lossTime" "[I") ∈ lw_all := lw_g (lw_at lw_m14 178 rfl) rfl
theorem q3545 : (Jvm.Cond.fieldLink "TransportPairModel$Book" (143 : Nat) "TransportPairModel$Book" "latestSent" "I") ∈ lw_all := lw_g (lw_at lw_m14 179 rfl) rfl
theorem q3546 : (Jvm.Cond.fieldLink "TransportPairModel$Book" (47 : Nat) "TransportPairModel$Book" "found" "[S") ∈ lw_all := lw_g (lw_at lw_m14 180 rfl) rfl
theorem q3547 : (Jvm.Cond.fieldLink "TransportPairModel$Book" (51 : Nat) "TransportPairModel$Book" "founds" "[I") ∈ lw_all := lw_g (lw_at lw_m14 181 rfl) rfl
theorem q3548 : (Jvm.Cond.fieldLink "TransportPairModel$Book" (54 : Nat) "TransportPairModel$Book" "told" "[I") ∈ lw_all := lw_g (lw_at lw_m14 182 rfl) rfl
theorem q3549 : (Jvm.Cond.fieldLink "TransportPairModel$Book" (57 : Nat) "TransportPairModel$Book" "smooth" "I") ∈ lw_all := lw_g (lw_at lw_m14 183 rfl) rfl
theorem q3550 : (Jvm.Cond.fieldLink "TransportPairModel$Book" (61 : Nat) "TransportPairModel$Book" "vary" "I") ∈ lw_all := lw_g (lw_at lw_m14 184 rfl) rfl
theorem q3551 : (Jvm.Cond.fieldLink "TransportPairModel$Book" (118 : Nat) "TransportPairModel$Book" "latest" "I") ∈ lw_all := lw_g (lw_at lw_m14 185 rfl) rfl
theorem q3552 : (Jvm.Cond.fieldLink "TransportPairModel$Book" (64 : Nat) "TransportPairModel$Book" "least" "I") ∈ lw_all := lw_g (lw_at lw_m14 186 rfl) rfl
theorem q3553 : (Jvm.Cond.fieldLink "TransportPairModel$Book" (67 : Nat) "TransportPairModel$Book" "firstSample" "I") ∈ lw_all := lw_g (lw_at lw_m14 187 rfl) rfl
theorem q3554 : (Jvm.Cond.fieldLink "TransportPairModel$Book" (129 : Nat) "TransportPairModel$Book" "backoff" "I") ∈ lw_all := lw_g (lw_at lw_m14 188 rfl) rfl
theorem q3555 : (Jvm.Cond.fieldLink "TransportPairModel$Book" (70 : Nat) "TransportPairModel$Book" "window" "I") ∈ lw_all := lw_g (lw_at lw_m14 189 rfl) rfl
theorem q3556 : (Jvm.Cond.fieldLinkNest "TransportPairModel$Side" (568 : Nat) "TransportPairModel$Book" "window" "I" "TransportPairModel") ∈ lw_tbl := lw_at lw_m14 190 rfl
theorem q3557 : (Jvm.Cond.fieldLink "TransportPairModel$Book" (73 : Nat) "TransportPairModel$Book" "threshold" "I") ∈ lw_all := lw_g (lw_at lw_m14 191 rfl) rfl
theorem q3558 : (Jvm.Cond.fieldLink "TransportPairModel$Book" (76 : Nat) "TransportPairModel$Book" "recovery" "I") ∈ lw_all := lw_g (lw_at lw_m14 192 rfl) rfl
theorem q3559 : (Jvm.Cond.fieldLink "TransportPairModel$Book" (156 : Nat) "TransportPairModel$Book" "spans" "I") ∈ lw_all := lw_g (lw_at lw_m14 193 rfl) rfl
theorem q3560 : (Jvm.Cond.fieldLinkNest "TransportPairModel$Side" (367 : Nat) "TransportPairModel$Book" "spans" "I" "TransportPairModel") ∈ lw_tbl := lw_at lw_m14 194 rfl
theorem q3561 : (Jvm.Cond.fieldLink "TransportPairModel$Book" (79 : Nat) "TransportPairModel$Book" "spanLow" "[J") ∈ lw_all := lw_g (lw_at lw_m14 195 rfl) rfl
theorem q3562 : (Jvm.Cond.fieldLinkNest "TransportPairModel$Side" (357 : Nat) "TransportPairModel$Book" "spanLow" "[J" "TransportPairModel") ∈ lw_tbl := lw_at lw_m14 196 rfl
theorem q3563 : (Jvm.Cond.fieldLink "TransportPairModel$Book" (83 : Nat) "TransportPairModel$Book" "spanHigh" "[J") ∈ lw_all := lw_g (lw_at lw_m14 197 rfl) rfl
theorem q3564 : (Jvm.Cond.fieldLinkNest "TransportPairModel$Side" (364 : Nat) "TransportPairModel$Book" "spanHigh" "[J" "TransportPairModel") ∈ lw_tbl := lw_at lw_m14 198 rfl
theorem q3565 : (Jvm.Cond.fieldLink "TransportPairModel$Book" (86 : Nat) "TransportPairModel$Book" "ranges" "[I") ∈ lw_all := lw_g (lw_at lw_m14 199 rfl) rfl
theorem q3566 : (Jvm.Cond.fieldLinkNest "TransportPairModel$Side" (597 : Nat) "TransportPairModel$Book" "ranges" "[I" "TransportPairModel") ∈ lw_tbl := lw_at lw_m14 200 rfl
theorem q3567 : (Jvm.Cond.fieldLink "TransportPairModel$Book" (89 : Nat) "TransportPairModel$Book" "low" "[J") ∈ lw_all := lw_g (lw_at lw_m14 201 rfl) rfl
theorem q3568 : (Jvm.Cond.fieldLink "TransportPairModel$Book" (92 : Nat) "TransportPairModel$Book" "high" "[J") ∈ lw_all := lw_g (lw_at lw_m14 202 rfl) rfl
theorem q3569 : (Jvm.Cond.fieldLink "TransportPairModel$Book" (95 : Nat) "TransportPairModel$Book" "floor" "[J") ∈ lw_all := lw_g (lw_at lw_m14 203 rfl) rfl
theorem q3570 : (Jvm.Cond.fieldLink "TransportPairModel$Book" (98 : Nat) "TransportPairModel$Book" "greatestAt" "[I") ∈ lw_all := lw_g (lw_at lw_m14 204 rfl) rfl
theorem q3571 : (Jvm.Cond.fieldLink "TransportPairModel$Book" (101 : Nat) "TransportPairModel$Book" "pending" "[I") ∈ lw_all := lw_g (lw_at lw_m14 205 rfl) rfl
theorem q3572 : (Jvm.Cond.fieldLinkNest "TransportPairModel$Side" (594 : Nat) "TransportPairModel$Book" "pending" "[I" "TransportPairModel") ∈ lw_tbl := lw_at lw_m14 206 rfl
theorem q3573 : (Jvm.Cond.fieldLink "TransportPairModel$Book" (104 : Nat) "TransportPairModel$Book" "pendingFrom" "[I") ∈ lw_all := lw_g (lw_at lw_m14 207 rfl) rfl
theorem q3574 : (Jvm.Cond.fieldLink "TransportPairModel$Book" (107 : Nat) "TransportPairModel$Book" "odd" "[Z") ∈ lw_all := lw_g (lw_at lw_m14 208 rfl) rfl
theorem q3652 : (Jvm.Cond.classLink "TransportPairModel$Side" (39 : Nat) "TransportPairModel$Wire") ∈ lw_all := lw_g (lw_at lw_m15 46 rfl) rfl
theorem q3653 : (Jvm.Cond.instantiable "TransportPairModel$Wire" (10 : Nat)) ∈ lw_all := lw_g (lw_at lw_m15 47 rfl) rfl
theorem q3654 : (Jvm.Cond.methodLinkNest "TransportPairModel$Side" (41 : Nat) ({ cls := "TransportPairModel$Wire", name := "<init>", desc := "()V" } : Jvm.MethodName) "TransportPairModel") ∈ lw_tbl := lw_at lw_m15 48 rfl
theorem q3655 : (Jvm.Cond.instanceMethod ({ cls := "TransportPairModel$Wire", name := "<init>", desc := "()V" } : Jvm.MethodName)) ∈ lw_all := lw_g (lw_at lw_m15 49 rfl) rfl
theorem q3656 : (Jvm.Cond.code ({ cls := "TransportPairModel$Wire", name := "<init>", desc := "()V" } : Jvm.MethodName) prog_43_method_1_code (1 : Nat) (Option.none : Option Jvm.ClassFile.FieldType)) ∈ lw_all := lw_g (lw_at lw_m15 50 rfl) rfl
theorem q3657 : (Jvm.Cond.methodLink "TransportPairModel$Wire" (3 : Nat) ({ cls := "java/lang/Object", name := "<init>", desc := "()V" } : Jvm.MethodName)) ∈ lw_all := lw_g (lw_at lw_m15 51 rfl) rfl
theorem q3658 : (Jvm.Cond.fieldLink "TransportPairModel$Wire" (15 : Nat) "TransportPairModel$Wire" "row" "[I") ∈ lw_all := lw_g (lw_at lw_m15 52 rfl) rfl
theorem q3659 : (Jvm.Cond.fieldLinkNest "TransportPairModel$Side" (427 : Nat) "TransportPairModel$Wire" "row" "[I" "TransportPairModel") ∈ lw_tbl := lw_at lw_m15 53 rfl
theorem q3660 : (Jvm.Cond.fieldLinkNest "TransportPairModel$Streams" (301 : Nat) "TransportPairModel$Wire" "row" "[I" "TransportPairModel") ∈ lw_tbl := lw_at lw_m15 54 rfl
theorem q3661 : (Jvm.Cond.fieldLink "TransportPairModel$Wire" (19 : Nat) "TransportPairModel$Wire" "at" "I") ∈ lw_all := lw_g (lw_at lw_m15 55 rfl) rfl
theorem q3662 : (Jvm.Cond.fieldLinkNest "TransportPairModel$Side" (304 : Nat) "TransportPairModel$Wire" "at" "I" "TransportPairModel") ∈ lw_tbl := lw_at lw_m15 56 rfl
theorem q3663 : (Jvm.Cond.fieldLinkNest "TransportPairModel" (242 : Nat) "TransportPairModel$Wire" "at" "I" "TransportPairModel") ∈ lw_tbl := lw_at lw_m15 57 rfl
theorem q3664 : (Jvm.Cond.fieldLink "TransportPairModel$Wire" (23 : Nat) "TransportPairModel$Wire" "end" "I") ∈ lw_all := lw_g (lw_at lw_m15 58 rfl) rfl
theorem q3665 : (Jvm.Cond.fieldLink "TransportPairModel$Wire" (26 : Nat) "TransportPairModel$Wire" "over" "Z") ∈ lw_all := lw_g (lw_at lw_m15 59 rfl) rfl
theorem q3666 : (Jvm.Cond.fieldLinkNest "TransportPairModel$Side" (458 : Nat) "TransportPairModel$Wire" "over" "Z" "TransportPairModel") ∈ lw_tbl := lw_at lw_m15 60 rfl
theorem q3667 : (Jvm.Cond.fieldLinkNest "TransportPairModel" (233 : Nat) "TransportPairModel$Wire" "over" "Z" "TransportPairModel") ∈ lw_tbl := lw_at lw_m15 61 rfl
theorem q3668 : (Jvm.Cond.fieldLink "TransportPairModel$Wire" (70 : Nat) "TransportPairModel$Wire" "kind" "I") ∈ lw_all := lw_g (lw_at lw_m15 62 rfl) rfl
theorem q3669 : (Jvm.Cond.fieldLinkNest "TransportPairModel$Side" (311 : Nat) "TransportPairModel$Wire" "kind" "I" "TransportPairModel") ∈ lw_tbl := lw_at lw_m15 63 rfl
theorem q3670 : (Jvm.Cond.fieldLinkNest "TransportPairModel$Streams" (292 : Nat) "TransportPairModel$Wire" "kind" "I" "TransportPairModel") ∈ lw_tbl := lw_at lw_m15 64 rfl
theorem q3671 : (Jvm.Cond.fieldLink "TransportPairModel$Wire" (9 : Nat) "TransportPairModel$Wire" "field" "[J") ∈ lw_all := lw_g (lw_at lw_m15 65 rfl) rfl
theorem q3672 : (Jvm.Cond.fieldLinkNest "TransportPairModel$Side" (324 : Nat) "TransportPairModel$Wire" "field" "[J" "TransportPairModel") ∈ lw_tbl := lw_at lw_m15 66 rfl
theorem q3673 : (Jvm.Cond.fieldLinkNest "TransportPairModel$Streams" (295 : Nat) "TransportPairModel$Wire" "field" "[J" "TransportPairModel") ∈ lw_tbl := lw_at lw_m15 67 rfl
theorem q3674 : (Jvm.Cond.fieldLink "TransportPairModel$Wire" (46 : Nat) "TransportPairModel$Wire" "dataAt" "I") ∈ lw_all := lw_g (lw_at lw_m15 68 rfl) rfl
theorem q3675 : (Jvm.Cond.fieldLinkNest "TransportPairModel$Side" (430 : Nat) "TransportPairModel$Wire" "dataAt" "I" "TransportPairModel") ∈ lw_tbl := lw_at lw_m15 69 rfl
theorem q3676 : (Jvm.Cond.fieldLinkNest "TransportPairModel$Streams" (304 : Nat) "TransportPairModel$Wire" "dataAt" "I" "TransportPairModel") ∈ lw_tbl := lw_at lw_m15 70 rfl
theorem q3677 : (Jvm.Cond.fieldLink "TransportPairModel$Wire" (49 : Nat) "TransportPairModel$Wire" "dataSize" "I") ∈ lw_all := lw_g (lw_at lw_m15 71 rfl) rfl
theorem q3678 : (Jvm.Cond.fieldLinkNest "TransportPairModel$Side" (327 : Nat) "TransportPairModel$Wire" "dataSize" "I" "TransportPairModel") ∈ lw_tbl := lw_at lw_m15 72 rfl
theorem q3679 : (Jvm.Cond.fieldLinkNest "TransportPairModel$Streams" (298 : Nat) "TransportPairModel$Wire" "dataSize" "I" "TransportPairModel") ∈ lw_tbl := lw_at lw_m15 73 rfl
theorem q3680 : (Jvm.Cond.fieldLink "TransportPairModel$Wire" (67 : Nat) "TransportPairModel$Wire" "ranges" "I") ∈ lw_all := lw_g (lw_at lw_m15 74 rfl) rfl
theorem q3681 : (Jvm.Cond.fieldLinkNest "TransportPairModel$Side" (354 : Nat) "TransportPairModel$Wire" "ranges" "I" "TransportPairModel") ∈ lw_tbl := lw_at lw_m15 75 rfl
theorem q3682 : (Jvm.Cond.fieldLink "TransportPairModel$Wire" (64 : Nat) "TransportPairModel$Wire" "rangesAt" "I") ∈ lw_all := lw_g (lw_at lw_m15 76 rfl) rfl
theorem q3704 : (Jvm.Cond.classLink "TransportPairModel$Side" (77 : Nat) "TransportPairModel$Cargo") ∈ lw_all := lw_g (lw_at lw_m15 98 rfl) rfl
theorem q3705 : (Jvm.Cond.arrayOver (Jvm.ClassFile.FieldType.object "TransportPairModel$Cargo")) ∈ lw_tbl := lw_at lw_m15 99 rfl
theorem q3706 : (Jvm.Cond.instantiable "TransportPairModel$Cargo" (6 : Nat)) ∈ lw_all := lw_g (lw_at lw_m15 100 rfl) rfl
theorem q3707 : (Jvm.Cond.methodLinkNest "TransportPairModel$Side" (79 : Nat) ({ cls := "TransportPairModel$Cargo", name := "<init>", desc := "()V" } : Jvm.MethodName) "TransportPairModel") ∈ lw_tbl := lw_at lw_m15 101 rfl
theorem q3708 : (Jvm.Cond.instanceMethod ({ cls := "TransportPairModel$Cargo", name := "<init>", desc := "()V" } : Jvm.MethodName)) ∈ lw_all := lw_g (lw_at lw_m15 102 rfl) rfl
theorem q3709 : (Jvm.Cond.code ({ cls := "TransportPairModel$Cargo", name := "<init>", desc := "()V" } : Jvm.MethodName) prog_37_method_1_code (1 : Nat) (Option.none : Option Jvm.ClassFile.FieldType)) ∈ lw_all := lw_g (lw_at lw_m15 103 rfl) rfl
theorem q3710 : (Jvm.Cond.methodLink "TransportPairModel$Cargo" (1 : Nat) ({ cls := "java/lang/Object", name := "<init>", desc := "()V" } : Jvm.MethodName)) ∈ lw_all := lw_g (lw_at lw_m15 104 rfl) rfl
theorem q3711 : (Jvm.Cond.fieldLink "TransportPairModel$Cargo" (27 : Nat) "TransportPairModel$Cargo" "many" "I") ∈ lw_all := lw_g (lw_at lw_m15 105 rfl) rfl
theorem q3712 : (Jvm.Cond.fieldLinkNest "TransportPairModel$Side" (390 : Nat) "TransportPairModel$Cargo" "many" "I" "TransportPairModel") ∈ lw_tbl := lw_at lw_m15 106 rfl
theorem q3713 : (Jvm.Cond.fieldLinkNest "TransportPairModel" (307 : Nat) "TransportPairModel$Cargo" "many" "I" "TransportPairModel") ∈ lw_tbl := lw_at lw_m15 107 rfl
theorem q3714 : (Jvm.Cond.fieldLink "TransportPairModel$Cargo" (7 : Nat) "TransportPairModel$Cargo" "kind" "[B") ∈ lw_all := lw_g (lw_at lw_m15 108 rfl) rfl
theorem q3715 : (Jvm.Cond.fieldLinkNest "TransportPairModel$Side" (393 : Nat) "TransportPairModel$Cargo" "kind" "[B" "TransportPairModel") ∈ lw_tbl := lw_at lw_m15 109 rfl
theorem q3716 : (Jvm.Cond.fieldLink "TransportPairModel$Cargo" (13 : Nat) "TransportPairModel$Cargo" "size" "[I") ∈ lw_all := lw_g (lw_at lw_m15 110 rfl) rfl
theorem q3717 : (Jvm.Cond.fieldLinkNest "TransportPairModel$Side" (398 : Nat) "TransportPairModel$Cargo" "size" "[I" "TransportPairModel") ∈ lw_tbl := lw_at lw_m15 111 rfl
theorem q3718 : (Jvm.Cond.fieldLink "TransportPairModel$Cargo" (17 : Nat) "TransportPairModel$Cargo" "a" "[J") ∈ lw_all := lw_g (lw_at lw_m15 112 rfl) rfl
theorem q3719 : (Jvm.Cond.fieldLinkNest "TransportPairModel$Side" (409 : Nat) "TransportPairModel$Cargo" "a" "[J" "TransportPairModel") ∈ lw_tbl := lw_at lw_m15 113 rfl
theorem q3720 : (Jvm.Cond.fieldLink "TransportPairModel$Cargo" (21 : Nat) "TransportPairModel$Cargo" "b" "[J") ∈ lw_all := lw_g (lw_at lw_m15 114 rfl) rfl
theorem q3721 : (Jvm.Cond.fieldLinkNest "TransportPairModel$Side" (395 : Nat) "TransportPairModel$Cargo" "b" "[J" "TransportPairModel") ∈ lw_tbl := lw_at lw_m15 115 rfl
theorem q3722 : (Jvm.Cond.fieldLink "TransportPairModel$Cargo" (24 : Nat) "TransportPairModel$Cargo" "c" "[B") ∈ lw_all := lw_g (lw_at lw_m15 116 rfl) rfl
theorem q3723 : (Jvm.Cond.fieldLinkNest "TransportPairModel$Side" (412 : Nat) "TransportPairModel$Cargo" "c" "[B" "TransportPairModel") ∈ lw_tbl := lw_at lw_m15 117 rfl
theorem q3737 : (Jvm.Cond.classLink "TransportPairModel$Side" (87 : Nat) "TransportPairModel$Draft") ∈ lw_all := lw_g (lw_at lw_m15 131 rfl) rfl
theorem q3738 : (Jvm.Cond.arrayOver (Jvm.ClassFile.FieldType.object "TransportPairModel$Draft")) ∈ lw_tbl := lw_at lw_m15 132 rfl
theorem q3739 : (Jvm.Cond.instantiable "TransportPairModel$Draft" (2 : Nat)) ∈ lw_all := lw_g (lw_at lw_m15 133 rfl) rfl
theorem q3740 : (Jvm.Cond.methodLinkNest "TransportPairModel$Side" (89 : Nat) ({ cls := "TransportPairModel$Draft", name := "<init>", desc := "()V" } : Jvm.MethodName) "TransportPairModel") ∈ lw_tbl := lw_at lw_m15 134 rfl
theorem q3741 : (Jvm.Cond.instanceMethod ({ cls := "TransportPairModel$Draft", name := "<init>", desc := "()V" } : Jvm.MethodName)) ∈ lw_all := lw_g (lw_at lw_m15 135 rfl) rfl
theorem q3742 : (Jvm.Cond.code ({ cls := "TransportPairModel$Draft", name := "<init>", desc := "()V" } : Jvm.MethodName) prog_38_method_1_code (1 : Nat) (Option.none : Option Jvm.ClassFile.FieldType)) ∈ lw_all := lw_g (lw_at lw_m15 136 rfl) rfl
theorem q3743 : (Jvm.Cond.methodLink "TransportPairModel$Draft" (1 : Nat) ({ cls := "java/lang/Object", name := "<init>", desc := "()V" } : Jvm.MethodName)) ∈ lw_all := lw_g (lw_at lw_m15 137 rfl) rfl
theorem q3744 : (Jvm.Cond.fieldLink "TransportPairModel$Draft" (7 : Nat) "TransportPairModel$Draft" "row" "[I") ∈ lw_all := lw_g (lw_at lw_m15 138 rfl) rfl
theorem q3745 : (Jvm.Cond.fieldLinkNest "TransportPairModel" (220 : Nat) "TransportPairModel$Draft" "row" "[I" "TransportPairModel") ∈ lw_tbl := lw_at lw_m15 139 rfl
theorem q3746 : (Jvm.Cond.fieldLinkNest "TransportPairModel$Side" (544 : Nat) "TransportPairModel$Draft" "row" "[I" "TransportPairModel") ∈ lw_tbl := lw_at lw_m15 140 rfl
theorem q3747 : (Jvm.Cond.fieldLink "TransportPairModel$Draft" (13 : Nat) "TransportPairModel$Draft" "size" "I") ∈ lw_all := lw_g (lw_at lw_m15 141 rfl) rfl
theorem q3748 : (Jvm.Cond.fieldLinkNest "TransportPairModel" (223 : Nat) "TransportPairModel$Draft" "size" "I" "TransportPairModel") ∈ lw_tbl := lw_at lw_m15 142 rfl
theorem q3749 : (Jvm.Cond.fieldLinkNest "TransportPairModel$Side" (509 : Nat) "TransportPairModel$Draft" "size" "I" "TransportPairModel") ∈ lw_tbl := lw_at lw_m15 143 rfl
theorem q3755 : (Jvm.Cond.classLink "TransportPairModel$Side" (119 : Nat) "TransportPairModel$Greet") ∈ lw_all := lw_g (lw_at lw_m15 149 rfl) rfl
theorem q3756 : (Jvm.Cond.instantiable "TransportPairModel$Greet" (23 : Nat)) ∈ lw_all := lw_g (lw_at lw_m15 150 rfl) rfl
theorem q3757 : (Jvm.Cond.methodLink "TransportPairModel$Side" (121 : Nat) ({ cls := "TransportPairModel$Greet", name := "<init>", desc := "(ILTransportPairModel$Seals;)V" } : Jvm.MethodName)) ∈ lw_all := lw_g (lw_at lw_m15 151 rfl) rfl
theorem q3758 : (Jvm.Cond.instanceMethod ({ cls := "TransportPairModel$Greet", name := "<init>", desc := "(ILTransportPairModel$Seals;)V" } : Jvm.MethodName)) ∈ lw_all := lw_g (lw_at lw_m15 152 rfl) rfl
theorem q3759 : (Jvm.Cond.code ({ cls := "TransportPairModel$Greet", name := "<init>", desc := "(ILTransportPairModel$Seals;)V" } : Jvm.MethodName) prog_39_method_1_code (3 : Nat) (Option.none : Option Jvm.ClassFile.FieldType)) ∈ lw_all := lw_g (lw_at lw_m15 153 rfl) rfl
theorem q3760 : (Jvm.Cond.methodLink "TransportPairModel$Greet" (3 : Nat) ({ cls := "java/lang/Object", name := "<init>", desc := "()V" } : Jvm.MethodName)) ∈ lw_all := lw_g (lw_at lw_m15 154 rfl) rfl
theorem q3761 : (Jvm.Cond.fieldLink "TransportPairModel$Greet" (61 : Nat) "TransportPairModel$Greet" "side" "I") ∈ lw_all := lw_g (lw_at lw_m15 155 rfl) rfl
theorem q3762 : (Jvm.Cond.fieldLink "TransportPairModel$Greet" (64 : Nat) "TransportPairModel$Greet" "seals" "LTransportPairModel$Seals;") ∈ lw_all := lw_g (lw_at lw_m15 156 rfl) rfl
theorem q3763 : (Jvm.Cond.fieldLink "TransportPairModel$Greet" (9 : Nat) "TransportPairModel$Greet" "key" "[I") ∈ lw_all := lw_g (lw_at lw_m15 157 rfl) rfl
theorem q3764 : (Jvm.Cond.fieldLinkNest "TransportPairModel" (117 : Nat) "TransportPairModel$Greet" "key" "[I" "TransportPairModel") ∈ lw_tbl := lw_at lw_m15 158 rfl
theorem q3765 : (Jvm.Cond.fieldLink "TransportPairModel$Greet" (15 : Nat) "TransportPairModel$Greet" "random" "[I") ∈ lw_all := lw_g (lw_at lw_m15 159 rfl) rfl
theorem q3766 : (Jvm.Cond.fieldLinkNest "TransportPairModel$Side" (167 : Nat) "TransportPairModel$Greet" "random" "[I" "TransportPairModel") ∈ lw_tbl := lw_at lw_m15 160 rfl
theorem q3767 : (Jvm.Cond.fieldLinkNest "TransportPairModel" (126 : Nat) "TransportPairModel$Greet" "random" "[I" "TransportPairModel") ∈ lw_tbl := lw_at lw_m15 161 rfl
theorem q3768 : (Jvm.Cond.fieldLink "TransportPairModel$Greet" (18 : Nat) "TransportPairModel$Greet" "own" "[I") ∈ lw_all := lw_g (lw_at lw_m15 162 rfl) rfl
theorem q3769 : (Jvm.Cond.fieldLinkNest "TransportPairModel$Side" (151 : Nat) "TransportPairModel$Greet" "own" "[I" "TransportPairModel") ∈ lw_tbl := lw_at lw_m15 163 rfl
theorem q3770 : (Jvm.Cond.fieldLinkNest "TransportPairModel$Side" (154 : Nat) "TransportPairModel$Greet" "ownSize" "I" "TransportPairModel") ∈ lw_tbl := lw_at lw_m15 164 rfl
theorem q3771 : (Jvm.Cond.fieldLink "TransportPairModel$Greet" (84 : Nat) "TransportPairModel$Greet" "ownSize" "I") ∈ lw_all := lw_g (lw_at lw_m15 165 rfl) rfl
theorem q3772 : (Jvm.Cond.fieldLink "TransportPairModel$Greet" (95 : Nat) "TransportPairModel$Greet" "waits" "I") ∈ lw_all := lw_g (lw_at lw_m15 166 rfl) rfl
theorem q3773 : (Jvm.Cond.fieldLinkNest "TransportPairModel" (291 : Nat) "TransportPairModel$Greet" "waits" "I" "TransportPairModel") ∈ lw_tbl := lw_at lw_m15 167 rfl
theorem q3774 : (Jvm.Cond.fieldLink "TransportPairModel$Greet" (118 : Nat) "TransportPairModel$Greet" "finished" "Z") ∈ lw_all := lw_g (lw_at lw_m15 168 rfl) rfl
theorem q3775 : (Jvm.Cond.fieldLinkNest "TransportPairModel$Side" (446 : Nat) "TransportPairModel$Greet" "finished" "Z" "TransportPairModel") ∈ lw_tbl := lw_at lw_m15 169 rfl
theorem q3776 : (Jvm.Cond.fieldLink "TransportPairModel$Greet" (130 : Nat) "TransportPairModel$Greet" "fault" "I") ∈ lw_all := lw_g (lw_at lw_m15 170 rfl) rfl
theorem q3777 : (Jvm.Cond.fieldLink "TransportPairModel$Greet" (21 : Nat) "TransportPairModel$Greet" "sent" "[I") ∈ lw_all := lw_g (lw_at lw_m15 171 rfl) rfl
theorem q3778 : (Jvm.Cond.fieldLinkNest "TransportPairModel$Side" (608 : Nat) "TransportPairModel$Greet" "sent" "[I" "TransportPairModel") ∈ lw_tbl := lw_at lw_m15 172 rfl
theorem q3779 : (Jvm.Cond.fieldLink "TransportPairModel$Greet" (24 : Nat) "TransportPairModel$Greet" "sentSize" "[I") ∈ lw_all := lw_g (lw_at lw_m15 173 rfl) rfl
theorem q3780 : (Jvm.Cond.fieldLinkNest "TransportPairModel$Side" (603 : Nat) "TransportPairModel$Greet" "sentSize" "[I" "TransportPairModel") ∈ lw_tbl := lw_at lw_m15 174 rfl
theorem q3781 : (Jvm.Cond.fieldLink "TransportPairModel$Greet" (27 : Nat) "TransportPairModel$Greet" "waiting" "[I") ∈ lw_all := lw_g (lw_at lw_m15 175 rfl) rfl
theorem q3782 : (Jvm.Cond.fieldLink "TransportPairModel$Greet" (30 : Nat) "TransportPairModel$Greet" "waitingSize" "[I") ∈ lw_all := lw_g (lw_at lw_m15 176 rfl) rfl
theorem q3783 : (Jvm.Cond.fieldLink "TransportPairModel$Greet" (33 : Nat) "TransportPairModel$Greet" "theirs" "[I") ∈ lw_all := lw_g (lw_at lw_m15 177 rfl) rfl
theorem q3784 : (Jvm.Cond.fieldLinkNest "TransportPairModel$Side" (452 : Nat) "TransportPairModel$Greet" "theirs" "[I" "TransportPairModel") ∈ lw_tbl := lw_at lw_m15 178 rfl
theorem q3785 : (Jvm.Cond.fieldLink "TransportPairModel$Greet" (36 : Nat) "TransportPairModel$Greet" "theirsSize" "I") ∈ lw_all := lw_g (lw_at lw_m15 179 rfl) rfl
theorem q3786 : (Jvm.Cond.fieldLinkNest "TransportPairModel$Side" (437 : Nat) "TransportPairModel$Greet" "theirsSize" "I" "TransportPairModel") ∈ lw_tbl := lw_at lw_m15 180 rfl
theorem q3787 : (Jvm.Cond.fieldLink "TransportPairModel$Greet" (40 : Nat) "TransportPairModel$Greet" "talk" "[I") ∈ lw_all := lw_g (lw_at lw_m15 181 rfl) rfl
theorem q3788 : (Jvm.Cond.fieldLink "TransportPairModel$Greet" (78 : Nat) "TransportPairModel$Greet" "talkSize" "I") ∈ lw_all := lw_g (lw_at lw_m15 182 rfl) rfl
theorem q3789 : (Jvm.Cond.fieldLink "TransportPairModel$Greet" (43 : Nat) "TransportPairModel$Greet" "secrets" "[I") ∈ lw_all := lw_g (lw_at lw_m15 183 rfl) rfl
theorem q3790 : (Jvm.Cond.fieldLinkNest "TransportPairModel$Side" (178 : Nat) "TransportPairModel$Greet" "secrets" "[I" "TransportPairModel") ∈ lw_tbl := lw_at lw_m15 184 rfl
theorem q3791 : (Jvm.Cond.fieldLink "TransportPairModel$Greet" (46 : Nat) "TransportPairModel$Greet" "level" "I") ∈ lw_all := lw_g (lw_at lw_m15 185 rfl) rfl
theorem q3792 : (Jvm.Cond.fieldLinkNest "TransportPairModel$Side" (181 : Nat) "TransportPairModel$Greet" "level" "I" "TransportPairModel") ∈ lw_tbl := lw_at lw_m15 186 rfl
theorem q3793 : (Jvm.Cond.fieldLinkNest "TransportPairModel" (294 : Nat) "TransportPairModel$Greet" "level" "I" "TransportPairModel") ∈ lw_tbl := lw_at lw_m15 187 rfl
theorem q3794 : (Jvm.Cond.fieldLink "TransportPairModel$Greet" (49 : Nat) "TransportPairModel$Greet" "greet" "[I") ∈ lw_all := lw_g (lw_at lw_m15 188 rfl) rfl
theorem q3795 : (Jvm.Cond.fieldLink "TransportPairModel$Greet" (52 : Nat) "TransportPairModel$Greet" "digest" "[I") ∈ lw_all := lw_g (lw_at lw_m15 189 rfl) rfl
theorem q3796 : (Jvm.Cond.fieldLink "TransportPairModel$Greet" (55 : Nat) "TransportPairModel$Greet" "proof" "[I") ∈ lw_all := lw_g (lw_at lw_m15 190 rfl) rfl
theorem q3797 : (Jvm.Cond.fieldLink "TransportPairModel$Greet" (58 : Nat) "TransportPairModel$Greet" "base" "[I") ∈ lw_all := lw_g (lw_at lw_m15 191 rfl) rfl
theorem q3845 : (Jvm.Cond.fieldLink "TransportPairModel$Side" (107 : Nat) "TransportPairModel$Side" "number" "I") ∈ lw_all := lw_g (lw_at lw_m15 239 rfl) rfl
theorem q3846 : (Jvm.Cond.fieldLink "TransportPairModel$Side" (111 : Nat) "TransportPairModel$Side" "seals" "LTransportPairModel$Seals;") ∈ lw_all := lw_g (lw_at lw_m16 0 rfl) rfl
theorem q3847 : (Jvm.Cond.fieldLink "TransportPairModel$Side" (115 : Nat) "TransportPairModel$Side" "streams" "LTransportPairModel$Streams;") ∈ lw_all := lw_g (lw_at lw_m16 1 rfl) rfl
theorem q3848 : (Jvm.Cond.fieldLink "TransportPairModel$Side" (124 : Nat) "TransportPairModel$Side" "greet" "LTransportPairModel$Greet;") ∈ lw_all := lw_g (lw_at lw_m16 2 rfl) rfl
theorem q3849 : (Jvm.Cond.fieldLinkNest "TransportPairModel" (113 : Nat) "TransportPairModel$Side" "greet" "LTransportPairModel$Greet;" "TransportPairModel") ∈ lw_tbl := lw_at lw_m16 3 rfl
theorem q3850 : (Jvm.Cond.fieldLink "TransportPairModel$Side" (12 : Nat) "TransportPairModel$Side" "book" "LTransportPairModel$Book;") ∈ lw_all := lw_g (lw_at lw_m16 4 rfl) rfl
theorem q3851 : (Jvm.Cond.fieldLinkNest "TransportPairModel" (279 : Nat) "TransportPairModel$Side" "book" "LTransportPairModel$Book;" "TransportPairModel") ∈ lw_tbl := lw_at lw_m16 5 rfl
theorem q3852 : (Jvm.Cond.fieldLink "TransportPairModel$Side" (18 : Nat) "TransportPairModel$Side" "parameters" "[J") ∈ lw_all := lw_g (lw_at lw_m16 6 rfl) rfl
theorem q3853 : (Jvm.Cond.fieldLinkNest "TransportPairModel" (87 : Nat) "TransportPairModel$Side" "parameters" "[J" "TransportPairModel") ∈ lw_tbl := lw_at lw_m16 7 rfl
theorem q3854 : (Jvm.Cond.fieldLinkNest "TransportPairModel" (122 : Nat) "TransportPairModel$Side" "keyed" "Z" "TransportPairModel") ∈ lw_tbl := lw_at lw_m16 8 rfl
theorem q3855 : (Jvm.Cond.fieldLinkNest "TransportPairModel" (129 : Nat) "TransportPairModel$Side" "drawn" "Z" "TransportPairModel") ∈ lw_tbl := lw_at lw_m16 9 rfl
theorem q3856 : (Jvm.Cond.fieldLink "TransportPairModel$Side" (128 : Nat) "TransportPairModel$Side" "state" "I") ∈ lw_all := lw_g (lw_at lw_m16 10 rfl) rfl
theorem q3857 : (Jvm.Cond.fieldLinkNest "TransportPairModel" (110 : Nat) "TransportPairModel$Side" "state" "I" "TransportPairModel") ∈ lw_tbl := lw_at lw_m16 11 rfl
theorem q3858 : (Jvm.Cond.fieldLink "TransportPairModel$Side" (227 : Nat) "TransportPairModel$Side" "reason" "I") ∈ lw_all := lw_g (lw_at lw_m16 12 rfl) rfl
theorem q3859 : (Jvm.Cond.fieldLinkNest "TransportPairModel" (276 : Nat) "TransportPairModel$Side" "reason" "I" "TransportPairModel") ∈ lw_tbl := lw_at lw_m16 13 rfl
theorem q3860 : (Jvm.Cond.fieldLink "TransportPairModel$Side" (296 : Nat) "TransportPairModel$Side" "validated" "Z") ∈ lw_all := lw_g (lw_at lw_m16 14 rfl) rfl
theorem q3861 : (Jvm.Cond.fieldLinkNest "TransportPairModel" (288 : Nat) "TransportPairModel$Side" "validated" "Z" "TransportPairModel") ∈ lw_tbl := lw_at lw_m16 15 rfl
theorem q3862 : (Jvm.Cond.fieldLinkNest "TransportPairModel" (257 : Nat) "TransportPairModel$Side" "came" "I" "TransportPairModel") ∈ lw_tbl := lw_at lw_m16 16 rfl
theorem q3863 : (Jvm.Cond.fieldLink "TransportPairModel$Side" (515 : Nat) "TransportPairModel$Side" "came" "I") ∈ lw_all := lw_g (lw_at lw_m16 17 rfl) rfl
theorem q3864 : (Jvm.Cond.fieldLink "TransportPairModel$Side" (517 : Nat) "TransportPairModel$Side" "sent" "I") ∈ lw_all := lw_g (lw_at lw_m16 18 rfl) rfl
theorem q3865 : (Jvm.Cond.fieldLinkNest "TransportPairModel" (297 : Nat) "TransportPairModel$Side" "sent" "I" "TransportPairModel") ∈ lw_tbl := lw_at lw_m16 19 rfl
theorem q3866 : (Jvm.Cond.fieldLink "TransportPairModel$Side" (22 : Nat) "TransportPairModel$Side" "to" "[I") ∈ lw_all := lw_g (lw_at lw_m16 20 rfl) rfl
theorem q3867 : (Jvm.Cond.fieldLink "TransportPairModel$Side" (205 : Nat) "TransportPairModel$Side" "toSize" "I") ∈ lw_all := lw_g (lw_at lw_m16 21 rfl) rfl
theorem q3868 : (Jvm.Cond.fieldLink "TransportPairModel$Side" (293 : Nat) "TransportPairModel$Side" "knowsTo" "Z") ∈ lw_all := lw_g (lw_at lw_m16 22 rfl) rfl
theorem q3869 : (Jvm.Cond.fieldLink "TransportPairModel$Side" (26 : Nat) "TransportPairModel$Side" "firstName" "[I") ∈ lw_all := lw_g (lw_at lw_m16 23 rfl) rfl
theorem q3870 : (Jvm.Cond.fieldLink "TransportPairModel$Side" (170 : Nat) "TransportPairModel$Side" "named" "Z") ∈ lw_all := lw_g (lw_at lw_m16 24 rfl) rfl
theorem q3871 : (Jvm.Cond.fieldLink "TransportPairModel$Side" (29 : Nat) "TransportPairModel$Side" "guards" "[I") ∈ lw_all := lw_g (lw_at lw_m16 25 rfl) rfl
theorem q3872 : (Jvm.Cond.fieldLink "TransportPairModel$Side" (32 : Nat) "TransportPairModel$Side" "armed" "[Z") ∈ lw_all := lw_g (lw_at lw_m16 26 rfl) rfl
theorem q3873 : (Jvm.Cond.fieldLink "TransportPairModel$Side" (36 : Nat) "TransportPairModel$Side" "scratch" "[I") ∈ lw_all := lw_g (lw_at lw_m16 27 rfl) rfl
theorem q3874 : (Jvm.Cond.fieldLink "TransportPairModel$Side" (42 : Nat) "TransportPairModel$Side" "wire" "LTransportPairModel$Wire;") ∈ lw_all := lw_g (lw_at lw_m16 28 rfl) rfl
theorem q3875 : (Jvm.Cond.fieldLink "TransportPairModel$Side" (46 : Nat) "TransportPairModel$Side" "theirs" "[J") ∈ lw_all := lw_g (lw_at lw_m16 29 rfl) rfl
theorem q3876 : (Jvm.Cond.fieldLink "TransportPairModel$Side" (49 : Nat) "TransportPairModel$Side" "theirNames" "[I") ∈ lw_all := lw_g (lw_at lw_m16 30 rfl) rfl
theorem q3877 : (Jvm.Cond.fieldLink "TransportPairModel$Side" (440 : Nat) "TransportPairModel$Side" "known" "Z") ∈ lw_all := lw_g (lw_at lw_m16 31 rfl) rfl
theorem q3878 : (Jvm.Cond.fieldLink "TransportPairModel$Side" (52 : Nat) "TransportPairModel$Side" "crypto" "[I") ∈ lw_all := lw_g (lw_at lw_m16 32 rfl) rfl
theorem q3879 : (Jvm.Cond.fieldLink "TransportPairModel$Side" (55 : Nat) "TransportPairModel$Side" "hasCrypto" "[Z") ∈ lw_all := lw_g (lw_at lw_m16 33 rfl) rfl
theorem q3880 : (Jvm.Cond.fieldLink "TransportPairModel$Side" (58 : Nat) "TransportPairModel$Side" "taken" "[I") ∈ lw_all := lw_g (lw_at lw_m16 34 rfl) rfl
theorem q3881 : (Jvm.Cond.fieldLink "TransportPairModel$Side" (61 : Nat) "TransportPairModel$Side" "cryptoMark" "[B") ∈ lw_all := lw_g (lw_at lw_m16 35 rfl) rfl
theorem q3882 : (Jvm.Cond.fieldLink "TransportPairModel$Side" (65 : Nat) "TransportPairModel$Side" "cryptoSent" "[I") ∈ lw_all := lw_g (lw_at lw_m16 36 rfl) rfl
theorem q3883 : (Jvm.Cond.fieldLink "TransportPairModel$Side" (422 : Nat) "TransportPairModel$Side" "doneDue" "Z") ∈ lw_all := lw_g (lw_at lw_m16 37 rfl) rfl
theorem q3884 : (Jvm.Cond.fieldLink "TransportPairModel$Side" (419 : Nat) "TransportPairModel$Side" "doneHere" "Z") ∈ lw_all := lw_g (lw_at lw_m16 38 rfl) rfl
theorem q3885 : (Jvm.Cond.fieldLink "TransportPairModel$Side" (333 : Nat) "TransportPairModel$Side" "responseDue" "Z") ∈ lw_all := lw_g (lw_at lw_m16 39 rfl) rfl
theorem q3886 : (Jvm.Cond.fieldLink "TransportPairModel$Side" (336 : Nat) "TransportPairModel$Side" "response" "J") ∈ lw_all := lw_g (lw_at lw_m16 40 rfl) rfl
theorem q3887 : (Jvm.Cond.fieldLink "TransportPairModel$Side" (68 : Nat) "TransportPairModel$Side" "probes" "[I") ∈ lw_all := lw_g (lw_at lw_m16 41 rfl) rfl
theorem q3888 : (Jvm.Cond.fieldLinkNest "TransportPairModel" (300 : Nat) "TransportPairModel$Side" "probes" "[I" "TransportPairModel") ∈ lw_tbl := lw_at lw_m16 42 rfl
theorem q3889 : (Jvm.Cond.fieldLink "TransportPairModel$Side" (217 : Nat) "TransportPairModel$Side" "over" "I") ∈ lw_all := lw_g (lw_at lw_m16 43 rfl) rfl
theorem q3890 : (Jvm.Cond.fieldLink "TransportPairModel$Side" (230 : Nat) "TransportPairModel$Side" "closeDue" "Z") ∈ lw_all := lw_g (lw_at lw_m16 44 rfl) rfl
theorem q3891 : (Jvm.Cond.fieldLinkNest "TransportPairModel" (263 : Nat) "TransportPairModel$Side" "closeDue" "Z" "TransportPairModel") ∈ lw_tbl := lw_at lw_m16 45 rfl
theorem q3892 : (Jvm.Cond.fieldLink "TransportPairModel$Side" (233 : Nat) "TransportPairModel$Side" "closeKind" "I") ∈ lw_all := lw_g (lw_at lw_m16 46 rfl) rfl
theorem q3893 : (Jvm.Cond.fieldLink "TransportPairModel$Side" (236 : Nat) "TransportPairModel$Side" "closeCode" "I") ∈ lw_all := lw_g (lw_at lw_m16 47 rfl) rfl
theorem q3894 : (Jvm.Cond.fieldLink "TransportPairModel$Side" (239 : Nat) "TransportPairModel$Side" "closedCame" "I") ∈ lw_all := lw_g (lw_at lw_m16 48 rfl) rfl
theorem q3895 : (Jvm.Cond.fieldLinkNest "TransportPairModel" (260 : Nat) "TransportPairModel$Side" "closedCame" "I" "TransportPairModel") ∈ lw_tbl := lw_at lw_m16 49 rfl
theorem q3896 : (Jvm.Cond.fieldLink "TransportPairModel$Side" (196 : Nat) "TransportPairModel$Side" "quietFrom" "I") ∈ lw_all := lw_g (lw_at lw_m16 50 rfl) rfl
theorem q3897 : (Jvm.Cond.fieldLink "TransportPairModel$Side" (199 : Nat) "TransportPairModel$Side" "elicited" "Z") ∈ lw_all := lw_g (lw_at lw_m16 51 rfl) rfl
theorem q3898 : (Jvm.Cond.fieldLink "TransportPairModel$Side" (71 : Nat) "TransportPairModel$Side" "raw" "[I") ∈ lw_all := lw_g (lw_at lw_m16 52 rfl) rfl
theorem q3899 : (Jvm.Cond.fieldLinkNest "TransportPairModel" (171 : Nat) "TransportPairModel$Side" "raw" "[I" "TransportPairModel") ∈ lw_tbl := lw_at lw_m16 53 rfl
theorem q3900 : (Jvm.Cond.fieldLinkNest "TransportPairModel" (174 : Nat) "TransportPairModel$Side" "rawSize" "I" "TransportPairModel") ∈ lw_tbl := lw_at lw_m16 54 rfl
theorem q3901 : (Jvm.Cond.fieldLink "TransportPairModel$Side" (559 : Nat) "TransportPairModel$Side" "rawSize" "I") ∈ lw_all := lw_g (lw_at lw_m16 55 rfl) rfl
theorem q3902 : (Jvm.Cond.fieldLink "TransportPairModel$Side" (74 : Nat) "TransportPairModel$Side" "cargoFrom" "[I") ∈ lw_all := lw_g (lw_at lw_m16 56 rfl) rfl
theorem q3903 : (Jvm.Cond.fieldLink "TransportPairModel$Side" (80 : Nat) "TransportPairModel$Side" "cargo" "[LTransportPairModel$Cargo;") ∈ lw_all := lw_g (lw_at lw_m16 57 rfl) rfl
theorem q3904 : (Jvm.Cond.fieldLinkNest "TransportPairModel" (303 : Nat) "TransportPairModel$Side" "cargo" "[LTransportPairModel$Cargo;" "TransportPairModel") ∈ lw_tbl := lw_at lw_m16 58 rfl
theorem q3905 : (Jvm.Cond.fieldLink "TransportPairModel$Side" (84 : Nat) "TransportPairModel$Side" "copy" "[I") ∈ lw_all := lw_g (lw_at lw_m16 59 rfl) rfl
theorem q3906 : (Jvm.Cond.fieldLink "TransportPairModel$Side" (90 : Nat) "TransportPairModel$Side" "drafts" "[LTransportPairModel$Draft;") ∈ lw_all := lw_g (lw_at lw_m16 60 rfl) rfl
theorem q3907 : (Jvm.Cond.fieldLink "TransportPairModel$Side" (94 : Nat) "TransportPairModel$Side" "eliciting" "[Z") ∈ lw_all := lw_g (lw_at lw_m16 61 rfl) rfl
theorem q3908 : (Jvm.Cond.fieldLink "TransportPairModel$Side" (97 : Nat) "TransportPairModel$Side" "padded" "[Z") ∈ lw_all := lw_g (lw_at lw_m16 62 rfl) rfl
theorem q3909 : (Jvm.Cond.fieldLink "TransportPairModel$Side" (100 : Nat) "TransportPairModel$Side" "acks" "[Z") ∈ lw_all := lw_g (lw_at lw_m16 63 rfl) rfl
theorem q3910 : (Jvm.Cond.fieldLink "TransportPairModel$Side" (519 : Nat) "TransportPairModel$Side" "closed" "Z") ∈ lw_all := lw_g (lw_at lw_m16 64 rfl) rfl
theorem q3911 : (Jvm.Cond.fieldLink "TransportPairModel$Side" (103 : Nat) "TransportPairModel$Side" "datagram" "LTransportPairModel$Draft;") ∈ lw_all := lw_g (lw_at lw_m16 65 rfl) rfl
theorem q3912 : (Jvm.Cond.fieldLinkNest "TransportPairModel" (216 : Nat) "TransportPairModel$Side" "datagram" "LTransportPairModel$Draft;" "TransportPairModel") ∈ lw_tbl := lw_at lw_m16 66 rfl
theorem q4020 : (Jvm.Cond.constant "TransportPairModel" (57 : Nat) (230400 : Int32)) ∈ lw_all := lw_g (lw_at lw_m16 174 rfl) rfl
theorem q4021 : (Jvm.Cond.classLink "TransportPairModel" (76 : Nat) "TransportPairModel$Wire") ∈ lw_all := lw_g (lw_at lw_m16 175 rfl) rfl
theorem q4022 : (Jvm.Cond.methodLinkNest "TransportPairModel" (78 : Nat) ({ cls := "TransportPairModel$Wire", name := "<init>", desc := "()V" } : Jvm.MethodName) "TransportPairModel") ∈ lw_tbl := lw_at lw_m16 176 rfl
theorem q4023 : (Jvm.Cond.methodLink "TransportPairModel" (83 : Nat) ({ cls := "TransportPairModel", name := "set", desc := "(III)V" } : Jvm.MethodName)) ∈ lw_all := lw_g (lw_at lw_m16 177 rfl) rfl
theorem q4025 : (Jvm.Cond.instanceMethod ({ cls := "TransportPairModel", name := "set", desc := "(III)V" } : Jvm.MethodName)) ∈ lw_all := lw_g (lw_at lw_m16 179 rfl) rfl
theorem q4026 : (Jvm.Cond.code ({ cls := "TransportPairModel", name := "set", desc := "(III)V" } : Jvm.MethodName) prog_35_method_2_code (4 : Nat) (Option.none : Option Jvm.ClassFile.FieldType)) ∈ lw_all := lw_g (lw_at lw_m16 180 rfl) rfl
theorem q4027 : (Jvm.Cond.methodLink "TransportPairModel" (91 : Nat) ({ cls := "TransportPairModel$Streams", name := "setGrant", desc := "(IIJ)V" } : Jvm.MethodName)) ∈ lw_all := lw_g (lw_at lw_m16 181 rfl) rfl
theorem q4028 : (Jvm.Cond.instanceMethod ({ cls := "TransportPairModel$Streams", name := "setGrant", desc := "(IIJ)V" } : Jvm.MethodName)) ∈ lw_all := lw_g (lw_at lw_m16 182 rfl) rfl
theorem q4029 : (Jvm.Cond.selects "TransportPairModel$Streams" ({ cls := "TransportPairModel$Streams", name := "setGrant", desc := "(IIJ)V" } : Jvm.MethodName) ({ cls := "TransportPairModel$Streams", name := "setGrant", desc := "(IIJ)V" } : Jvm.MethodName)) ∈ lw_all := lw_g (lw_at lw_m16 183 rfl) rfl
theorem q4030 : (Jvm.Cond.code ({ cls := "TransportPairModel$Streams", name := "setGrant", desc := "(IIJ)V" } : Jvm.MethodName) prog_42_method_2_code (5 : Nat) (Option.none : Option Jvm.ClassFile.FieldType)) ∈ lw_all := lw_g (lw_at lw_m16 184 rfl) rfl
theorem q4031 : (Jvm.Cond.fieldLink "TransportPairModel" (95 : Nat) "TransportPairModel" "thrown" "I") ∈ lw_all := lw_g (lw_at lw_m16 185 rfl) rfl
theorem q4032 : (Jvm.Cond.fieldLink "TransportPairModel" (8 : Nat) "TransportPairModel" "tape" "[B") ∈ lw_all := lw_g (lw_at lw_m16 186 rfl) rfl
theorem q4033 : (Jvm.Cond.fieldLink "TransportPairModel" (99 : Nat) "TransportPairModel" "taped" "I") ∈ lw_all := lw_g (lw_at lw_m16 187 rfl) rfl
theorem q4034 : (Jvm.Cond.fieldLink "TransportPairModel" (14 : Nat) "TransportPairModel" "out" "[I") ∈ lw_all := lw_g (lw_at lw_m16 188 rfl) rfl
theorem q4035 : (Jvm.Cond.fieldLink "TransportPairModel" (160 : Nat) "TransportPairModel" "outs" "I") ∈ lw_all := lw_g (lw_at lw_m16 189 rfl) rfl
theorem q4036 : (Jvm.Cond.fieldLink "TransportPairModel" (21 : Nat) "TransportPairModel" "seals" "LTransportPairModel$Seals;") ∈ lw_all := lw_g (lw_at lw_m16 190 rfl) rfl
theorem q4037 : (Jvm.Cond.fieldLink "TransportPairModel" (28 : Nat) "TransportPairModel" "streams" "LTransportPairModel$Streams;") ∈ lw_all := lw_g (lw_at lw_m16 191 rfl) rfl
theorem q4038 : (Jvm.Cond.fieldLink "TransportPairModel" (37 : Nat) "TransportPairModel" "sides" "[LTransportPairModel$Side;") ∈ lw_all := lw_g (lw_at lw_m16 192 rfl) rfl
theorem q4039 : (Jvm.Cond.fieldLink "TransportPairModel" (203 : Nat) "TransportPairModel" "time" "I") ∈ lw_all := lw_g (lw_at lw_m16 193 rfl) rfl
theorem q4040 : (Jvm.Cond.fieldLink "TransportPairModel" (200 : Nat) "TransportPairModel" "flow" "I") ∈ lw_all := lw_g (lw_at lw_m16 194 rfl) rfl
theorem q4041 : (Jvm.Cond.fieldLink "TransportPairModel" (41 : Nat) "TransportPairModel" "many" "[I") ∈ lw_all := lw_g (lw_at lw_m16 195 rfl) rfl
theorem q4042 : (Jvm.Cond.fieldLink "TransportPairModel" (44 : Nat) "TransportPairModel" "order" "[I") ∈ lw_all := lw_g (lw_at lw_m16 196 rfl) rfl
theorem q4043 : (Jvm.Cond.fieldLink "TransportPairModel" (47 : Nat) "TransportPairModel" "used" "[Z") ∈ lw_all := lw_g (lw_at lw_m16 197 rfl) rfl
theorem q4044 : (Jvm.Cond.fieldLink "TransportPairModel" (51 : Nat) "TransportPairModel" "size" "[I") ∈ lw_all := lw_g (lw_at lw_m16 198 rfl) rfl
theorem q4045 : (Jvm.Cond.fieldLink "TransportPairModel" (54 : Nat) "TransportPairModel" "when" "[I") ∈ lw_all := lw_g (lw_at lw_m16 199 rfl) rfl
theorem q4046 : (Jvm.Cond.fieldLink "TransportPairModel" (58 : Nat) "TransportPairModel" "line" "[B") ∈ lw_all := lw_g (lw_at lw_m16 200 rfl) rfl
theorem q4047 : (Jvm.Cond.fieldLink "TransportPairModel" (61 : Nat) "TransportPairModel" "allSent" "[I") ∈ lw_all := lw_g (lw_at lw_m16 201 rfl) rfl
theorem q4048 : (Jvm.Cond.fieldLink "TransportPairModel" (64 : Nat) "TransportPairModel" "allLost" "[I") ∈ lw_all := lw_g (lw_at lw_m16 202 rfl) rfl
theorem q4049 : (Jvm.Cond.fieldLink "TransportPairModel" (67 : Nat) "TransportPairModel" "row" "[I") ∈ lw_all := lw_g (lw_at lw_m16 203 rfl) rfl
theorem q4050 : (Jvm.Cond.fieldLink "TransportPairModel" (70 : Nat) "TransportPairModel" "header" "[I") ∈ lw_all := lw_g (lw_at lw_m16 204 rfl) rfl
theorem q4051 : (Jvm.Cond.fieldLink "TransportPairModel" (73 : Nat) "TransportPairModel" "firstTo" "[I") ∈ lw_all := lw_g (lw_at lw_m16 205 rfl) rfl
theorem q4052 : (Jvm.Cond.fieldLink "TransportPairModel" (254 : Nat) "TransportPairModel" "firstToSize" "I") ∈ lw_all := lw_g (lw_at lw_m16 206 rfl) rfl
theorem q4053 : (Jvm.Cond.fieldLink "TransportPairModel" (79 : Nat) "TransportPairModel" "wire" "LTransportPairModel$Wire;") ∈ lw_all := lw_g (lw_at lw_m16 207 rfl) rfl
theorem q4101 : (Jvm.Cond.methodLink "TransportPairLaw" (122 : Nat) ({ cls := "TransportPairModel", name := "thrown", desc := "()I" } : Jvm.MethodName)) ∈ lw_all := lw_g (lw_at lw_m17 15 rfl) rfl
theorem q4102 : (Jvm.Cond.instanceMethod ({ cls := "TransportPairModel", name := "thrown", desc := "()I" } : Jvm.MethodName)) ∈ lw_all := lw_g (lw_at lw_m17 16 rfl) rfl
theorem q4103 : (Jvm.Cond.selects "TransportPairModel" ({ cls := "TransportPairModel", name := "thrown", desc := "()I" } : Jvm.MethodName) ({ cls := "TransportPairModel", name := "thrown", desc := "()I" } : Jvm.MethodName)) ∈ lw_all := lw_g (lw_at lw_m17 17 rfl) rfl
theorem q4104 : (Jvm.Cond.code ({ cls := "TransportPairModel", name := "thrown", desc := "()I" } : Jvm.MethodName) prog_35_method_3_code (1 : Nat) (Option.some Jvm.ClassFile.FieldType.int)) ∈ lw_all := lw_g (lw_at lw_m17 18 rfl) rfl
theorem q4105 : (Jvm.Cond.methodLink "TransportPairLaw" (121 : Nat) ({ cls := "TransportPairModel", name := "feed", desc := "(IIIII)I" } : Jvm.MethodName)) ∈ lw_all := lw_g (lw_at lw_m17 19 rfl) rfl
theorem q4106 : (Jvm.Cond.instanceMethod ({ cls := "TransportPairModel", name := "feed", desc := "(IIIII)I" } : Jvm.MethodName)) ∈ lw_all := lw_g (lw_at lw_m17 20 rfl) rfl
theorem q4107 : (Jvm.Cond.selects "TransportPairModel" ({ cls := "TransportPairModel", name := "feed", desc := "(IIIII)I" } : Jvm.MethodName) ({ cls := "TransportPairModel", name := "feed", desc := "(IIIII)I" } : Jvm.MethodName)) ∈ lw_all := lw_g (lw_at lw_m17 21 rfl) rfl
theorem q4108 : (Jvm.Cond.code ({ cls := "TransportPairModel", name := "feed", desc := "(IIIII)I" } : Jvm.MethodName) prog_35_method_6_code (8 : Nat) (Option.some Jvm.ClassFile.FieldType.int)) ∈ lw_all := lw_g (lw_at lw_m17 22 rfl) rfl
theorem q4109 : (Jvm.Cond.methodLink "TransportPairModel" (102 : Nat) ({ cls := "TransportPairModel", name := "fails", desc := "(ZI)Z" } : Jvm.MethodName)) ∈ lw_all := lw_g (lw_at lw_m17 23 rfl) rfl
theorem q4111 : (Jvm.Cond.instanceMethod ({ cls := "TransportPairModel", name := "fails", desc := "(ZI)Z" } : Jvm.MethodName)) ∈ lw_all := lw_g (lw_at lw_m17 25 rfl) rfl
theorem q4112 : (Jvm.Cond.code ({ cls := "TransportPairModel", name := "fails", desc := "(ZI)Z" } : Jvm.MethodName) prog_35_method_4_code (3 : Nat) (Option.some Jvm.ClassFile.FieldType.boolean)) ∈ lw_all := lw_g (lw_at lw_m17 26 rfl) rfl
theorem q4113 : (Jvm.Cond.methodLink "TransportPairLaw" (129 : Nat) ({ cls := "TransportPairModel", name := "end", desc := "(I)I" } : Jvm.MethodName)) ∈ lw_all := lw_g (lw_at lw_m17 27 rfl) rfl
theorem q4114 : (Jvm.Cond.instanceMethod ({ cls := "TransportPairModel", name := "end", desc := "(I)I" } : Jvm.MethodName)) ∈ lw_all := lw_g (lw_at lw_m17 28 rfl) rfl
theorem q4115 : (Jvm.Cond.selects "TransportPairModel" ({ cls := "TransportPairModel", name := "end", desc := "(I)I" } : Jvm.MethodName) ({ cls := "TransportPairModel", name := "end", desc := "(I)I" } : Jvm.MethodName)) ∈ lw_all := lw_g (lw_at lw_m17 29 rfl) rfl
theorem q4116 : (Jvm.Cond.code ({ cls := "TransportPairModel", name := "end", desc := "(I)I" } : Jvm.MethodName) prog_35_method_7_code (3 : Nat) (Option.some Jvm.ClassFile.FieldType.int)) ∈ lw_all := lw_g (lw_at lw_m17 30 rfl) rfl
theorem q4117 : (Jvm.Cond.methodLink "TransportPairLaw" (133 : Nat) ({ cls := "TransportPairModel", name := "key", desc := "(I)V" } : Jvm.MethodName)) ∈ lw_all := lw_g (lw_at lw_m17 31 rfl) rfl
theorem q4118 : (Jvm.Cond.instanceMethod ({ cls := "TransportPairModel", name := "key", desc := "(I)V" } : Jvm.MethodName)) ∈ lw_all := lw_g (lw_at lw_m17 32 rfl) rfl
theorem q4119 : (Jvm.Cond.selects "TransportPairModel" ({ cls := "TransportPairModel", name := "key", desc := "(I)V" } : Jvm.MethodName) ({ cls := "TransportPairModel", name := "key", desc := "(I)V" } : Jvm.MethodName)) ∈ lw_all := lw_g (lw_at lw_m17 33 rfl) rfl
theorem q4120 : (Jvm.Cond.code ({ cls := "TransportPairModel", name := "key", desc := "(I)V" } : Jvm.MethodName) prog_35_method_8_code (3 : Nat) (Option.none : Option Jvm.ClassFile.FieldType)) ∈ lw_all := lw_g (lw_at lw_m17 34 rfl) rfl
theorem q4121 : (Jvm.Cond.methodLink "TransportPairModel" (106 : Nat) ({ cls := "TransportPairModel", name := "no", desc := "(I)Z" } : Jvm.MethodName)) ∈ lw_all := lw_g (lw_at lw_m17 35 rfl) rfl
theorem q4122 : (Jvm.Cond.static ({ cls := "TransportPairModel", name := "no", desc := "(I)Z" } : Jvm.MethodName)) ∈ lw_all := lw_g (lw_at lw_m17 36 rfl) rfl
theorem q4123 : (Jvm.Cond.code ({ cls := "TransportPairModel", name := "no", desc := "(I)Z" } : Jvm.MethodName) prog_35_method_5_code (1 : Nat) (Option.some Jvm.ClassFile.FieldType.boolean)) ∈ lw_all := lw_g (lw_at lw_m17 37 rfl) rfl
theorem q4124 : (Jvm.Cond.methodLink "TransportPairLaw" (136 : Nat) ({ cls := "TransportPairModel", name := "random", desc := "(I)V" } : Jvm.MethodName)) ∈ lw_all := lw_g (lw_at lw_m17 38 rfl) rfl
theorem q4125 : (Jvm.Cond.instanceMethod ({ cls := "TransportPairModel", name := "random", desc := "(I)V" } : Jvm.MethodName)) ∈ lw_all := lw_g (lw_at lw_m17 39 rfl) rfl
theorem q4126 : (Jvm.Cond.selects "TransportPairModel" ({ cls := "TransportPairModel", name := "random", desc := "(I)V" } : Jvm.MethodName) ({ cls := "TransportPairModel", name := "random", desc := "(I)V" } : Jvm.MethodName)) ∈ lw_all := lw_g (lw_at lw_m17 40 rfl) rfl
theorem q4127 : (Jvm.Cond.code ({ cls := "TransportPairModel", name := "random", desc := "(I)V" } : Jvm.MethodName) prog_35_method_9_code (3 : Nat) (Option.none : Option Jvm.ClassFile.FieldType)) ∈ lw_all := lw_g (lw_at lw_m17 41 rfl) rfl
theorem q4128 : (Jvm.Cond.methodLink "TransportPairLaw" (140 : Nat) ({ cls := "TransportPairModel", name := "parameter", desc := "(III)V" } : Jvm.MethodName)) ∈ lw_all := lw_g (lw_at lw_m17 42 rfl) rfl
theorem q4129 : (Jvm.Cond.instanceMethod ({ cls := "TransportPairModel", name := "parameter", desc := "(III)V" } : Jvm.MethodName)) ∈ lw_all := lw_g (lw_at lw_m17 43 rfl) rfl
theorem q4130 : (Jvm.Cond.selects "TransportPairModel" ({ cls := "TransportPairModel", name := "parameter", desc := "(III)V" } : Jvm.MethodName) ({ cls := "TransportPairModel", name := "parameter", desc := "(III)V" } : Jvm.MethodName)) ∈ lw_all := lw_g (lw_at lw_m17 44 rfl) rfl
theorem q4131 : (Jvm.Cond.code ({ cls := "TransportPairModel", name := "parameter", desc := "(III)V" } : Jvm.MethodName) prog_35_method_10_code (5 : Nat) (Option.none : Option Jvm.ClassFile.FieldType)) ∈ lw_all := lw_g (lw_at lw_m17 45 rfl) rfl
theorem q4132 : (Jvm.Cond.constant "TransportPairModel" (132 : Nat) (200000 : Int32)) ∈ lw_all := lw_g (lw_at lw_m17 46 rfl) rfl
theorem q4133 : (Jvm.Cond.methodLink "TransportPairLaw" (144 : Nat) ({ cls := "TransportPairModel", name := "begin", desc := "()V" } : Jvm.MethodName)) ∈ lw_all := lw_g (lw_at lw_m17 47 rfl) rfl
theorem q4134 : (Jvm.Cond.instanceMethod ({ cls := "TransportPairModel", name := "begin", desc := "()V" } : Jvm.MethodName)) ∈ lw_all := lw_g (lw_at lw_m17 48 rfl) rfl
theorem q4135 : (Jvm.Cond.selects "TransportPairModel" ({ cls := "TransportPairModel", name := "begin", desc := "()V" } : Jvm.MethodName) ({ cls := "TransportPairModel", name := "begin", desc := "()V" } : Jvm.MethodName)) ∈ lw_all := lw_g (lw_at lw_m17 49 rfl) rfl
theorem q4136 : (Jvm.Cond.code ({ cls := "TransportPairModel", name := "begin", desc := "()V" } : Jvm.MethodName) prog_35_method_11_code (3 : Nat) (Option.none : Option Jvm.ClassFile.FieldType)) ∈ lw_all := lw_g (lw_at lw_m17 50 rfl) rfl
theorem q4137 : (Jvm.Cond.methodLink "TransportPairModel" (133 : Nat) ({ cls := "TransportPairModel$Side", name := "begin", desc := "([II)V" } : Jvm.MethodName)) ∈ lw_all := lw_g (lw_at lw_m17 51 rfl) rfl
theorem q4138 : (Jvm.Cond.instanceMethod ({ cls := "TransportPairModel$Side", name := "begin", desc := "([II)V" } : Jvm.MethodName)) ∈ lw_all := lw_g (lw_at lw_m17 52 rfl) rfl
theorem q4139 : (Jvm.Cond.selects "TransportPairModel$Side" ({ cls := "TransportPairModel$Side", name := "begin", desc := "([II)V" } : Jvm.MethodName) ({ cls := "TransportPairModel$Side", name := "begin", desc := "([II)V" } : Jvm.MethodName)) ∈ lw_all := lw_g (lw_at lw_m17 53 rfl) rfl
theorem q4140 : (Jvm.Cond.code ({ cls := "TransportPairModel$Side", name := "begin", desc := "([II)V" } : Jvm.MethodName) prog_41_method_9_code (4 : Nat) (Option.none : Option Jvm.ClassFile.FieldType)) ∈ lw_all := lw_g (lw_at lw_m17 54 rfl) rfl
theorem q4141 : (Jvm.Cond.methodLink "TransportPairModel$Side" (174 : Nat) ({ cls := "TransportPairModel$Greet", name := "firstSecrets", desc := "([III[I)V" } : Jvm.MethodName)) ∈ lw_all := lw_g (lw_at lw_m17 55 rfl) rfl
theorem q4142 : (Jvm.Cond.instanceMethod ({ cls := "TransportPairModel$Greet", name := "firstSecrets", desc := "([III[I)V" } : Jvm.MethodName)) ∈ lw_all := lw_g (lw_at lw_m17 56 rfl) rfl
theorem q4143 : (Jvm.Cond.selects "TransportPairModel$Greet" ({ cls := "TransportPairModel$Greet", name := "firstSecrets", desc := "([III[I)V" } : Jvm.MethodName) ({ cls := "TransportPairModel$Greet", name := "firstSecrets", desc := "([III[I)V" } : Jvm.MethodName)) ∈ lw_all := lw_g (lw_at lw_m17 57 rfl) rfl
theorem q4144 : (Jvm.Cond.code ({ cls := "TransportPairModel$Greet", name := "firstSecrets", desc := "([III[I)V" } : Jvm.MethodName) prog_39_method_2_code (6 : Nat) (Option.none : Option Jvm.ClassFile.FieldType)) ∈ lw_all := lw_g (lw_at lw_m17 58 rfl) rfl
theorem q4145 : (Jvm.Cond.methodLink "TransportPairModel$Greet" (68 : Nat) ({ cls := "TransportPairModel$Seals", name := "mac", desc := "([III[III[I)V" } : Jvm.MethodName)) ∈ lw_all := lw_g (lw_at lw_m17 59 rfl) rfl
theorem q4146 : (Jvm.Cond.instanceMethod ({ cls := "TransportPairModel$Seals", name := "mac", desc := "([III[III[I)V" } : Jvm.MethodName)) ∈ lw_all := lw_g (lw_at lw_m17 60 rfl) rfl
theorem q4147 : (Jvm.Cond.selects "TransportPairModel$Seals" ({ cls := "TransportPairModel$Seals", name := "mac", desc := "([III[III[I)V" } : Jvm.MethodName) ({ cls := "TransportPairModel$Seals", name := "mac", desc := "([III[III[I)V" } : Jvm.MethodName)) ∈ lw_all := lw_g (lw_at lw_m17 61 rfl) rfl
theorem q4148 : (Jvm.Cond.code ({ cls := "TransportPairModel$Seals", name := "mac", desc := "([III[III[I)V" } : Jvm.MethodName) prog_40_method_12_code (9 : Nat) (Option.none : Option Jvm.ClassFile.FieldType)) ∈ lw_all := lw_g (lw_at lw_m17 62 rfl) rfl
theorem q4149 : (Jvm.Cond.methodLink "TransportPairModel$Seals" (121 : Nat) ({ cls := "TransportPairModel$Seals", name := "macText", desc := "([III)V" } : Jvm.MethodName)) ∈ lw_all := lw_g (lw_at lw_m17 63 rfl) rfl
theorem q4151 : (Jvm.Cond.instanceMethod ({ cls := "TransportPairModel$Seals", name := "macText", desc := "([III)V" } : Jvm.MethodName)) ∈ lw_all := lw_g (lw_at lw_m17 65 rfl) rfl
theorem q4152 : (Jvm.Cond.code ({ cls := "TransportPairModel$Seals", name := "macText", desc := "([III)V" } : Jvm.MethodName) prog_40_method_11_code (5 : Nat) (Option.none : Option Jvm.ClassFile.FieldType)) ∈ lw_all := lw_g (lw_at lw_m17 66 rfl) rfl
theorem q4153 : (Jvm.Cond.methodLink "TransportPairModel$Seals" (114 : Nat) ({ cls := "TransportPairModel$Seals", name := "digestWork", desc := "(I)V" } : Jvm.MethodName)) ∈ lw_all := lw_g (lw_at lw_m17 67 rfl) rfl
theorem q4155 : (Jvm.Cond.instanceMethod ({ cls := "TransportPairModel$Seals", name := "digestWork", desc := "(I)V" } : Jvm.MethodName)) ∈ lw_all := lw_g (lw_at lw_m17 69 rfl) rfl
theorem q4156 : (Jvm.Cond.code ({ cls := "TransportPairModel$Seals", name := "digestWork", desc := "(I)V" } : Jvm.MethodName) prog_40_method_7_code (4 : Nat) (Option.none : Option Jvm.ClassFile.FieldType)) ∈ lw_all := lw_g (lw_at lw_m17 70 rfl) rfl
theorem q4157 : (Jvm.Cond.methodLink "TransportPairModel$Seals" (99 : Nat) ({ cls := "TransportPairModel$Seals", name := "part", desc := "(I)V" } : Jvm.MethodName)) ∈ lw_all := lw_g (lw_at lw_m17 71 rfl) rfl
theorem q4159 : (Jvm.Cond.instanceMethod ({ cls := "TransportPairModel$Seals", name := "part", desc := "(I)V" } : Jvm.MethodName)) ∈ lw_all := lw_g (lw_at lw_m17 73 rfl) rfl
theorem q4160 : (Jvm.Cond.code ({ cls := "TransportPairModel$Seals", name := "part", desc := "(I)V" } : Jvm.MethodName) prog_40_method_8_code (7 : Nat) (Option.none : Option Jvm.ClassFile.FieldType)) ∈ lw_all := lw_g (lw_at lw_m17 74 rfl) rfl
theorem q4161 : (Jvm.Cond.constantLong "TransportPairModel$Seals" (105 : Nat) (256 : Int64)) ∈ lw_all := lw_g (lw_at lw_m17 75 rfl) rfl
theorem q4162 : (Jvm.Cond.methodLink "TransportPairModel$Seals" (107 : Nat) ({ cls := "TransportPairModel$Seals", name := "right", desc := "(JI)J" } : Jvm.MethodName)) ∈ lw_all := lw_g (lw_at lw_m17 76 rfl) rfl
theorem q4163 : (Jvm.Cond.static ({ cls := "TransportPairModel$Seals", name := "right", desc := "(JI)J" } : Jvm.MethodName)) ∈ lw_all := lw_g (lw_at lw_m17 77 rfl) rfl
theorem q4164 : (Jvm.Cond.code ({ cls := "TransportPairModel$Seals", name := "right", desc := "(JI)J" } : Jvm.MethodName) prog_40_method_6_code (3 : Nat) (Option.some Jvm.ClassFile.FieldType.long)) ∈ lw_all := lw_g (lw_at lw_m17 78 rfl) rfl
theorem q4165 : (Jvm.Cond.methodLink "TransportPairModel$Seals" (111 : Nat) ({ cls := "TransportPairModel$Seals", name := "round", desc := "(I)V" } : Jvm.MethodName)) ∈ lw_all := lw_g (lw_at lw_m17 79 rfl) rfl
theorem q4167 : (Jvm.Cond.instanceMethod ({ cls := "TransportPairModel$Seals", name := "round", desc := "(I)V" } : Jvm.MethodName)) ∈ lw_all := lw_g (lw_at lw_m17 81 rfl) rfl
theorem q4168 : (Jvm.Cond.code ({ cls := "TransportPairModel$Seals", name := "round", desc := "(I)V" } : Jvm.MethodName) prog_40_method_9_code (19 : Nat) (Option.none : Option Jvm.ClassFile.FieldType)) ∈ lw_all := lw_g (lw_at lw_m17 82 rfl) rfl
theorem q4169 : (Jvm.Cond.constantLong "TransportPairModel$Seals" (103 : Nat) (255 : Int64)) ∈ lw_all := lw_g (lw_at lw_m17 83 rfl) rfl
theorem q4170 : (Jvm.Cond.methodLink "TransportPairModel$Greet" (74 : Nat) ({ cls := "TransportPairModel$Seals", name := "label", desc := "([III[III[II)V" } : Jvm.MethodName)) ∈ lw_all := lw_g (lw_at lw_m17 84 rfl) rfl
theorem q4171 : (Jvm.Cond.instanceMethod ({ cls := "TransportPairModel$Seals", name := "label", desc := "([III[III[II)V" } : Jvm.MethodName)) ∈ lw_all := lw_g (lw_at lw_m17 85 rfl) rfl
theorem q4172 : (Jvm.Cond.selects "TransportPairModel$Seals" ({ cls := "TransportPairModel$Seals", name := "label", desc := "([III[III[II)V" } : Jvm.MethodName) ({ cls := "TransportPairModel$Seals", name := "label", desc := "([III[III[II)V" } : Jvm.MethodName)) ∈ lw_all := lw_g (lw_at lw_m17 86 rfl) rfl
theorem q4173 : (Jvm.Cond.code ({ cls := "TransportPairModel$Seals", name := "label", desc := "([III[III[II)V" } : Jvm.MethodName) prog_40_method_15_code (13 : Nat) (Option.none : Option Jvm.ClassFile.FieldType)) ∈ lw_all := lw_g (lw_at lw_m17 87 rfl) rfl
theorem q4174 : (Jvm.Cond.methodLink "TransportPairModel$Seals" (150 : Nat) ({ cls := "TransportPairModel$Seals", name := "words", desc := "(I)J" } : Jvm.MethodName)) ∈ lw_all := lw_g (lw_at lw_m17 88 rfl) rfl
theorem q4175 : (Jvm.Cond.static ({ cls := "TransportPairModel$Seals", name := "words", desc := "(I)J" } : Jvm.MethodName)) ∈ lw_all := lw_g (lw_at lw_m17 89 rfl) rfl
theorem q4176 : (Jvm.Cond.code ({ cls := "TransportPairModel$Seals", name := "words", desc := "(I)J" } : Jvm.MethodName) prog_40_method_14_code (1 : Nat) (Option.some Jvm.ClassFile.FieldType.long)) ∈ lw_all := lw_g (lw_at lw_m17 90 rfl) rfl
theorem q4177 : (Jvm.Cond.constantLong "TransportPairModel$Seals" (128 : Nat) (7038329 : Int64)) ∈ lw_all := lw_g (lw_at lw_m17 91 rfl) rfl
theorem q4178 : (Jvm.Cond.constantLong "TransportPairModel$Seals" (130 : Nat) (26998 : Int64)) ∈ lw_all := lw_g (lw_at lw_m17 92 rfl) rfl
theorem q4179 : (Jvm.Cond.constantLong "TransportPairModel$Seals" (132 : Nat) (1751737445 : Int64)) ∈ lw_all := lw_g (lw_at lw_m17 93 rfl) rfl
theorem q4180 : (Jvm.Cond.constantLong "TransportPairModel$Seals" (134 : Nat) (1953854062 : Int64)) ∈ lw_all := lw_g (lw_at lw_m17 94 rfl) rfl
theorem q4181 : (Jvm.Cond.constantLong "TransportPairModel$Seals" (136 : Nat) (28826387908665441 : Int64)) ∈ lw_all := lw_g (lw_at lw_m17 95 rfl) rfl
theorem q4182 : (Jvm.Cond.constantLong "TransportPairModel$Seals" (138 : Nat) (28826387908665442 : Int64)) ∈ lw_all := lw_g (lw_at lw_m17 96 rfl) rfl
theorem q4183 : (Jvm.Cond.constantLong "TransportPairModel$Seals" (140 : Nat) (29117702420570209 : Int64)) ∈ lw_all := lw_g (lw_at lw_m17 97 rfl) rfl
theorem q4184 : (Jvm.Cond.constantLong "TransportPairModel$Seals" (142 : Nat) (29117702420570210 : Int64)) ∈ lw_all := lw_g (lw_at lw_m17 98 rfl) rfl
theorem q4185 : (Jvm.Cond.constantLong "TransportPairModel$Seals" (144 : Nat) (127961779609697 : Int64)) ∈ lw_all := lw_g (lw_at lw_m17 99 rfl) rfl
theorem q4186 : (Jvm.Cond.constantLong "TransportPairModel$Seals" (146 : Nat) (127961779609698 : Int64)) ∈ lw_all := lw_g (lw_at lw_m17 100 rfl) rfl
theorem q4187 : (Jvm.Cond.constantLong "TransportPairModel$Seals" (148 : Nat) (1685024357 : Int64)) ∈ lw_all := lw_g (lw_at lw_m17 101 rfl) rfl
theorem q4188 : (Jvm.Cond.methodLink "TransportPairModel$Seals" (154 : Nat) ({ cls := "TransportPairModel$Seals", name := "tell", desc := "(I)V" } : Jvm.MethodName)) ∈ lw_all := lw_g (lw_at lw_m17 102 rfl) rfl
theorem q4190 : (Jvm.Cond.instanceMethod ({ cls := "TransportPairModel$Seals", name := "tell", desc := "(I)V" } : Jvm.MethodName)) ∈ lw_all := lw_g (lw_at lw_m17 104 rfl) rfl
theorem q4191 : (Jvm.Cond.code ({ cls := "TransportPairModel$Seals", name := "tell", desc := "(I)V" } : Jvm.MethodName) prog_40_method_13_code (2 : Nat) (Option.none : Option Jvm.ClassFile.FieldType)) ∈ lw_all := lw_g (lw_at lw_m17 105 rfl) rfl
theorem q4192 : (Jvm.Cond.methodLink "TransportPairModel$Side" (184 : Nat) ({ cls := "TransportPairModel$Side", name := "arm", desc := "(I)V" } : Jvm.MethodName)) ∈ lw_all := lw_g (lw_at lw_m17 106 rfl) rfl
theorem q4194 : (Jvm.Cond.instanceMethod ({ cls := "TransportPairModel$Side", name := "arm", desc := "(I)V" } : Jvm.MethodName)) ∈ lw_all := lw_g (lw_at lw_m17 108 rfl) rfl
theorem q4195 : (Jvm.Cond.code ({ cls := "TransportPairModel$Side", name := "arm", desc := "(I)V" } : Jvm.MethodName) prog_41_method_10_code (2 : Nat) (Option.none : Option Jvm.ClassFile.FieldType)) ∈ lw_all := lw_g (lw_at lw_m17 109 rfl) rfl
theorem q4196 : (Jvm.Cond.methodLink "TransportPairModel$Side" (208 : Nat) ({ cls := "TransportPairModel$Seals", name := "arm", desc := "([II[II)V" } : Jvm.MethodName)) ∈ lw_all := lw_g (lw_at lw_m17 110 rfl) rfl
theorem q4197 : (Jvm.Cond.instanceMethod ({ cls := "TransportPairModel$Seals", name := "arm", desc := "([II[II)V" } : Jvm.MethodName)) ∈ lw_all := lw_g (lw_at lw_m17 111 rfl) rfl
theorem q4198 : (Jvm.Cond.selects "TransportPairModel$Seals" ({ cls := "TransportPairModel$Seals", name := "arm", desc := "([II[II)V" } : Jvm.MethodName) ({ cls := "TransportPairModel$Seals", name := "arm", desc := "([II[II)V" } : Jvm.MethodName)) ∈ lw_all := lw_g (lw_at lw_m17 112 rfl) rfl
theorem q4199 : (Jvm.Cond.code ({ cls := "TransportPairModel$Seals", name := "arm", desc := "([II[II)V" } : Jvm.MethodName) prog_40_method_16_code (5 : Nat) (Option.none : Option Jvm.ClassFile.FieldType)) ∈ lw_all := lw_g (lw_at lw_m17 113 rfl) rfl
theorem q4200 : (Jvm.Cond.methodLink "TransportPairModel$Seals" (157 : Nat) ({ cls := "TransportPairModel$Seals", name := "label", desc := "([III[III[II)V" } : Jvm.MethodName)) ∈ lw_all := lw_g (lw_at lw_m17 114 rfl) rfl
theorem q4201 : (Jvm.Cond.methodLink "TransportPairModel$Side" (187 : Nat) ({ cls := "TransportPairModel$Side", name := "makeParameters", desc := "()V" } : Jvm.MethodName)) ∈ lw_all := lw_g (lw_at lw_m17 115 rfl) rfl
theorem q4203 : (Jvm.Cond.instanceMethod ({ cls := "TransportPairModel$Side", name := "makeParameters", desc := "()V" } : Jvm.MethodName)) ∈ lw_all := lw_g (lw_at lw_m17 117 rfl) rfl
theorem q4204 : (Jvm.Cond.code ({ cls := "TransportPairModel$Side", name := "makeParameters", desc := "()V" } : Jvm.MethodName) prog_41_method_8_code (2 : Nat) (Option.none : Option Jvm.ClassFile.FieldType)) ∈ lw_all := lw_g (lw_at lw_m17 118 rfl) rfl
theorem q4205 : (Jvm.Cond.methodLink "TransportPairModel$Side" (157 : Nat) ({ cls := "TransportPairModel$Side", name := "putName", desc := "(I[II)V" } : Jvm.MethodName)) ∈ lw_all := lw_g (lw_at lw_m17 119 rfl) rfl
theorem q4207 : (Jvm.Cond.instanceMethod ({ cls := "TransportPairModel$Side", name := "putName", desc := "(I[II)V" } : Jvm.MethodName)) ∈ lw_all := lw_g (lw_at lw_m17 121 rfl) rfl
theorem q4208 : (Jvm.Cond.code ({ cls := "TransportPairModel$Side", name := "putName", desc := "(I[II)V" } : Jvm.MethodName) prog_41_method_7_code (5 : Nat) (Option.none : Option Jvm.ClassFile.FieldType)) ∈ lw_all := lw_g (lw_at lw_m17 122 rfl) rfl
theorem q4209 : (Jvm.Cond.methodLink "TransportPairModel$Side" (142 : Nat) ({ cls := "TransportPairModel$Side", name := "putOwn", desc := "(I)V" } : Jvm.MethodName)) ∈ lw_all := lw_g (lw_at lw_m17 123 rfl) rfl
theorem q4211 : (Jvm.Cond.instanceMethod ({ cls := "TransportPairModel$Side", name := "putOwn", desc := "(I)V" } : Jvm.MethodName)) ∈ lw_all := lw_g (lw_at lw_m17 125 rfl) rfl
theorem q4212 : (Jvm.Cond.code ({ cls := "TransportPairModel$Side", name := "putOwn", desc := "(I)V" } : Jvm.MethodName) prog_41_method_6_code (2 : Nat) (Option.none : Option Jvm.ClassFile.FieldType)) ∈ lw_all := lw_g (lw_at lw_m17 126 rfl) rfl
theorem q4213 : (Jvm.Cond.constantLong "TransportPairModel$Side" (161 : Nat) (1200 : Int64)) ∈ lw_all := lw_g (lw_at lw_m17 127 rfl) rfl
theorem q4214 : (Jvm.Cond.methodLink "TransportPairModel$Side" (163 : Nat) ({ cls := "TransportPairModel$Side", name := "putNumber", desc := "(IJ)V" } : Jvm.MethodName)) ∈ lw_all := lw_g (lw_at lw_m17 128 rfl) rfl
theorem q4216 : (Jvm.Cond.instanceMethod ({ cls := "TransportPairModel$Side", name := "putNumber", desc := "(IJ)V" } : Jvm.MethodName)) ∈ lw_all := lw_g (lw_at lw_m17 130 rfl) rfl
theorem q4217 : (Jvm.Cond.code ({ cls := "TransportPairModel$Side", name := "putNumber", desc := "(IJ)V" } : Jvm.MethodName) prog_41_method_5_code (10 : Nat) (Option.none : Option Jvm.ClassFile.FieldType)) ∈ lw_all := lw_g (lw_at lw_m17 131 rfl) rfl
theorem q4218 : (Jvm.Cond.methodLink "TransportPairModel$Side" (138 : Nat) ({ cls := "TransportPairModel$Wire", name := "needs", desc := "(J)I" } : Jvm.MethodName)) ∈ lw_all := lw_g (lw_at lw_m17 132 rfl) rfl
theorem q4219 : (Jvm.Cond.static ({ cls := "TransportPairModel$Wire", name := "needs", desc := "(J)I" } : Jvm.MethodName)) ∈ lw_all := lw_g (lw_at lw_m17 133 rfl) rfl
theorem q4220 : (Jvm.Cond.code ({ cls := "TransportPairModel$Wire", name := "needs", desc := "(J)I" } : Jvm.MethodName) prog_43_method_3_code (2 : Nat) (Option.some Jvm.ClassFile.FieldType.int)) ∈ lw_all := lw_g (lw_at lw_m17 134 rfl) rfl
theorem q4221 : (Jvm.Cond.constantLong "TransportPairModel$Wire" (30 : Nat) (64 : Int64)) ∈ lw_all := lw_g (lw_at lw_m17 135 rfl) rfl
theorem q4222 : (Jvm.Cond.constantLong "TransportPairModel$Wire" (32 : Nat) (16384 : Int64)) ∈ lw_all := lw_g (lw_at lw_m17 136 rfl) rfl
theorem q4223 : (Jvm.Cond.constantLong "TransportPairModel$Wire" (34 : Nat) (1073741824 : Int64)) ∈ lw_all := lw_g (lw_at lw_m17 137 rfl) rfl
theorem q4224 : (Jvm.Cond.constantLong "TransportPairModel$Side" (145 : Nat) (2 : Int64)) ∈ lw_all := lw_g (lw_at lw_m17 138 rfl) rfl
theorem q4225 : (Jvm.Cond.constantLong "TransportPairModel$Side" (147 : Nat) (3 : Int64)) ∈ lw_all := lw_g (lw_at lw_m17 139 rfl) rfl
theorem q4226 : (Jvm.Cond.constantLong "TransportPairModel$Side" (149 : Nat) (255 : Int64)) ∈ lw_all := lw_g (lw_at lw_m17 140 rfl) rfl
theorem q4227 : (Jvm.Cond.methodLink "TransportPairModel$Side" (190 : Nat) ({ cls := "TransportPairModel$Greet", name := "begin", desc := "()V" } : Jvm.MethodName)) ∈ lw_all := lw_g (lw_at lw_m17 141 rfl) rfl
theorem q4228 : (Jvm.Cond.instanceMethod ({ cls := "TransportPairModel$Greet", name := "begin", desc := "()V" } : Jvm.MethodName)) ∈ lw_all := lw_g (lw_at lw_m17 142 rfl) rfl
theorem q4229 : (Jvm.Cond.selects "TransportPairModel$Greet" ({ cls := "TransportPairModel$Greet", name := "begin", desc := "()V" } : Jvm.MethodName) ({ cls := "TransportPairModel$Greet", name := "begin", desc := "()V" } : Jvm.MethodName)) ∈ lw_all := lw_g (lw_at lw_m17 143 rfl) rfl
theorem q4230 : (Jvm.Cond.code ({ cls := "TransportPairModel$Greet", name := "begin", desc := "()V" } : Jvm.MethodName) prog_39_method_9_code (1 : Nat) (Option.none : Option Jvm.ClassFile.FieldType)) ∈ lw_all := lw_g (lw_at lw_m17 144 rfl) rfl
theorem q4231 : (Jvm.Cond.methodLink "TransportPairModel$Greet" (98 : Nat) ({ cls := "TransportPairModel$Greet", name := "says", desc := "(IZ)V" } : Jvm.MethodName)) ∈ lw_all := lw_g (lw_at lw_m17 145 rfl) rfl
theorem q4233 : (Jvm.Cond.instanceMethod ({ cls := "TransportPairModel$Greet", name := "says", desc := "(IZ)V" } : Jvm.MethodName)) ∈ lw_all := lw_g (lw_at lw_m17 147 rfl) rfl
theorem q4234 : (Jvm.Cond.code ({ cls := "TransportPairModel$Greet", name := "says", desc := "(IZ)V" } : Jvm.MethodName) prog_39_method_8_code (7 : Nat) (Option.none : Option Jvm.ClassFile.FieldType)) ∈ lw_all := lw_g (lw_at lw_m17 148 rfl) rfl
theorem q4235 : (Jvm.Cond.methodLink "TransportPairModel$Greet" (87 : Nat) ({ cls := "TransportPairModel$Greet", name := "send", desc := "(II)V" } : Jvm.MethodName)) ∈ lw_all := lw_g (lw_at lw_m17 149 rfl) rfl
theorem q4237 : (Jvm.Cond.instanceMethod ({ cls := "TransportPairModel$Greet", name := "send", desc := "(II)V" } : Jvm.MethodName)) ∈ lw_all := lw_g (lw_at lw_m17 151 rfl) rfl
theorem q4238 : (Jvm.Cond.code ({ cls := "TransportPairModel$Greet", name := "send", desc := "(II)V" } : Jvm.MethodName) prog_39_method_6_code (3 : Nat) (Option.none : Option Jvm.ClassFile.FieldType)) ∈ lw_all := lw_g (lw_at lw_m17 152 rfl) rfl
theorem q4239 : (Jvm.Cond.methodLink "TransportPairModel$Greet" (91 : Nat) ({ cls := "TransportPairModel$Greet", name := "note", desc := "(I)V" } : Jvm.MethodName)) ∈ lw_all := lw_g (lw_at lw_m17 153 rfl) rfl
theorem q4241 : (Jvm.Cond.instanceMethod ({ cls := "TransportPairModel$Greet", name := "note", desc := "(I)V" } : Jvm.MethodName)) ∈ lw_all := lw_g (lw_at lw_m17 155 rfl) rfl
theorem q4242 : (Jvm.Cond.code ({ cls := "TransportPairModel$Greet", name := "note", desc := "(I)V" } : Jvm.MethodName) prog_39_method_7_code (2 : Nat) (Option.none : Option Jvm.ClassFile.FieldType)) ∈ lw_all := lw_g (lw_at lw_m17 156 rfl) rfl
theorem q4243 : (Jvm.Cond.methodLink "TransportPairLaw" (148 : Nat) ({ cls := "TransportPairModel", name := "open", desc := "(IZ)I" } : Jvm.MethodName)) ∈ lw_all := lw_g (lw_at lw_m17 157 rfl) rfl
theorem q4244 : (Jvm.Cond.instanceMethod ({ cls := "TransportPairModel", name := "open", desc := "(IZ)I" } : Jvm.MethodName)) ∈ lw_all := lw_g (lw_at lw_m17 158 rfl) rfl
theorem q4245 : (Jvm.Cond.selects "TransportPairModel" ({ cls := "TransportPairModel", name := "open", desc := "(IZ)I" } : Jvm.MethodName) ({ cls := "TransportPairModel", name := "open", desc := "(IZ)I" } : Jvm.MethodName)) ∈ lw_all := lw_g (lw_at lw_m17 159 rfl) rfl
theorem q4246 : (Jvm.Cond.code ({ cls := "TransportPairModel", name := "open", desc := "(IZ)I" } : Jvm.MethodName) prog_35_method_12_code (3 : Nat) (Option.some Jvm.ClassFile.FieldType.int)) ∈ lw_all := lw_g (lw_at lw_m17 160 rfl) rfl
theorem q4247 : (Jvm.Cond.methodLink "TransportPairModel" (137 : Nat) ({ cls := "TransportPairModel$Streams", name := "open", desc := "(IZ)I" } : Jvm.MethodName)) ∈ lw_all := lw_g (lw_at lw_m17 161 rfl) rfl
theorem q4248 : (Jvm.Cond.instanceMethod ({ cls := "TransportPairModel$Streams", name := "open", desc := "(IZ)I" } : Jvm.MethodName)) ∈ lw_all := lw_g (lw_at lw_m17 162 rfl) rfl
theorem q4249 : (Jvm.Cond.selects "TransportPairModel$Streams" ({ cls := "TransportPairModel$Streams", name := "open", desc := "(IZ)I" } : Jvm.MethodName) ({ cls := "TransportPairModel$Streams", name := "open", desc := "(IZ)I" } : Jvm.MethodName)) ∈ lw_all := lw_g (lw_at lw_m17 163 rfl) rfl
theorem q4250 : (Jvm.Cond.code ({ cls := "TransportPairModel$Streams", name := "open", desc := "(IZ)I" } : Jvm.MethodName) prog_42_method_27_code (6 : Nat) (Option.some Jvm.ClassFile.FieldType.int)) ∈ lw_all := lw_g (lw_at lw_m17 164 rfl) rfl
theorem q4251 : (Jvm.Cond.methodLink "TransportPairModel$Streams" (221 : Nat) ({ cls := "TransportPairModel$Streams", name := "begin", desc := "(II)V" } : Jvm.MethodName)) ∈ lw_all := lw_g (lw_at lw_m17 165 rfl) rfl
theorem q4253 : (Jvm.Cond.instanceMethod ({ cls := "TransportPairModel$Streams", name := "begin", desc := "(II)V" } : Jvm.MethodName)) ∈ lw_all := lw_g (lw_at lw_m17 167 rfl) rfl
theorem q4254 : (Jvm.Cond.code ({ cls := "TransportPairModel$Streams", name := "begin", desc := "(II)V" } : Jvm.MethodName) prog_42_method_14_code (4 : Nat) (Option.none : Option Jvm.ClassFile.FieldType)) ∈ lw_all := lw_g (lw_at lw_m17 168 rfl) rfl
theorem q4255 : (Jvm.Cond.methodLink "TransportPairModel$Streams" (182 : Nat) ({ cls := "TransportPairModel$Streams", name := "at", desc := "(II)I" } : Jvm.MethodName)) ∈ lw_all := lw_g (lw_at lw_m17 169 rfl) rfl
theorem q4256 : (Jvm.Cond.static ({ cls := "TransportPairModel$Streams", name := "at", desc := "(II)I" } : Jvm.MethodName)) ∈ lw_all := lw_g (lw_at lw_m17 170 rfl) rfl
theorem q4257 : (Jvm.Cond.code ({ cls := "TransportPairModel$Streams", name := "at", desc := "(II)I" } : Jvm.MethodName) prog_42_method_9_code (2 : Nat) (Option.some Jvm.ClassFile.FieldType.int)) ∈ lw_all := lw_g (lw_at lw_m17 171 rfl) rfl
theorem q4258 : (Jvm.Cond.methodLink "TransportPairModel$Streams" (196 : Nat) ({ cls := "TransportPairModel$Streams", name := "grantOf", desc := "(II)J" } : Jvm.MethodName)) ∈ lw_all := lw_g (lw_at lw_m17 172 rfl) rfl
theorem q4260 : (Jvm.Cond.instanceMethod ({ cls := "TransportPairModel$Streams", name := "grantOf", desc := "(II)J" } : Jvm.MethodName)) ∈ lw_all := lw_g (lw_at lw_m17 174 rfl) rfl
theorem q4261 : (Jvm.Cond.code ({ cls := "TransportPairModel$Streams", name := "grantOf", desc := "(II)J" } : Jvm.MethodName) prog_42_method_13_code (3 : Nat) (Option.some Jvm.ClassFile.FieldType.long)) ∈ lw_all := lw_g (lw_at lw_m17 175 rfl) rfl
theorem q4262 : (Jvm.Cond.methodLink "TransportPairModel$Streams" (174 : Nat) ({ cls := "TransportPairModel$Streams", name := "wayOf", desc := "(J)I" } : Jvm.MethodName)) ∈ lw_all := lw_g (lw_at lw_m17 176 rfl) rfl
theorem q4263 : (Jvm.Cond.static ({ cls := "TransportPairModel$Streams", name := "wayOf", desc := "(J)I" } : Jvm.MethodName)) ∈ lw_all := lw_g (lw_at lw_m17 177 rfl) rfl
theorem q4264 : (Jvm.Cond.code ({ cls := "TransportPairModel$Streams", name := "wayOf", desc := "(J)I" } : Jvm.MethodName) prog_42_method_5_code (2 : Nat) (Option.some Jvm.ClassFile.FieldType.int)) ∈ lw_all := lw_g (lw_at lw_m17 178 rfl) rfl
theorem q4265 : (Jvm.Cond.methodLink "TransportPairModel$Streams" (178 : Nat) ({ cls := "TransportPairModel$Streams", name := "opens", desc := "(IJ)Z" } : Jvm.MethodName)) ∈ lw_all := lw_g (lw_at lw_m17 179 rfl) rfl
theorem q4266 : (Jvm.Cond.static ({ cls := "TransportPairModel$Streams", name := "opens", desc := "(IJ)Z" } : Jvm.MethodName)) ∈ lw_all := lw_g (lw_at lw_m17 180 rfl) rfl
theorem q4267 : (Jvm.Cond.code ({ cls := "TransportPairModel$Streams", name := "opens", desc := "(IJ)Z" } : Jvm.MethodName) prog_42_method_6_code (3 : Nat) (Option.some Jvm.ClassFile.FieldType.boolean)) ∈ lw_all := lw_g (lw_at lw_m17 181 rfl) rfl
theorem q4268 : (Jvm.Cond.methodLink "TransportPairLaw" (152 : Nat) ({ cls := "TransportPairModel", name := "write", desc := "(II)I" } : Jvm.MethodName)) ∈ lw_all := lw_g (lw_at lw_m17 182 rfl) rfl
theorem q4269 : (Jvm.Cond.instanceMethod ({ cls := "TransportPairModel", name := "write", desc := "(II)I" } : Jvm.MethodName)) ∈ lw_all := lw_g (lw_at lw_m17 183 rfl) rfl
theorem q4270 : (Jvm.Cond.selects "TransportPairModel" ({ cls := "TransportPairModel", name := "write", desc := "(II)I" } : Jvm.MethodName) ({ cls := "TransportPairModel", name := "write", desc := "(II)I" } : Jvm.MethodName)) ∈ lw_all := lw_g (lw_at lw_m17 184 rfl) rfl
theorem q4271 : (Jvm.Cond.code ({ cls := "TransportPairModel", name := "write", desc := "(II)I" } : Jvm.MethodName) prog_35_method_13_code (4 : Nat) (Option.some Jvm.ClassFile.FieldType.int)) ∈ lw_all := lw_g (lw_at lw_m17 185 rfl) rfl
theorem q4272 : (Jvm.Cond.methodLink "TransportPairModel" (141 : Nat) ({ cls := "TransportPairModel$Streams", name := "write", desc := "(II[BI)I" } : Jvm.MethodName)) ∈ lw_all := lw_g (lw_at lw_m17 186 rfl) rfl
theorem q4273 : (Jvm.Cond.instanceMethod ({ cls := "TransportPairModel$Streams", name := "write", desc := "(II[BI)I" } : Jvm.MethodName)) ∈ lw_all := lw_g (lw_at lw_m17 187 rfl) rfl
theorem q4274 : (Jvm.Cond.selects "TransportPairModel$Streams" ({ cls := "TransportPairModel$Streams", name := "write", desc := "(II[BI)I" } : Jvm.MethodName) ({ cls := "TransportPairModel$Streams", name := "write", desc := "(II[BI)I" } : Jvm.MethodName)) ∈ lw_all := lw_g (lw_at lw_m17 188 rfl) rfl
theorem q4275 : (Jvm.Cond.code ({ cls := "TransportPairModel$Streams", name := "write", desc := "(II[BI)I" } : Jvm.MethodName) prog_42_method_28_code (8 : Nat) (Option.some Jvm.ClassFile.FieldType.int)) ∈ lw_all := lw_g (lw_at lw_m17 189 rfl) rfl
theorem q4276 : (Jvm.Cond.methodLink "TransportPairModel$Streams" (200 : Nat) ({ cls := "TransportPairModel$Streams", name := "hasSending", desc := "(II)Z" } : Jvm.MethodName)) ∈ lw_all := lw_g (lw_at lw_m17 190 rfl) rfl
theorem q4277 : (Jvm.Cond.instanceMethod ({ cls := "TransportPairModel$Streams", name := "hasSending", desc := "(II)Z" } : Jvm.MethodName)) ∈ lw_all := lw_g (lw_at lw_m17 191 rfl) rfl
theorem q4278 : (Jvm.Cond.selects "TransportPairModel$Streams" ({ cls := "TransportPairModel$Streams", name := "hasSending", desc := "(II)Z" } : Jvm.MethodName) ({ cls := "TransportPairModel$Streams", name := "hasSending", desc := "(II)Z" } : Jvm.MethodName)) ∈ lw_all := lw_g (lw_at lw_m17 192 rfl) rfl
theorem q4279 : (Jvm.Cond.code ({ cls := "TransportPairModel$Streams", name := "hasSending", desc := "(II)Z" } : Jvm.MethodName) prog_42_method_11_code (3 : Nat) (Option.some Jvm.ClassFile.FieldType.boolean)) ∈ lw_all := lw_g (lw_at lw_m17 193 rfl) rfl
theorem q4280 : (Jvm.Cond.methodLink "TransportPairModel$Streams" (186 : Nat) ({ cls := "TransportPairModel$Streams", name := "isThere", desc := "(II)Z" } : Jvm.MethodName)) ∈ lw_all := lw_g (lw_at lw_m17 194 rfl) rfl
theorem q4282 : (Jvm.Cond.instanceMethod ({ cls := "TransportPairModel$Streams", name := "isThere", desc := "(II)Z" } : Jvm.MethodName)) ∈ lw_all := lw_g (lw_at lw_m17 196 rfl) rfl
theorem q4283 : (Jvm.Cond.code ({ cls := "TransportPairModel$Streams", name := "isThere", desc := "(II)Z" } : Jvm.MethodName) prog_42_method_10_code (3 : Nat) (Option.some Jvm.ClassFile.FieldType.boolean)) ∈ lw_all := lw_g (lw_at lw_m17 197 rfl) rfl
theorem q4284 : (Jvm.Cond.methodLink "TransportPairModel$Streams" (190 : Nat) ({ cls := "TransportPairModel$Streams", name := "sends", desc := "(IJ)Z" } : Jvm.MethodName)) ∈ lw_all := lw_g (lw_at lw_m17 198 rfl) rfl
theorem q4285 : (Jvm.Cond.static ({ cls := "TransportPairModel$Streams", name := "sends", desc := "(IJ)Z" } : Jvm.MethodName)) ∈ lw_all := lw_g (lw_at lw_m17 199 rfl) rfl
theorem q4286 : (Jvm.Cond.code ({ cls := "TransportPairModel$Streams", name := "sends", desc := "(IJ)Z" } : Jvm.MethodName) prog_42_method_7_code (3 : Nat) (Option.some Jvm.ClassFile.FieldType.boolean)) ∈ lw_all := lw_g (lw_at lw_m17 200 rfl) rfl
theorem q4287 : (Jvm.Cond.methodLink "TransportPairModel$Streams" (203 : Nat) ({ cls := "TransportPairModel$Streams", name := "sending", desc := "(I)I" } : Jvm.MethodName)) ∈ lw_all := lw_g (lw_at lw_m17 201 rfl) rfl
theorem q4288 : (Jvm.Cond.instanceMethod ({ cls := "TransportPairModel$Streams", name := "sending", desc := "(I)I" } : Jvm.MethodName)) ∈ lw_all := lw_g (lw_at lw_m17 202 rfl) rfl
theorem q4289 : (Jvm.Cond.selects "TransportPairModel$Streams" ({ cls := "TransportPairModel$Streams", name := "sending", desc := "(I)I" } : Jvm.MethodName) ({ cls := "TransportPairModel$Streams", name := "sending", desc := "(I)I" } : Jvm.MethodName)) ∈ lw_all := lw_g (lw_at lw_m17 203 rfl) rfl
theorem q4290 : (Jvm.Cond.code ({ cls := "TransportPairModel$Streams", name := "sending", desc := "(I)I" } : Jvm.MethodName) prog_42_method_15_code (2 : Nat) (Option.some Jvm.ClassFile.FieldType.int)) ∈ lw_all := lw_g (lw_at lw_m17 204 rfl) rfl
theorem q4291 : (Jvm.Cond.constant "TransportPairModel$Streams" (225 : Nat) (65536 : Int32)) ∈ lw_all := lw_g (lw_at lw_m17 205 rfl) rfl
theorem q4292 : (Jvm.Cond.methodLink "TransportPairLaw" (155 : Nat) ({ cls := "TransportPairModel", name := "finish", desc := "(II)Z" } : Jvm.MethodName)) ∈ lw_all := lw_g (lw_at lw_m17 206 rfl) rfl
theorem q4293 : (Jvm.Cond.instanceMethod ({ cls := "TransportPairModel", name := "finish", desc := "(II)Z" } : Jvm.MethodName)) ∈ lw_all := lw_g (lw_at lw_m17 207 rfl) rfl
theorem q4294 : (Jvm.Cond.selects "TransportPairModel" ({ cls := "TransportPairModel", name := "finish", desc := "(II)Z" } : Jvm.MethodName) ({ cls := "TransportPairModel", name := "finish", desc := "(II)Z" } : Jvm.MethodName)) ∈ lw_all := lw_g (lw_at lw_m17 208 rfl) rfl
theorem q4295 : (Jvm.Cond.code ({ cls := "TransportPairModel", name := "finish", desc := "(II)Z" } : Jvm.MethodName) prog_35_method_14_code (3 : Nat) (Option.some Jvm.ClassFile.FieldType.boolean)) ∈ lw_all := lw_g (lw_at lw_m17 209 rfl) rfl
theorem q4296 : (Jvm.Cond.methodLink "TransportPairModel" (145 : Nat) ({ cls := "TransportPairModel$Streams", name := "finish", desc := "(II)Z" } : Jvm.MethodName)) ∈ lw_all := lw_g (lw_at lw_m17 210 rfl) rfl
theorem q4297 : (Jvm.Cond.instanceMethod ({ cls := "TransportPairModel$Streams", name := "finish", desc := "(II)Z" } : Jvm.MethodName)) ∈ lw_all := lw_g (lw_at lw_m17 211 rfl) rfl
theorem q4298 : (Jvm.Cond.selects "TransportPairModel$Streams" ({ cls := "TransportPairModel$Streams", name := "finish", desc := "(II)Z" } : Jvm.MethodName) ({ cls := "TransportPairModel$Streams", name := "finish", desc := "(II)Z" } : Jvm.MethodName)) ∈ lw_all := lw_g (lw_at lw_m17 212 rfl) rfl
theorem q4299 : (Jvm.Cond.code ({ cls := "TransportPairModel$Streams", name := "finish", desc := "(II)Z" } : Jvm.MethodName) prog_42_method_29_code (3 : Nat) (Option.some Jvm.ClassFile.FieldType.boolean)) ∈ lw_all := lw_g (lw_at lw_m17 213 rfl) rfl
theorem q4300 : (Jvm.Cond.methodLink "TransportPairLaw" (159 : Nat) ({ cls := "TransportPairModel", name := "reset", desc := "(III)Z" } : Jvm.MethodName)) ∈ lw_all := lw_g (lw_at lw_m17 214 rfl) rfl
theorem q4301 : (Jvm.Cond.instanceMethod ({ cls := "TransportPairModel", name := "reset", desc := "(III)Z" } : Jvm.MethodName)) ∈ lw_all := lw_g (lw_at lw_m17 215 rfl) rfl
theorem q4302 : (Jvm.Cond.selects "TransportPairModel" ({ cls := "TransportPairModel", name := "reset", desc := "(III)Z" } : Jvm.MethodName) ({ cls := "TransportPairModel", name := "reset", desc := "(III)Z" } : Jvm.MethodName)) ∈ lw_all := lw_g (lw_at lw_m17 216 rfl) rfl
theorem q4303 : (Jvm.Cond.code ({ cls := "TransportPairModel", name := "reset", desc := "(III)Z" } : Jvm.MethodName) prog_35_method_15_code (4 : Nat) (Option.some Jvm.ClassFile.FieldType.boolean)) ∈ lw_all := lw_g (lw_at lw_m17 217 rfl) rfl
theorem q4304 : (Jvm.Cond.methodLink "TransportPairModel" (149 : Nat) ({ cls := "TransportPairModel$Streams", name := "reset", desc := "(IIJ)Z" } : Jvm.MethodName)) ∈ lw_all := lw_g (lw_at lw_m17 218 rfl) rfl
theorem q4305 : (Jvm.Cond.instanceMethod ({ cls := "TransportPairModel$Streams", name := "reset", desc := "(IIJ)Z" } : Jvm.MethodName)) ∈ lw_all := lw_g (lw_at lw_m17 219 rfl) rfl
theorem q4306 : (Jvm.Cond.selects "TransportPairModel$Streams" ({ cls := "TransportPairModel$Streams", name := "reset", desc := "(IIJ)Z" } : Jvm.MethodName) ({ cls := "TransportPairModel$Streams", name := "reset", desc := "(IIJ)Z" } : Jvm.MethodName)) ∈ lw_all := lw_g (lw_at lw_m17 220 rfl) rfl
theorem q4307 : (Jvm.Cond.code ({ cls := "TransportPairModel$Streams", name := "reset", desc := "(IIJ)Z" } : Jvm.MethodName) prog_42_method_31_code (5 : Nat) (Option.some Jvm.ClassFile.FieldType.boolean)) ∈ lw_all := lw_g (lw_at lw_m17 221 rfl) rfl
theorem q4308 : (Jvm.Cond.methodLink "TransportPairModel$Streams" (226 : Nat) ({ cls := "TransportPairModel$Streams", name := "isOpenSending", desc := "(II)Z" } : Jvm.MethodName)) ∈ lw_all := lw_g (lw_at lw_m17 222 rfl) rfl
theorem q4310 : (Jvm.Cond.instanceMethod ({ cls := "TransportPairModel$Streams", name := "isOpenSending", desc := "(II)Z" } : Jvm.MethodName)) ∈ lw_all := lw_g (lw_at lw_m17 224 rfl) rfl
theorem q4311 : (Jvm.Cond.code ({ cls := "TransportPairModel$Streams", name := "isOpenSending", desc := "(II)Z" } : Jvm.MethodName) prog_42_method_16_code (3 : Nat) (Option.some Jvm.ClassFile.FieldType.boolean)) ∈ lw_all := lw_g (lw_at lw_m17 225 rfl) rfl
theorem q4312 : (Jvm.Cond.methodLink "TransportPairModel$Streams" (229 : Nat) ({ cls := "TransportPairModel$Streams", name := "doReset", desc := "(IIJ)V" } : Jvm.MethodName)) ∈ lw_all := lw_g (lw_at lw_m17 226 rfl) rfl
theorem q4314 : (Jvm.Cond.instanceMethod ({ cls := "TransportPairModel$Streams", name := "doReset", desc := "(IIJ)V" } : Jvm.MethodName)) ∈ lw_all := lw_g (lw_at lw_m17 228 rfl) rfl
theorem q4315 : (Jvm.Cond.code ({ cls := "TransportPairModel$Streams", name := "doReset", desc := "(IIJ)V" } : Jvm.MethodName) prog_42_method_30_code (6 : Nat) (Option.none : Option Jvm.ClassFile.FieldType)) ∈ lw_all := lw_g (lw_at lw_m17 229 rfl) rfl
theorem q4316 : (Jvm.Cond.methodLink "TransportPairLaw" (162 : Nat) ({ cls := "TransportPairModel", name := "stop", desc := "(III)Z" } : Jvm.MethodName)) ∈ lw_all := lw_g (lw_at lw_m17 230 rfl) rfl
theorem q4317 : (Jvm.Cond.instanceMethod ({ cls := "TransportPairModel", name := "stop", desc := "(III)Z" } : Jvm.MethodName)) ∈ lw_all := lw_g (lw_at lw_m17 231 rfl) rfl
theorem q4318 : (Jvm.Cond.selects "TransportPairModel" ({ cls := "TransportPairModel", name := "stop", desc := "(III)Z" } : Jvm.MethodName) ({ cls := "TransportPairModel", name := "stop", desc := "(III)Z" } : Jvm.MethodName)) ∈ lw_all := lw_g (lw_at lw_m17 232 rfl) rfl
theorem q4319 : (Jvm.Cond.code ({ cls := "TransportPairModel", name := "stop", desc := "(III)Z" } : Jvm.MethodName) prog_35_method_16_code (4 : Nat) (Option.some Jvm.ClassFile.FieldType.boolean)) ∈ lw_all := lw_g (lw_at lw_m17 233 rfl) rfl
theorem q4320 : (Jvm.Cond.methodLink "TransportPairModel" (153 : Nat) ({ cls := "TransportPairModel$Streams", name := "stop", desc := "(IIJ)Z" } : Jvm.MethodName)) ∈ lw_all := lw_g (lw_at lw_m17 234 rfl) rfl
theorem q4321 : (Jvm.Cond.instanceMethod ({ cls := "TransportPairModel$Streams", name := "stop", desc := "(IIJ)Z" } : Jvm.MethodName)) ∈ lw_all := lw_g (lw_at lw_m17 235 rfl) rfl
theorem q4322 : (Jvm.Cond.selects "TransportPairModel$Streams" ({ cls := "TransportPairModel$Streams", name := "stop", desc := "(IIJ)Z" } : Jvm.MethodName) ({ cls := "TransportPairModel$Streams", name := "stop", desc := "(IIJ)Z" } : Jvm.MethodName)) ∈ lw_all := lw_g (lw_at lw_m17 236 rfl) rfl
theorem q4323 : (Jvm.Cond.code ({ cls := "TransportPairModel$Streams", name := "stop", desc := "(IIJ)Z" } : Jvm.MethodName) prog_42_method_32_code (6 : Nat) (Option.some Jvm.ClassFile.FieldType.boolean)) ∈ lw_all := lw_g (lw_at lw_m17 237 rfl) rfl
theorem q4324 : (Jvm.Cond.methodLink "TransportPairModel$Streams" (233 : Nat) ({ cls := "TransportPairModel$Streams", name := "hasReceiving", desc := "(II)Z" } : Jvm.MethodName)) ∈ lw_all := lw_g (lw_at lw_m17 238 rfl) rfl
theorem q4325 : (Jvm.Cond.instanceMethod ({ cls := "TransportPairModel$Streams", name := "hasReceiving", desc := "(II)Z" } : Jvm.MethodName)) ∈ lw_all := lw_g (lw_at lw_m17 239 rfl) rfl
theorem q4326 : (Jvm.Cond.selects "TransportPairModel$Streams" ({ cls := "TransportPairModel$Streams", name := "hasReceiving", desc := "(II)Z" } : Jvm.MethodName) ({ cls := "TransportPairModel$Streams", name := "hasReceiving", desc := "(II)Z" } : Jvm.MethodName)) ∈ lw_all := lw_g (lw_at lw_m18 0 rfl) rfl
theorem q4327 : (Jvm.Cond.code ({ cls := "TransportPairModel$Streams", name := "hasReceiving", desc := "(II)Z" } : Jvm.MethodName) prog_42_method_12_code (3 : Nat) (Option.some Jvm.ClassFile.FieldType.boolean)) ∈ lw_all := lw_g (lw_at lw_m18 1 rfl) rfl
theorem q4328 : (Jvm.Cond.methodLink "TransportPairModel$Streams" (193 : Nat) ({ cls := "TransportPairModel$Streams", name := "receives", desc := "(IJ)Z" } : Jvm.MethodName)) ∈ lw_all := lw_g (lw_at lw_m18 2 rfl) rfl
theorem q4329 : (Jvm.Cond.static ({ cls := "TransportPairModel$Streams", name := "receives", desc := "(IJ)Z" } : Jvm.MethodName)) ∈ lw_all := lw_g (lw_at lw_m18 3 rfl) rfl
theorem q4330 : (Jvm.Cond.code ({ cls := "TransportPairModel$Streams", name := "receives", desc := "(IJ)Z" } : Jvm.MethodName) prog_42_method_8_code (3 : Nat) (Option.some Jvm.ClassFile.FieldType.boolean)) ∈ lw_all := lw_g (lw_at lw_m18 4 rfl) rfl
theorem q4331 : (Jvm.Cond.methodLink "TransportPairModel$Streams" (218 : Nat) ({ cls := "TransportPairModel$Streams", name := "receiving", desc := "(I)I" } : Jvm.MethodName)) ∈ lw_all := lw_g (lw_at lw_m18 5 rfl) rfl
theorem q4332 : (Jvm.Cond.instanceMethod ({ cls := "TransportPairModel$Streams", name := "receiving", desc := "(I)I" } : Jvm.MethodName)) ∈ lw_all := lw_g (lw_at lw_m18 6 rfl) rfl
theorem q4333 : (Jvm.Cond.selects "TransportPairModel$Streams" ({ cls := "TransportPairModel$Streams", name := "receiving", desc := "(I)I" } : Jvm.MethodName) ({ cls := "TransportPairModel$Streams", name := "receiving", desc := "(I)I" } : Jvm.MethodName)) ∈ lw_all := lw_g (lw_at lw_m18 7 rfl) rfl
theorem q4334 : (Jvm.Cond.code ({ cls := "TransportPairModel$Streams", name := "receiving", desc := "(I)I" } : Jvm.MethodName) prog_42_method_17_code (2 : Nat) (Option.some Jvm.ClassFile.FieldType.int)) ∈ lw_all := lw_g (lw_at lw_m18 8 rfl) rfl
theorem q4335 : (Jvm.Cond.methodLink "TransportPairLaw" (165 : Nat) ({ cls := "TransportPairModel", name := "read", desc := "(III)I" } : Jvm.MethodName)) ∈ lw_all := lw_g (lw_at lw_m18 9 rfl) rfl
theorem q4336 : (Jvm.Cond.instanceMethod ({ cls := "TransportPairModel", name := "read", desc := "(III)I" } : Jvm.MethodName)) ∈ lw_all := lw_g (lw_at lw_m18 10 rfl) rfl
theorem q4337 : (Jvm.Cond.selects "TransportPairModel" ({ cls := "TransportPairModel", name := "read", desc := "(III)I" } : Jvm.MethodName) ({ cls := "TransportPairModel", name := "read", desc := "(III)I" } : Jvm.MethodName)) ∈ lw_all := lw_g (lw_at lw_m18 11 rfl) rfl
theorem q4338 : (Jvm.Cond.code ({ cls := "TransportPairModel", name := "read", desc := "(III)I" } : Jvm.MethodName) prog_35_method_17_code (5 : Nat) (Option.some Jvm.ClassFile.FieldType.int)) ∈ lw_all := lw_g (lw_at lw_m18 12 rfl) rfl
theorem q4339 : (Jvm.Cond.methodLink "TransportPairModel" (156 : Nat) ({ cls := "TransportPairModel$Streams", name := "read", desc := "(III[I)I" } : Jvm.MethodName)) ∈ lw_all := lw_g (lw_at lw_m18 13 rfl) rfl
theorem q4340 : (Jvm.Cond.instanceMethod ({ cls := "TransportPairModel$Streams", name := "read", desc := "(III[I)I" } : Jvm.MethodName)) ∈ lw_all := lw_g (lw_at lw_m18 14 rfl) rfl
theorem q4341 : (Jvm.Cond.selects "TransportPairModel$Streams" ({ cls := "TransportPairModel$Streams", name := "read", desc := "(III[I)I" } : Jvm.MethodName) ({ cls := "TransportPairModel$Streams", name := "read", desc := "(III[I)I" } : Jvm.MethodName)) ∈ lw_all := lw_g (lw_at lw_m18 15 rfl) rfl
theorem q4342 : (Jvm.Cond.code ({ cls := "TransportPairModel$Streams", name := "read", desc := "(III[I)I" } : Jvm.MethodName) prog_42_method_33_code (8 : Nat) (Option.some Jvm.ClassFile.FieldType.int)) ∈ lw_all := lw_g (lw_at lw_m18 16 rfl) rfl
theorem q4343 : (Jvm.Cond.methodLink "TransportPairModel$Streams" (207 : Nat) ({ cls := "TransportPairModel$Streams", name := "pieceAt", desc := "(II)I" } : Jvm.MethodName)) ∈ lw_all := lw_g (lw_at lw_m18 17 rfl) rfl
theorem q4345 : (Jvm.Cond.instanceMethod ({ cls := "TransportPairModel$Streams", name := "pieceAt", desc := "(II)I" } : Jvm.MethodName)) ∈ lw_all := lw_g (lw_at lw_m18 19 rfl) rfl
theorem q4346 : (Jvm.Cond.code ({ cls := "TransportPairModel$Streams", name := "pieceAt", desc := "(II)I" } : Jvm.MethodName) prog_42_method_21_code (4 : Nat) (Option.some Jvm.ClassFile.FieldType.int)) ∈ lw_all := lw_g (lw_at lw_m18 20 rfl) rfl
theorem q4347 : (Jvm.Cond.methodLink "TransportPairModel$Streams" (236 : Nat) ({ cls := "TransportPairModel$Streams", name := "growData", desc := "(I)V" } : Jvm.MethodName)) ∈ lw_all := lw_g (lw_at lw_m18 21 rfl) rfl
theorem q4349 : (Jvm.Cond.instanceMethod ({ cls := "TransportPairModel$Streams", name := "growData", desc := "(I)V" } : Jvm.MethodName)) ∈ lw_all := lw_g (lw_at lw_m18 23 rfl) rfl
theorem q4350 : (Jvm.Cond.code ({ cls := "TransportPairModel$Streams", name := "growData", desc := "(I)V" } : Jvm.MethodName) prog_42_method_24_code (8 : Nat) (Option.none : Option Jvm.ClassFile.FieldType)) ∈ lw_all := lw_g (lw_at lw_m18 24 rfl) rfl
theorem q4351 : (Jvm.Cond.methodLink "TransportPairModel$Streams" (210 : Nat) ({ cls := "TransportPairModel$Streams", name := "consumed", desc := "(I)J" } : Jvm.MethodName)) ∈ lw_all := lw_g (lw_at lw_m18 25 rfl) rfl
theorem q4353 : (Jvm.Cond.instanceMethod ({ cls := "TransportPairModel$Streams", name := "consumed", desc := "(I)J" } : Jvm.MethodName)) ∈ lw_all := lw_g (lw_at lw_m18 27 rfl) rfl
theorem q4354 : (Jvm.Cond.code ({ cls := "TransportPairModel$Streams", name := "consumed", desc := "(I)J" } : Jvm.MethodName) prog_42_method_19_code (5 : Nat) (Option.some Jvm.ClassFile.FieldType.long)) ∈ lw_all := lw_g (lw_at lw_m18 28 rfl) rfl
theorem q4355 : (Jvm.Cond.constantLong "TransportPairModel$Streams" (214 : Nat) (65536 : Int64)) ∈ lw_all := lw_g (lw_at lw_m18 29 rfl) rfl
theorem q4356 : (Jvm.Cond.constantLong "TransportPairModel$Streams" (216 : Nat) (2 : Int64)) ∈ lw_all := lw_g (lw_at lw_m18 30 rfl) rfl
theorem q4357 : (Jvm.Cond.methodLink "TransportPairModel$Streams" (240 : Nat) ({ cls := "TransportPairModel$Streams", name := "growStream", desc := "(II)V" } : Jvm.MethodName)) ∈ lw_all := lw_g (lw_at lw_m18 31 rfl) rfl
theorem q4359 : (Jvm.Cond.instanceMethod ({ cls := "TransportPairModel$Streams", name := "growStream", desc := "(II)V" } : Jvm.MethodName)) ∈ lw_all := lw_g (lw_at lw_m18 33 rfl) rfl
theorem q4360 : (Jvm.Cond.code ({ cls := "TransportPairModel$Streams", name := "growStream", desc := "(II)V" } : Jvm.MethodName) prog_42_method_25_code (10 : Nat) (Option.none : Option Jvm.ClassFile.FieldType)) ∈ lw_all := lw_g (lw_at lw_m18 34 rfl) rfl
theorem q4361 : (Jvm.Cond.methodLink "TransportPairModel$Streams" (243 : Nat) ({ cls := "TransportPairModel$Streams", name := "looksOver", desc := "(II)V" } : Jvm.MethodName)) ∈ lw_all := lw_g (lw_at lw_m18 35 rfl) rfl
theorem q4363 : (Jvm.Cond.instanceMethod ({ cls := "TransportPairModel$Streams", name := "looksOver", desc := "(II)V" } : Jvm.MethodName)) ∈ lw_all := lw_g (lw_at lw_m18 37 rfl) rfl
theorem q4364 : (Jvm.Cond.code ({ cls := "TransportPairModel$Streams", name := "looksOver", desc := "(II)V" } : Jvm.MethodName) prog_42_method_26_code (7 : Nat) (Option.none : Option Jvm.ClassFile.FieldType)) ∈ lw_all := lw_g (lw_at lw_m18 38 rfl) rfl
theorem q4365 : (Jvm.Cond.methodLink "TransportPairLaw" (168 : Nat) ({ cls := "TransportPairModel", name := "outs", desc := "(I)J" } : Jvm.MethodName)) ∈ lw_all := lw_g (lw_at lw_m18 39 rfl) rfl
theorem q4366 : (Jvm.Cond.instanceMethod ({ cls := "TransportPairModel", name := "outs", desc := "(I)J" } : Jvm.MethodName)) ∈ lw_all := lw_g (lw_at lw_m18 40 rfl) rfl
theorem q4367 : (Jvm.Cond.selects "TransportPairModel" ({ cls := "TransportPairModel", name := "outs", desc := "(I)J" } : Jvm.MethodName) ({ cls := "TransportPairModel", name := "outs", desc := "(I)J" } : Jvm.MethodName)) ∈ lw_all := lw_g (lw_at lw_m18 41 rfl) rfl
theorem q4368 : (Jvm.Cond.code ({ cls := "TransportPairModel", name := "outs", desc := "(I)J" } : Jvm.MethodName) prog_35_method_18_code (5 : Nat) (Option.some Jvm.ClassFile.FieldType.long)) ∈ lw_all := lw_g (lw_at lw_m18 42 rfl) rfl
theorem q4369 : (Jvm.Cond.methodLink "TransportPairLaw" (171 : Nat) ({ cls := "TransportPairModel", name := "close", desc := "(II)Z" } : Jvm.MethodName)) ∈ lw_all := lw_g (lw_at lw_m18 43 rfl) rfl
theorem q4370 : (Jvm.Cond.instanceMethod ({ cls := "TransportPairModel", name := "close", desc := "(II)Z" } : Jvm.MethodName)) ∈ lw_all := lw_g (lw_at lw_m18 44 rfl) rfl
theorem q4371 : (Jvm.Cond.selects "TransportPairModel" ({ cls := "TransportPairModel", name := "close", desc := "(II)Z" } : Jvm.MethodName) ({ cls := "TransportPairModel", name := "close", desc := "(II)Z" } : Jvm.MethodName)) ∈ lw_all := lw_g (lw_at lw_m18 45 rfl) rfl
theorem q4372 : (Jvm.Cond.code ({ cls := "TransportPairModel", name := "close", desc := "(II)Z" } : Jvm.MethodName) prog_35_method_19_code (3 : Nat) (Option.some Jvm.ClassFile.FieldType.boolean)) ∈ lw_all := lw_g (lw_at lw_m18 46 rfl) rfl
theorem q4373 : (Jvm.Cond.methodLink "TransportPairModel" (163 : Nat) ({ cls := "TransportPairModel$Side", name := "isAlive", desc := "()Z" } : Jvm.MethodName)) ∈ lw_all := lw_g (lw_at lw_m18 47 rfl) rfl
theorem q4374 : (Jvm.Cond.instanceMethod ({ cls := "TransportPairModel$Side", name := "isAlive", desc := "()Z" } : Jvm.MethodName)) ∈ lw_all := lw_g (lw_at lw_m18 48 rfl) rfl
theorem q4375 : (Jvm.Cond.selects "TransportPairModel$Side" ({ cls := "TransportPairModel$Side", name := "isAlive", desc := "()Z" } : Jvm.MethodName) ({ cls := "TransportPairModel$Side", name := "isAlive", desc := "()Z" } : Jvm.MethodName)) ∈ lw_all := lw_g (lw_at lw_m18 49 rfl) rfl
theorem q4376 : (Jvm.Cond.code ({ cls := "TransportPairModel$Side", name := "isAlive", desc := "()Z" } : Jvm.MethodName) prog_41_method_2_code (1 : Nat) (Option.some Jvm.ClassFile.FieldType.boolean)) ∈ lw_all := lw_g (lw_at lw_m18 50 rfl) rfl
theorem q4377 : (Jvm.Cond.methodLink "TransportPairModel" (167 : Nat) ({ cls := "TransportPairModel$Side", name := "closes", desc := "(II)V" } : Jvm.MethodName)) ∈ lw_all := lw_g (lw_at lw_m18 51 rfl) rfl
theorem q4378 : (Jvm.Cond.instanceMethod ({ cls := "TransportPairModel$Side", name := "closes", desc := "(II)V" } : Jvm.MethodName)) ∈ lw_all := lw_g (lw_at lw_m18 52 rfl) rfl
theorem q4379 : (Jvm.Cond.selects "TransportPairModel$Side" ({ cls := "TransportPairModel$Side", name := "closes", desc := "(II)V" } : Jvm.MethodName) ({ cls := "TransportPairModel$Side", name := "closes", desc := "(II)V" } : Jvm.MethodName)) ∈ lw_all := lw_g (lw_at lw_m18 53 rfl) rfl
theorem q4380 : (Jvm.Cond.code ({ cls := "TransportPairModel$Side", name := "closes", desc := "(II)V" } : Jvm.MethodName) prog_41_method_12_code (3 : Nat) (Option.none : Option Jvm.ClassFile.FieldType)) ∈ lw_all := lw_g (lw_at lw_m18 54 rfl) rfl
theorem q4381 : (Jvm.Cond.methodLink "TransportPairModel$Side" (220 : Nat) ({ cls := "TransportPairModel$Side", name := "isAlive", desc := "()Z" } : Jvm.MethodName)) ∈ lw_all := lw_g (lw_at lw_m18 55 rfl) rfl
theorem q4382 : (Jvm.Cond.methodLink "TransportPairModel$Side" (224 : Nat) ({ cls := "TransportPairModel$Side", name := "end", desc := "(I)V" } : Jvm.MethodName)) ∈ lw_all := lw_g (lw_at lw_m18 56 rfl) rfl
theorem q4384 : (Jvm.Cond.instanceMethod ({ cls := "TransportPairModel$Side", name := "end", desc := "(I)V" } : Jvm.MethodName)) ∈ lw_all := lw_g (lw_at lw_m18 58 rfl) rfl
theorem q4385 : (Jvm.Cond.code ({ cls := "TransportPairModel$Side", name := "end", desc := "(I)V" } : Jvm.MethodName) prog_41_method_11_code (2 : Nat) (Option.none : Option Jvm.ClassFile.FieldType)) ∈ lw_all := lw_g (lw_at lw_m18 59 rfl) rfl
theorem q4386 : (Jvm.Cond.methodLink "TransportPairModel$Side" (213 : Nat) ({ cls := "TransportPairModel$Book", name := "patience", desc := "(Z)I" } : Jvm.MethodName)) ∈ lw_all := lw_g (lw_at lw_m18 60 rfl) rfl
theorem q4387 : (Jvm.Cond.instanceMethod ({ cls := "TransportPairModel$Book", name := "patience", desc := "(Z)I" } : Jvm.MethodName)) ∈ lw_all := lw_g (lw_at lw_m18 61 rfl) rfl
theorem q4388 : (Jvm.Cond.selects "TransportPairModel$Book" ({ cls := "TransportPairModel$Book", name := "patience", desc := "(Z)I" } : Jvm.MethodName) ({ cls := "TransportPairModel$Book", name := "patience", desc := "(Z)I" } : Jvm.MethodName)) ∈ lw_all := lw_g (lw_at lw_m18 62 rfl) rfl
theorem q4389 : (Jvm.Cond.code ({ cls := "TransportPairModel$Book", name := "patience", desc := "(Z)I" } : Jvm.MethodName) prog_36_method_7_code (2 : Nat) (Option.some Jvm.ClassFile.FieldType.int)) ∈ lw_all := lw_g (lw_at lw_m18 63 rfl) rfl
theorem q4390 : (Jvm.Cond.methodLink "TransportPairModel$Book" (114 : Nat) ({ cls := "TransportPairModel$Book", name := "greater", desc := "(II)I" } : Jvm.MethodName)) ∈ lw_all := lw_g (lw_at lw_m18 64 rfl) rfl
theorem q4391 : (Jvm.Cond.static ({ cls := "TransportPairModel$Book", name := "greater", desc := "(II)I" } : Jvm.MethodName)) ∈ lw_all := lw_g (lw_at lw_m18 65 rfl) rfl
theorem q4392 : (Jvm.Cond.code ({ cls := "TransportPairModel$Book", name := "greater", desc := "(II)I" } : Jvm.MethodName) prog_36_method_2_code (2 : Nat) (Option.some Jvm.ClassFile.FieldType.int)) ∈ lw_all := lw_g (lw_at lw_m18 66 rfl) rfl
theorem q4393 : (Jvm.Cond.methodLink "TransportPairLaw" (174 : Nat) ({ cls := "TransportPairModel", name := "raw", desc := "(I)V" } : Jvm.MethodName)) ∈ lw_all := lw_g (lw_at lw_m18 67 rfl) rfl
theorem q4394 : (Jvm.Cond.instanceMethod ({ cls := "TransportPairModel", name := "raw", desc := "(I)V" } : Jvm.MethodName)) ∈ lw_all := lw_g (lw_at lw_m18 68 rfl) rfl
theorem q4395 : (Jvm.Cond.selects "TransportPairModel" ({ cls := "TransportPairModel", name := "raw", desc := "(I)V" } : Jvm.MethodName) ({ cls := "TransportPairModel", name := "raw", desc := "(I)V" } : Jvm.MethodName)) ∈ lw_all := lw_g (lw_at lw_m18 69 rfl) rfl
theorem q4396 : (Jvm.Cond.code ({ cls := "TransportPairModel", name := "raw", desc := "(I)V" } : Jvm.MethodName) prog_35_method_20_code (4 : Nat) (Option.none : Option Jvm.ClassFile.FieldType)) ∈ lw_all := lw_g (lw_at lw_m18 70 rfl) rfl
theorem q4397 : (Jvm.Cond.methodLink "TransportPairLaw" (177 : Nat) ({ cls := "TransportPairModel", name := "deliver", desc := "(II)I" } : Jvm.MethodName)) ∈ lw_all := lw_g (lw_at lw_m18 71 rfl) rfl
theorem q4398 : (Jvm.Cond.instanceMethod ({ cls := "TransportPairModel", name := "deliver", desc := "(II)I" } : Jvm.MethodName)) ∈ lw_all := lw_g (lw_at lw_m18 72 rfl) rfl
theorem q4399 : (Jvm.Cond.selects "TransportPairModel" ({ cls := "TransportPairModel", name := "deliver", desc := "(II)I" } : Jvm.MethodName) ({ cls := "TransportPairModel", name := "deliver", desc := "(II)I" } : Jvm.MethodName)) ∈ lw_all := lw_g (lw_at lw_m18 73 rfl) rfl
theorem q4400 : (Jvm.Cond.code ({ cls := "TransportPairModel", name := "deliver", desc := "(II)I" } : Jvm.MethodName) prog_35_method_26_code (3 : Nat) (Option.some Jvm.ClassFile.FieldType.int)) ∈ lw_all := lw_g (lw_at lw_m18 74 rfl) rfl
theorem q4401 : (Jvm.Cond.methodLink "TransportPairModel" (181 : Nat) ({ cls := "TransportPairModel", name := "isNone", desc := "(II)Z" } : Jvm.MethodName)) ∈ lw_all := lw_g (lw_at lw_m18 75 rfl) rfl
theorem q4403 : (Jvm.Cond.instanceMethod ({ cls := "TransportPairModel", name := "isNone", desc := "(II)Z" } : Jvm.MethodName)) ∈ lw_all := lw_g (lw_at lw_m18 77 rfl) rfl
theorem q4404 : (Jvm.Cond.code ({ cls := "TransportPairModel", name := "isNone", desc := "(II)Z" } : Jvm.MethodName) prog_35_method_25_code (3 : Nat) (Option.some Jvm.ClassFile.FieldType.boolean)) ∈ lw_all := lw_g (lw_at lw_m18 78 rfl) rfl
theorem q4405 : (Jvm.Cond.methodLink "TransportPairModel" (184 : Nat) ({ cls := "TransportPairModel", name := "delivers", desc := "(II)I" } : Jvm.MethodName)) ∈ lw_all := lw_g (lw_at lw_m18 79 rfl) rfl
theorem q4407 : (Jvm.Cond.instanceMethod ({ cls := "TransportPairModel", name := "delivers", desc := "(II)I" } : Jvm.MethodName)) ∈ lw_all := lw_g (lw_at lw_m18 81 rfl) rfl
theorem q4408 : (Jvm.Cond.code ({ cls := "TransportPairModel", name := "delivers", desc := "(II)I" } : Jvm.MethodName) prog_35_method_27_code (4 : Nat) (Option.some Jvm.ClassFile.FieldType.int)) ∈ lw_all := lw_g (lw_at lw_m18 82 rfl) rfl
theorem q4409 : (Jvm.Cond.methodLink "TransportPairModel" (187 : Nat) ({ cls := "TransportPairModel", name := "lift", desc := "(II)V" } : Jvm.MethodName)) ∈ lw_all := lw_g (lw_at lw_m18 83 rfl) rfl
theorem q4411 : (Jvm.Cond.instanceMethod ({ cls := "TransportPairModel", name := "lift", desc := "(II)V" } : Jvm.MethodName)) ∈ lw_all := lw_g (lw_at lw_m18 85 rfl) rfl
theorem q4412 : (Jvm.Cond.code ({ cls := "TransportPairModel", name := "lift", desc := "(II)V" } : Jvm.MethodName) prog_35_method_23_code (5 : Nat) (Option.none : Option Jvm.ClassFile.FieldType)) ∈ lw_all := lw_g (lw_at lw_m18 86 rfl) rfl
theorem q4413 : (Jvm.Cond.methodLink "TransportPairModel" (177 : Nat) ({ cls := "TransportPairModel", name := "place", desc := "(II)I" } : Jvm.MethodName)) ∈ lw_all := lw_g (lw_at lw_m18 87 rfl) rfl
theorem q4415 : (Jvm.Cond.instanceMethod ({ cls := "TransportPairModel", name := "place", desc := "(II)I" } : Jvm.MethodName)) ∈ lw_all := lw_g (lw_at lw_m18 89 rfl) rfl
theorem q4416 : (Jvm.Cond.code ({ cls := "TransportPairModel", name := "place", desc := "(II)I" } : Jvm.MethodName) prog_35_method_21_code (3 : Nat) (Option.some Jvm.ClassFile.FieldType.int)) ∈ lw_all := lw_g (lw_at lw_m18 90 rfl) rfl
theorem q4417 : (Jvm.Cond.methodLink "TransportPairModel" (190 : Nat) ({ cls := "TransportPairModel", name := "remove", desc := "(II)I" } : Jvm.MethodName)) ∈ lw_all := lw_g (lw_at lw_m18 91 rfl) rfl
theorem q4419 : (Jvm.Cond.instanceMethod ({ cls := "TransportPairModel", name := "remove", desc := "(II)I" } : Jvm.MethodName)) ∈ lw_all := lw_g (lw_at lw_m18 93 rfl) rfl
theorem q4420 : (Jvm.Cond.code ({ cls := "TransportPairModel", name := "remove", desc := "(II)I" } : Jvm.MethodName) prog_35_method_24_code (5 : Nat) (Option.some Jvm.ClassFile.FieldType.int)) ∈ lw_all := lw_g (lw_at lw_m18 94 rfl) rfl
theorem q4421 : (Jvm.Cond.methodLink "TransportPairModel" (193 : Nat) ({ cls := "TransportPairModel", name := "comes", desc := "(II)V" } : Jvm.MethodName)) ∈ lw_all := lw_g (lw_at lw_m18 95 rfl) rfl
theorem q4423 : (Jvm.Cond.instanceMethod ({ cls := "TransportPairModel", name := "comes", desc := "(II)V" } : Jvm.MethodName)) ∈ lw_all := lw_g (lw_at lw_m18 97 rfl) rfl
theorem q4424 : (Jvm.Cond.code ({ cls := "TransportPairModel", name := "comes", desc := "(II)V" } : Jvm.MethodName) prog_35_method_37_code (7 : Nat) (Option.none : Option Jvm.ClassFile.FieldType)) ∈ lw_all := lw_g (lw_at lw_m18 98 rfl) rfl
theorem q4425 : (Jvm.Cond.methodLink "TransportPairModel" (266 : Nat) ({ cls := "TransportPairModel", name := "reads", desc := "(II)I" } : Jvm.MethodName)) ∈ lw_all := lw_g (lw_at lw_m18 99 rfl) rfl
theorem q4427 : (Jvm.Cond.instanceMethod ({ cls := "TransportPairModel", name := "reads", desc := "(II)I" } : Jvm.MethodName)) ∈ lw_all := lw_g (lw_at lw_m18 101 rfl) rfl
theorem q4428 : (Jvm.Cond.code ({ cls := "TransportPairModel", name := "reads", desc := "(II)I" } : Jvm.MethodName) prog_35_method_34_code (6 : Nat) (Option.some Jvm.ClassFile.FieldType.int)) ∈ lw_all := lw_g (lw_at lw_m18 102 rfl) rfl
theorem q4429 : (Jvm.Cond.methodLink "TransportPairModel" (225 : Nat) ({ cls := "TransportPairModel$Wire", name := "look", desc := "([III)V" } : Jvm.MethodName)) ∈ lw_all := lw_g (lw_at lw_m18 103 rfl) rfl
theorem q4430 : (Jvm.Cond.instanceMethod ({ cls := "TransportPairModel$Wire", name := "look", desc := "([III)V" } : Jvm.MethodName)) ∈ lw_all := lw_g (lw_at lw_m18 104 rfl) rfl
theorem q4431 : (Jvm.Cond.selects "TransportPairModel$Wire" ({ cls := "TransportPairModel$Wire", name := "look", desc := "([III)V" } : Jvm.MethodName) ({ cls := "TransportPairModel$Wire", name := "look", desc := "([III)V" } : Jvm.MethodName)) ∈ lw_all := lw_g (lw_at lw_m18 105 rfl) rfl
theorem q4432 : (Jvm.Cond.code ({ cls := "TransportPairModel$Wire", name := "look", desc := "([III)V" } : Jvm.MethodName) prog_43_method_2_code (4 : Nat) (Option.none : Option Jvm.ClassFile.FieldType)) ∈ lw_all := lw_g (lw_at lw_m18 106 rfl) rfl
theorem q4433 : (Jvm.Cond.methodLink "TransportPairModel" (229 : Nat) ({ cls := "TransportPairModel$Wire", name := "take", desc := "(I)J" } : Jvm.MethodName)) ∈ lw_all := lw_g (lw_at lw_m18 107 rfl) rfl
theorem q4434 : (Jvm.Cond.instanceMethod ({ cls := "TransportPairModel$Wire", name := "take", desc := "(I)J" } : Jvm.MethodName)) ∈ lw_all := lw_g (lw_at lw_m18 108 rfl) rfl
theorem q4435 : (Jvm.Cond.selects "TransportPairModel$Wire" ({ cls := "TransportPairModel$Wire", name := "take", desc := "(I)J" } : Jvm.MethodName) ({ cls := "TransportPairModel$Wire", name := "take", desc := "(I)J" } : Jvm.MethodName)) ∈ lw_all := lw_g (lw_at lw_m18 109 rfl) rfl
theorem q4436 : (Jvm.Cond.code ({ cls := "TransportPairModel$Wire", name := "take", desc := "(I)J" } : Jvm.MethodName) prog_43_method_4_code (5 : Nat) (Option.some Jvm.ClassFile.FieldType.long)) ∈ lw_all := lw_g (lw_at lw_m18 110 rfl) rfl
theorem q4437 : (Jvm.Cond.constantLong "TransportPairModel" (236 : Nat) (8 : Int64)) ∈ lw_all := lw_g (lw_at lw_m18 111 rfl) rfl
theorem q4438 : (Jvm.Cond.methodLink "TransportPairModel" (238 : Nat) ({ cls := "TransportPairModel$Wire", name := "pass", desc := "(J)I" } : Jvm.MethodName)) ∈ lw_all := lw_g (lw_at lw_m18 112 rfl) rfl
theorem q4439 : (Jvm.Cond.instanceMethod ({ cls := "TransportPairModel$Wire", name := "pass", desc := "(J)I" } : Jvm.MethodName)) ∈ lw_all := lw_g (lw_at lw_m18 113 rfl) rfl
theorem q4440 : (Jvm.Cond.selects "TransportPairModel$Wire" ({ cls := "TransportPairModel$Wire", name := "pass", desc := "(J)I" } : Jvm.MethodName) ({ cls := "TransportPairModel$Wire", name := "pass", desc := "(J)I" } : Jvm.MethodName)) ∈ lw_all := lw_g (lw_at lw_m18 114 rfl) rfl
theorem q4441 : (Jvm.Cond.code ({ cls := "TransportPairModel$Wire", name := "pass", desc := "(J)I" } : Jvm.MethodName) prog_43_method_6_code (4 : Nat) (Option.some Jvm.ClassFile.FieldType.int)) ∈ lw_all := lw_g (lw_at lw_m18 115 rfl) rfl
theorem q4442 : (Jvm.Cond.constantLong "TransportPairModel" (245 : Nat) (20 : Int64)) ∈ lw_all := lw_g (lw_at lw_m18 116 rfl) rfl
theorem q4443 : (Jvm.Cond.methodLink "TransportPairModel" (247 : Nat) ({ cls := "TransportPairModel", name := "readsName", desc := "(I)Z" } : Jvm.MethodName)) ∈ lw_all := lw_g (lw_at lw_m18 117 rfl) rfl
theorem q4445 : (Jvm.Cond.instanceMethod ({ cls := "TransportPairModel", name := "readsName", desc := "(I)Z" } : Jvm.MethodName)) ∈ lw_all := lw_g (lw_at lw_m18 119 rfl) rfl
theorem q4446 : (Jvm.Cond.code ({ cls := "TransportPairModel", name := "readsName", desc := "(I)Z" } : Jvm.MethodName) prog_35_method_35_code (3 : Nat) (Option.some Jvm.ClassFile.FieldType.boolean)) ∈ lw_all := lw_g (lw_at lw_m18 120 rfl) rfl
theorem q4447 : (Jvm.Cond.methodLink "TransportPairModel" (250 : Nat) ({ cls := "TransportPairModel$Wire", name := "takeNumber", desc := "()J" } : Jvm.MethodName)) ∈ lw_all := lw_g (lw_at lw_m18 121 rfl) rfl
theorem q4448 : (Jvm.Cond.instanceMethod ({ cls := "TransportPairModel$Wire", name := "takeNumber", desc := "()J" } : Jvm.MethodName)) ∈ lw_all := lw_g (lw_at lw_m18 122 rfl) rfl
theorem q4449 : (Jvm.Cond.selects "TransportPairModel$Wire" ({ cls := "TransportPairModel$Wire", name := "takeNumber", desc := "()J" } : Jvm.MethodName) ({ cls := "TransportPairModel$Wire", name := "takeNumber", desc := "()J" } : Jvm.MethodName)) ∈ lw_all := lw_g (lw_at lw_m18 123 rfl) rfl
theorem q4450 : (Jvm.Cond.code ({ cls := "TransportPairModel$Wire", name := "takeNumber", desc := "()J" } : Jvm.MethodName) prog_43_method_5_code (4 : Nat) (Option.some Jvm.ClassFile.FieldType.long)) ∈ lw_all := lw_g (lw_at lw_m18 124 rfl) rfl
theorem q4451 : (Jvm.Cond.methodLink "TransportPairModel$Wire" (36 : Nat) ({ cls := "TransportPairModel$Wire", name := "take", desc := "(I)J" } : Jvm.MethodName)) ∈ lw_all := lw_g (lw_at lw_m18 125 rfl) rfl
theorem q4452 : (Jvm.Cond.constantLong "TransportPairModel$Wire" (40 : Nat) (4611686018427387903 : Int64)) ∈ lw_all := lw_g (lw_at lw_m18 126 rfl) rfl
theorem q4453 : (Jvm.Cond.methodLink "TransportPairModel" (269 : Nat) ({ cls := "TransportPairModel", name := "isSame", desc := "()Z" } : Jvm.MethodName)) ∈ lw_all := lw_g (lw_at lw_m18 127 rfl) rfl
theorem q4455 : (Jvm.Cond.instanceMethod ({ cls := "TransportPairModel", name := "isSame", desc := "()Z" } : Jvm.MethodName)) ∈ lw_all := lw_g (lw_at lw_m18 129 rfl) rfl
theorem q4456 : (Jvm.Cond.code ({ cls := "TransportPairModel", name := "isSame", desc := "()Z" } : Jvm.MethodName) prog_35_method_36_code (3 : Nat) (Option.some Jvm.ClassFile.FieldType.boolean)) ∈ lw_all := lw_g (lw_at lw_m18 130 rfl) rfl
theorem q4457 : (Jvm.Cond.methodLink "TransportPairModel" (272 : Nat) ({ cls := "TransportPairModel$Side", name := "packet", desc := "([I[II)V" } : Jvm.MethodName)) ∈ lw_all := lw_g (lw_at lw_m18 131 rfl) rfl
theorem q4458 : (Jvm.Cond.instanceMethod ({ cls := "TransportPairModel$Side", name := "packet", desc := "([I[II)V" } : Jvm.MethodName)) ∈ lw_all := lw_g (lw_at lw_m18 132 rfl) rfl
theorem q4459 : (Jvm.Cond.selects "TransportPairModel$Side" ({ cls := "TransportPairModel$Side", name := "packet", desc := "([I[II)V" } : Jvm.MethodName) ({ cls := "TransportPairModel$Side", name := "packet", desc := "([I[II)V" } : Jvm.MethodName)) ∈ lw_all := lw_g (lw_at lw_m18 133 rfl) rfl
theorem q4460 : (Jvm.Cond.code ({ cls := "TransportPairModel$Side", name := "packet", desc := "([I[II)V" } : Jvm.MethodName) prog_41_method_14_code (15 : Nat) (Option.none : Option Jvm.ClassFile.FieldType)) ∈ lw_all := lw_g (lw_at lw_m18 134 rfl) rfl
theorem q4461 : (Jvm.Cond.methodLink "TransportPairModel$Side" (242 : Nat) ({ cls := "TransportPairModel$Side", name := "tries", desc := "([I[I)Z" } : Jvm.MethodName)) ∈ lw_all := lw_g (lw_at lw_m18 135 rfl) rfl
theorem q4463 : (Jvm.Cond.instanceMethod ({ cls := "TransportPairModel$Side", name := "tries", desc := "([I[I)Z" } : Jvm.MethodName)) ∈ lw_all := lw_g (lw_at lw_m18 137 rfl) rfl
theorem q4464 : (Jvm.Cond.code ({ cls := "TransportPairModel$Side", name := "tries", desc := "([I[I)Z" } : Jvm.MethodName) prog_41_method_15_code (8 : Nat) (Option.some Jvm.ClassFile.FieldType.boolean)) ∈ lw_all := lw_g (lw_at lw_m18 138 rfl) rfl
theorem q4465 : (Jvm.Cond.methodLink "TransportPairModel$Side" (254 : Nat) ({ cls := "TransportPairModel$Seals", name := "shield", desc := "([II[IIIZ)I" } : Jvm.MethodName)) ∈ lw_all := lw_g (lw_at lw_m18 139 rfl) rfl
theorem q4466 : (Jvm.Cond.instanceMethod ({ cls := "TransportPairModel$Seals", name := "shield", desc := "([II[IIIZ)I" } : Jvm.MethodName)) ∈ lw_all := lw_g (lw_at lw_m18 140 rfl) rfl
theorem q4467 : (Jvm.Cond.selects "TransportPairModel$Seals" ({ cls := "TransportPairModel$Seals", name := "shield", desc := "([II[IIIZ)I" } : Jvm.MethodName) ({ cls := "TransportPairModel$Seals", name := "shield", desc := "([II[IIIZ)I" } : Jvm.MethodName)) ∈ lw_all := lw_g (lw_at lw_m18 141 rfl) rfl
theorem q4468 : (Jvm.Cond.code ({ cls := "TransportPairModel$Seals", name := "shield", desc := "([II[IIIZ)I" } : Jvm.MethodName) prog_40_method_30_code (10 : Nat) (Option.some Jvm.ClassFile.FieldType.int)) ∈ lw_all := lw_g (lw_at lw_m18 142 rfl) rfl
theorem q4469 : (Jvm.Cond.methodLink "TransportPairModel$Seals" (176 : Nat) ({ cls := "TransportPairModel$Seals", name := "wordOf", desc := "([II)J" } : Jvm.MethodName)) ∈ lw_all := lw_g (lw_at lw_m18 143 rfl) rfl
theorem q4470 : (Jvm.Cond.static ({ cls := "TransportPairModel$Seals", name := "wordOf", desc := "([II)J" } : Jvm.MethodName)) ∈ lw_all := lw_g (lw_at lw_m18 144 rfl) rfl
theorem q4471 : (Jvm.Cond.code ({ cls := "TransportPairModel$Seals", name := "wordOf", desc := "([II)J" } : Jvm.MethodName) prog_40_method_20_code (2 : Nat) (Option.some Jvm.ClassFile.FieldType.long)) ∈ lw_all := lw_g (lw_at lw_m18 145 rfl) rfl
theorem q4472 : (Jvm.Cond.methodLink "TransportPairModel$Seals" (186 : Nat) ({ cls := "TransportPairModel$Seals", name := "blockOf", desc := "(J)V" } : Jvm.MethodName)) ∈ lw_all := lw_g (lw_at lw_m18 146 rfl) rfl
theorem q4474 : (Jvm.Cond.instanceMethod ({ cls := "TransportPairModel$Seals", name := "blockOf", desc := "(J)V" } : Jvm.MethodName)) ∈ lw_all := lw_g (lw_at lw_m18 148 rfl) rfl
theorem q4475 : (Jvm.Cond.code ({ cls := "TransportPairModel$Seals", name := "blockOf", desc := "(J)V" } : Jvm.MethodName) prog_40_method_21_code (6 : Nat) (Option.none : Option Jvm.ClassFile.FieldType)) ∈ lw_all := lw_g (lw_at lw_m18 149 rfl) rfl
theorem q4476 : (Jvm.Cond.constantLong "TransportPairModel$Seals" (168 : Nat) (1634760805 : Int64)) ∈ lw_all := lw_g (lw_at lw_m18 150 rfl) rfl
theorem q4477 : (Jvm.Cond.constantLong "TransportPairModel$Seals" (170 : Nat) (857760878 : Int64)) ∈ lw_all := lw_g (lw_at lw_m18 151 rfl) rfl
theorem q4478 : (Jvm.Cond.constantLong "TransportPairModel$Seals" (172 : Nat) (2036477234 : Int64)) ∈ lw_all := lw_g (lw_at lw_m18 152 rfl) rfl
theorem q4479 : (Jvm.Cond.constantLong "TransportPairModel$Seals" (174 : Nat) (1797285236 : Int64)) ∈ lw_all := lw_g (lw_at lw_m18 153 rfl) rfl
theorem q4480 : (Jvm.Cond.methodLink "TransportPairModel$Seals" (180 : Nat) ({ cls := "TransportPairModel$Seals", name := "mix", desc := "(IIII)V" } : Jvm.MethodName)) ∈ lw_all := lw_g (lw_at lw_m18 154 rfl) rfl
theorem q4482 : (Jvm.Cond.instanceMethod ({ cls := "TransportPairModel$Seals", name := "mix", desc := "(IIII)V" } : Jvm.MethodName)) ∈ lw_all := lw_g (lw_at lw_m18 156 rfl) rfl
theorem q4483 : (Jvm.Cond.code ({ cls := "TransportPairModel$Seals", name := "mix", desc := "(IIII)V" } : Jvm.MethodName) prog_40_method_19_code (5 : Nat) (Option.none : Option Jvm.ClassFile.FieldType)) ∈ lw_all := lw_g (lw_at lw_m18 157 rfl) rfl
theorem q4484 : (Jvm.Cond.methodLink "TransportPairModel$Seals" (164 : Nat) ({ cls := "TransportPairModel$Seals", name := "half", desc := "(IIII)V" } : Jvm.MethodName)) ∈ lw_all := lw_g (lw_at lw_m18 158 rfl) rfl
theorem q4486 : (Jvm.Cond.instanceMethod ({ cls := "TransportPairModel$Seals", name := "half", desc := "(IIII)V" } : Jvm.MethodName)) ∈ lw_all := lw_g (lw_at lw_m18 160 rfl) rfl
theorem q4487 : (Jvm.Cond.code ({ cls := "TransportPairModel$Seals", name := "half", desc := "(IIII)V" } : Jvm.MethodName) prog_40_method_18_code (5 : Nat) (Option.none : Option Jvm.ClassFile.FieldType)) ∈ lw_all := lw_g (lw_at lw_m18 161 rfl) rfl
theorem q4488 : (Jvm.Cond.methodLink "TransportPairModel$Seals" (161 : Nat) ({ cls := "TransportPairModel$Seals", name := "left", desc := "(JI)J" } : Jvm.MethodName)) ∈ lw_all := lw_g (lw_at lw_m18 162 rfl) rfl
theorem q4489 : (Jvm.Cond.static ({ cls := "TransportPairModel$Seals", name := "left", desc := "(JI)J" } : Jvm.MethodName)) ∈ lw_all := lw_g (lw_at lw_m18 163 rfl) rfl
theorem q4490 : (Jvm.Cond.code ({ cls := "TransportPairModel$Seals", name := "left", desc := "(JI)J" } : Jvm.MethodName) prog_40_method_17_code (3 : Nat) (Option.some Jvm.ClassFile.FieldType.long)) ∈ lw_all := lw_g (lw_at lw_m18 164 rfl) rfl
theorem q4491 : (Jvm.Cond.constantLong "TransportPairModel$Side" (286 : Nat) (-1 : Int64)) ∈ lw_all := lw_g (lw_at lw_m18 165 rfl) rfl
theorem q4492 : (Jvm.Cond.methodLink "TransportPairModel$Side" (262 : Nat) ({ cls := "TransportPairModel$Side", name := "grown", desc := "(JJI)J" } : Jvm.MethodName)) ∈ lw_all := lw_g (lw_at lw_m18 166 rfl) rfl
theorem q4493 : (Jvm.Cond.static ({ cls := "TransportPairModel$Side", name := "grown", desc := "(JJI)J" } : Jvm.MethodName)) ∈ lw_all := lw_g (lw_at lw_m18 167 rfl) rfl
theorem q4494 : (Jvm.Cond.code ({ cls := "TransportPairModel$Side", name := "grown", desc := "(JJI)J" } : Jvm.MethodName) prog_41_method_16_code (18 : Nat) (Option.some Jvm.ClassFile.FieldType.long)) ∈ lw_all := lw_g (lw_at lw_m18 168 rfl) rfl
theorem q4495 : (Jvm.Cond.constantLong "TransportPairModel$Side" (288 : Nat) (4611686018427387903 : Int64)) ∈ lw_all := lw_g (lw_at lw_m18 169 rfl) rfl
theorem q4496 : (Jvm.Cond.methodLink "TransportPairModel$Side" (270 : Nat) ({ cls := "TransportPairModel$Seals", name := "open", desc := "([IIJ[IIII)Z" } : Jvm.MethodName)) ∈ lw_all := lw_g (lw_at lw_m18 170 rfl) rfl
theorem q4497 : (Jvm.Cond.instanceMethod ({ cls := "TransportPairModel$Seals", name := "open", desc := "([IIJ[IIII)Z" } : Jvm.MethodName)) ∈ lw_all := lw_g (lw_at lw_m18 171 rfl) rfl
theorem q4498 : (Jvm.Cond.selects "TransportPairModel$Seals" ({ cls := "TransportPairModel$Seals", name := "open", desc := "([IIJ[IIII)Z" } : Jvm.MethodName) ({ cls := "TransportPairModel$Seals", name := "open", desc := "([IIJ[IIII)Z" } : Jvm.MethodName)) ∈ lw_all := lw_g (lw_at lw_m18 172 rfl) rfl
theorem q4499 : (Jvm.Cond.code ({ cls := "TransportPairModel$Seals", name := "open", desc := "([IIJ[IIII)Z" } : Jvm.MethodName) prog_40_method_29_code (10 : Nat) (Option.some Jvm.ClassFile.FieldType.boolean)) ∈ lw_all := lw_g (lw_at lw_m18 173 rfl) rfl
theorem q4500 : (Jvm.Cond.methodLink "TransportPairModel$Seals" (196 : Nat) ({ cls := "TransportPairModel$Seals", name := "nonceOf", desc := "([IIJ)V" } : Jvm.MethodName)) ∈ lw_all := lw_g (lw_at lw_m18 174 rfl) rfl
theorem q4502 : (Jvm.Cond.instanceMethod ({ cls := "TransportPairModel$Seals", name := "nonceOf", desc := "([IIJ)V" } : Jvm.MethodName)) ∈ lw_all := lw_g (lw_at lw_m18 176 rfl) rfl
theorem q4503 : (Jvm.Cond.code ({ cls := "TransportPairModel$Seals", name := "nonceOf", desc := "([IIJ)V" } : Jvm.MethodName) prog_40_method_24_code (6 : Nat) (Option.none : Option Jvm.ClassFile.FieldType)) ∈ lw_all := lw_g (lw_at lw_m18 177 rfl) rfl
theorem q4504 : (Jvm.Cond.methodLink "TransportPairModel$Seals" (203 : Nat) ({ cls := "TransportPairModel$Seals", name := "tagOf", desc := "([IIII)V" } : Jvm.MethodName)) ∈ lw_all := lw_g (lw_at lw_m18 178 rfl) rfl
theorem q4506 : (Jvm.Cond.instanceMethod ({ cls := "TransportPairModel$Seals", name := "tagOf", desc := "([IIII)V" } : Jvm.MethodName)) ∈ lw_all := lw_g (lw_at lw_m18 180 rfl) rfl
theorem q4507 : (Jvm.Cond.code ({ cls := "TransportPairModel$Seals", name := "tagOf", desc := "([IIII)V" } : Jvm.MethodName) prog_40_method_27_code (8 : Nat) (Option.none : Option Jvm.ClassFile.FieldType)) ∈ lw_all := lw_g (lw_at lw_m18 181 rfl) rfl
theorem q4508 : (Jvm.Cond.methodLink "TransportPairModel$Seals" (190 : Nat) ({ cls := "TransportPairModel$Seals", name := "fill", desc := "(I)I" } : Jvm.MethodName)) ∈ lw_all := lw_g (lw_at lw_m18 182 rfl) rfl
theorem q4510 : (Jvm.Cond.instanceMethod ({ cls := "TransportPairModel$Seals", name := "fill", desc := "(I)I" } : Jvm.MethodName)) ∈ lw_all := lw_g (lw_at lw_m18 184 rfl) rfl
theorem q4511 : (Jvm.Cond.code ({ cls := "TransportPairModel$Seals", name := "fill", desc := "(I)I" } : Jvm.MethodName) prog_40_method_26_code (3 : Nat) (Option.some Jvm.ClassFile.FieldType.int)) ∈ lw_all := lw_g (lw_at lw_m18 185 rfl) rfl
theorem q4512 : (Jvm.Cond.methodLink "TransportPairModel$Seals" (193 : Nat) ({ cls := "TransportPairModel$Seals", name := "tallyOf", desc := "(I)V" } : Jvm.MethodName)) ∈ lw_all := lw_g (lw_at lw_m18 186 rfl) rfl
theorem q4514 : (Jvm.Cond.instanceMethod ({ cls := "TransportPairModel$Seals", name := "tallyOf", desc := "(I)V" } : Jvm.MethodName)) ∈ lw_all := lw_g (lw_at lw_m18 188 rfl) rfl
theorem q4515 : (Jvm.Cond.code ({ cls := "TransportPairModel$Seals", name := "tallyOf", desc := "(I)V" } : Jvm.MethodName) prog_40_method_22_code (5 : Nat) (Option.none : Option Jvm.ClassFile.FieldType)) ∈ lw_all := lw_g (lw_at lw_m18 189 rfl) rfl
theorem q4516 : (Jvm.Cond.methodLink "TransportPairModel$Seals" (183 : Nat) ({ cls := "TransportPairModel$Seals", name := "multiply", desc := "()V" } : Jvm.MethodName)) ∈ lw_all := lw_g (lw_at lw_m18 190 rfl) rfl
theorem q4518 : (Jvm.Cond.instanceMethod ({ cls := "TransportPairModel$Seals", name := "multiply", desc := "()V" } : Jvm.MethodName)) ∈ lw_all := lw_g (lw_at lw_m18 192 rfl) rfl
theorem q4519 : (Jvm.Cond.code ({ cls := "TransportPairModel$Seals", name := "multiply", desc := "()V" } : Jvm.MethodName) prog_40_method_23_code (6 : Nat) (Option.none : Option Jvm.ClassFile.FieldType)) ∈ lw_all := lw_g (lw_at lw_m18 193 rfl) rfl
theorem q4520 : (Jvm.Cond.methodLink "TransportPairModel$Seals" (200 : Nat) ({ cls := "TransportPairModel$Seals", name := "change", desc := "([III)V" } : Jvm.MethodName)) ∈ lw_all := lw_g (lw_at lw_m18 194 rfl) rfl
theorem q4522 : (Jvm.Cond.instanceMethod ({ cls := "TransportPairModel$Seals", name := "change", desc := "([III)V" } : Jvm.MethodName)) ∈ lw_all := lw_g (lw_at lw_m18 196 rfl) rfl
theorem q4523 : (Jvm.Cond.code ({ cls := "TransportPairModel$Seals", name := "change", desc := "([III)V" } : Jvm.MethodName) prog_40_method_25_code (5 : Nat) (Option.none : Option Jvm.ClassFile.FieldType)) ∈ lw_all := lw_g (lw_at lw_m18 197 rfl) rfl
theorem q4524 : (Jvm.Cond.methodLink "TransportPairModel$Side" (246 : Nat) ({ cls := "TransportPairModel$Side", name := "isName", desc := "([III[I)Z" } : Jvm.MethodName)) ∈ lw_all := lw_g (lw_at lw_m18 198 rfl) rfl
theorem q4526 : (Jvm.Cond.instanceMethod ({ cls := "TransportPairModel$Side", name := "isName", desc := "([III[I)Z" } : Jvm.MethodName)) ∈ lw_all := lw_g (lw_at lw_m18 200 rfl) rfl
theorem q4527 : (Jvm.Cond.code ({ cls := "TransportPairModel$Side", name := "isName", desc := "([III[I)Z" } : Jvm.MethodName) prog_41_method_13_code (7 : Nat) (Option.some Jvm.ClassFile.FieldType.boolean)) ∈ lw_all := lw_g (lw_at lw_m18 201 rfl) rfl
theorem q4528 : (Jvm.Cond.methodLink "TransportPairModel$Side" (250 : Nat) ({ cls := "TransportPairModel$Side", name := "hasGuards", desc := "(I)Z" } : Jvm.MethodName)) ∈ lw_all := lw_g (lw_at lw_m18 202 rfl) rfl
theorem q4529 : (Jvm.Cond.instanceMethod ({ cls := "TransportPairModel$Side", name := "hasGuards", desc := "(I)Z" } : Jvm.MethodName)) ∈ lw_all := lw_g (lw_at lw_m18 203 rfl) rfl
theorem q4530 : (Jvm.Cond.selects "TransportPairModel$Side" ({ cls := "TransportPairModel$Side", name := "hasGuards", desc := "(I)Z" } : Jvm.MethodName) ({ cls := "TransportPairModel$Side", name := "hasGuards", desc := "(I)Z" } : Jvm.MethodName)) ∈ lw_all := lw_g (lw_at lw_m18 204 rfl) rfl
theorem q4531 : (Jvm.Cond.code ({ cls := "TransportPairModel$Side", name := "hasGuards", desc := "(I)Z" } : Jvm.MethodName) prog_41_method_3_code (2 : Nat) (Option.some Jvm.ClassFile.FieldType.boolean)) ∈ lw_all := lw_g (lw_at lw_m18 205 rfl) rfl
theorem q4532 : (Jvm.Cond.methodLink "TransportPairModel$Side" (258 : Nat) ({ cls := "TransportPairModel$Book", name := "greatest", desc := "(I)J" } : Jvm.MethodName)) ∈ lw_all := lw_g (lw_at lw_m18 206 rfl) rfl
theorem q4533 : (Jvm.Cond.instanceMethod ({ cls := "TransportPairModel$Book", name := "greatest", desc := "(I)J" } : Jvm.MethodName)) ∈ lw_all := lw_g (lw_at lw_m18 207 rfl) rfl
theorem q4534 : (Jvm.Cond.selects "TransportPairModel$Book" ({ cls := "TransportPairModel$Book", name := "greatest", desc := "(I)J" } : Jvm.MethodName) ({ cls := "TransportPairModel$Book", name := "greatest", desc := "(I)J" } : Jvm.MethodName)) ∈ lw_all := lw_g (lw_at lw_m18 208 rfl) rfl
theorem q4535 : (Jvm.Cond.code ({ cls := "TransportPairModel$Book", name := "greatest", desc := "(I)J" } : Jvm.MethodName) prog_36_method_24_code (2 : Nat) (Option.some Jvm.ClassFile.FieldType.long)) ∈ lw_all := lw_g (lw_at lw_m18 209 rfl) rfl
theorem q4536 : (Jvm.Cond.constantLong "TransportPairModel$Book" (186 : Nat) (-1 : Int64)) ∈ lw_all := lw_g (lw_at lw_m18 210 rfl) rfl
theorem q4537 : (Jvm.Cond.methodLink "TransportPairModel$Side" (266 : Nat) ({ cls := "TransportPairModel$Book", name := "isOld", desc := "(IJ)Z" } : Jvm.MethodName)) ∈ lw_all := lw_g (lw_at lw_m18 211 rfl) rfl
theorem q4538 : (Jvm.Cond.instanceMethod ({ cls := "TransportPairModel$Book", name := "isOld", desc := "(IJ)Z" } : Jvm.MethodName)) ∈ lw_all := lw_g (lw_at lw_m18 212 rfl) rfl
theorem q4539 : (Jvm.Cond.selects "TransportPairModel$Book" ({ cls := "TransportPairModel$Book", name := "isOld", desc := "(IJ)Z" } : Jvm.MethodName) ({ cls := "TransportPairModel$Book", name := "isOld", desc := "(IJ)Z" } : Jvm.MethodName)) ∈ lw_all := lw_g (lw_at lw_m18 213 rfl) rfl
theorem q4540 : (Jvm.Cond.code ({ cls := "TransportPairModel$Book", name := "isOld", desc := "(IJ)Z" } : Jvm.MethodName) prog_36_method_23_code (6 : Nat) (Option.some Jvm.ClassFile.FieldType.boolean)) ∈ lw_all := lw_g (lw_at lw_m18 214 rfl) rfl
theorem q4541 : (Jvm.Cond.methodLink "TransportPairModel$Side" (274 : Nat) ({ cls := "TransportPairModel$Side", name := "opened", desc := "([I[II)V" } : Jvm.MethodName)) ∈ lw_all := lw_g (lw_at lw_m18 215 rfl) rfl
theorem q4543 : (Jvm.Cond.instanceMethod ({ cls := "TransportPairModel$Side", name := "opened", desc := "([I[II)V" } : Jvm.MethodName)) ∈ lw_all := lw_g (lw_at lw_m18 217 rfl) rfl
theorem q4544 : (Jvm.Cond.code ({ cls := "TransportPairModel$Side", name := "opened", desc := "([I[II)V" } : Jvm.MethodName) prog_41_method_17_code (5 : Nat) (Option.none : Option Jvm.ClassFile.FieldType)) ∈ lw_all := lw_g (lw_at lw_m18 218 rfl) rfl
theorem q4545 : (Jvm.Cond.methodLink "TransportPairModel$Side" (290 : Nat) ({ cls := "TransportPairModel$Side", name := "begin", desc := "([II)V" } : Jvm.MethodName)) ∈ lw_all := lw_g (lw_at lw_m18 219 rfl) rfl
theorem q4546 : (Jvm.Cond.methodLink "TransportPairModel$Side" (299 : Nat) ({ cls := "TransportPairModel$Side", name := "discard", desc := "(I)V" } : Jvm.MethodName)) ∈ lw_all := lw_g (lw_at lw_m18 220 rfl) rfl
theorem q4548 : (Jvm.Cond.instanceMethod ({ cls := "TransportPairModel$Side", name := "discard", desc := "(I)V" } : Jvm.MethodName)) ∈ lw_all := lw_g (lw_at lw_m18 222 rfl) rfl
theorem q4549 : (Jvm.Cond.code ({ cls := "TransportPairModel$Side", name := "discard", desc := "(I)V" } : Jvm.MethodName) prog_41_method_4_code (2 : Nat) (Option.none : Option Jvm.ClassFile.FieldType)) ∈ lw_all := lw_g (lw_at lw_m18 223 rfl) rfl
theorem q4550 : (Jvm.Cond.methodLink "TransportPairModel$Side" (134 : Nat) ({ cls := "TransportPairModel$Book", name := "discard", desc := "(I)V" } : Jvm.MethodName)) ∈ lw_all := lw_g (lw_at lw_m18 224 rfl) rfl
theorem q4551 : (Jvm.Cond.instanceMethod ({ cls := "TransportPairModel$Book", name := "discard", desc := "(I)V" } : Jvm.MethodName)) ∈ lw_all := lw_g (lw_at lw_m18 225 rfl) rfl
theorem q4552 : (Jvm.Cond.selects "TransportPairModel$Book" ({ cls := "TransportPairModel$Book", name := "discard", desc := "(I)V" } : Jvm.MethodName) ({ cls := "TransportPairModel$Book", name := "discard", desc := "(I)V" } : Jvm.MethodName)) ∈ lw_all := lw_g (lw_at lw_m18 226 rfl) rfl
theorem q4553 : (Jvm.Cond.code ({ cls := "TransportPairModel$Book", name := "discard", desc := "(I)V" } : Jvm.MethodName) prog_36_method_21_code (2 : Nat) (Option.none : Option Jvm.ClassFile.FieldType)) ∈ lw_all := lw_g (lw_at lw_m18 227 rfl) rfl
theorem q4554 : (Jvm.Cond.methodLink "TransportPairModel$Side" (278 : Nat) ({ cls := "TransportPairModel$Side", name := "closes", desc := "(II)V" } : Jvm.MethodName)) ∈ lw_all := lw_g (lw_at lw_m18 228 rfl) rfl
theorem q4555 : (Jvm.Cond.methodLink "TransportPairModel$Side" (282 : Nat) ({ cls := "TransportPairModel$Side", name := "frames", desc := "([IIIIJ)V" } : Jvm.MethodName)) ∈ lw_all := lw_g (lw_at lw_m18 229 rfl) rfl
theorem q4557 : (Jvm.Cond.instanceMethod ({ cls := "TransportPairModel$Side", name := "frames", desc := "([IIIIJ)V" } : Jvm.MethodName)) ∈ lw_all := lw_g (lw_at lw_m18 231 rfl) rfl
theorem q4558 : (Jvm.Cond.code ({ cls := "TransportPairModel$Side", name := "frames", desc := "([IIIIJ)V" } : Jvm.MethodName) prog_41_method_18_code (11 : Nat) (Option.none : Option Jvm.ClassFile.FieldType)) ∈ lw_all := lw_g (lw_at lw_m18 232 rfl) rfl
theorem q4559 : (Jvm.Cond.methodLink "TransportPairModel$Side" (300 : Nat) ({ cls := "TransportPairModel$Wire", name := "look", desc := "([III)V" } : Jvm.MethodName)) ∈ lw_all := lw_g (lw_at lw_m18 233 rfl) rfl
theorem q4560 : (Jvm.Cond.methodLink "TransportPairModel$Side" (307 : Nat) ({ cls := "TransportPairModel$Wire", name := "read", desc := "(I)I" } : Jvm.MethodName)) ∈ lw_all := lw_g (lw_at lw_m18 234 rfl) rfl
theorem q4561 : (Jvm.Cond.instanceMethod ({ cls := "TransportPairModel$Wire", name := "read", desc := "(I)I" } : Jvm.MethodName)) ∈ lw_all := lw_g (lw_at lw_m18 235 rfl) rfl
theorem q4562 : (Jvm.Cond.selects "TransportPairModel$Wire" ({ cls := "TransportPairModel$Wire", name := "read", desc := "(I)I" } : Jvm.MethodName) ({ cls := "TransportPairModel$Wire", name := "read", desc := "(I)I" } : Jvm.MethodName)) ∈ lw_all := lw_g (lw_at lw_m18 236 rfl) rfl
theorem q4563 : (Jvm.Cond.code ({ cls := "TransportPairModel$Wire", name := "read", desc := "(I)I" } : Jvm.MethodName) prog_43_method_15_code (4 : Nat) (Option.some Jvm.ClassFile.FieldType.int)) ∈ lw_all := lw_g (lw_at lw_m18 237 rfl) rfl
theorem q4564 : (Jvm.Cond.methodLink "TransportPairModel$Wire" (95 : Nat) ({ cls := "TransportPairModel$Wire", name := "takeRest", desc := "(I)V" } : Jvm.MethodName)) ∈ lw_all := lw_g (lw_at lw_m18 238 rfl) rfl
theorem q4566 : (Jvm.Cond.instanceMethod ({ cls := "TransportPairModel$Wire", name := "takeRest", desc := "(I)V" } : Jvm.MethodName)) ∈ lw_all := lw_g (lw_at lw_m19 0 rfl) rfl
theorem q4567 : (Jvm.Cond.code ({ cls := "TransportPairModel$Wire", name := "takeRest", desc := "(I)V" } : Jvm.MethodName) prog_43_method_12_code (2 : Nat) (Option.none : Option Jvm.ClassFile.FieldType)) ∈ lw_all := lw_g (lw_at lw_m19 1 rfl) rfl
theorem q4568 : (Jvm.Cond.methodLink "TransportPairModel$Wire" (73 : Nat) ({ cls := "TransportPairModel$Wire", name := "takeAck", desc := "(I)V" } : Jvm.MethodName)) ∈ lw_all := lw_g (lw_at lw_m19 2 rfl) rfl
theorem q4570 : (Jvm.Cond.instanceMethod ({ cls := "TransportPairModel$Wire", name := "takeAck", desc := "(I)V" } : Jvm.MethodName)) ∈ lw_all := lw_g (lw_at lw_m19 4 rfl) rfl
theorem q4571 : (Jvm.Cond.code ({ cls := "TransportPairModel$Wire", name := "takeAck", desc := "(I)V" } : Jvm.MethodName) prog_43_method_11_code (6 : Nat) (Option.none : Option Jvm.ClassFile.FieldType)) ∈ lw_all := lw_g (lw_at lw_m19 5 rfl) rfl
theorem q4572 : (Jvm.Cond.methodLink "TransportPairModel$Wire" (56 : Nat) ({ cls := "TransportPairModel$Wire", name := "takeNumber", desc := "()J" } : Jvm.MethodName)) ∈ lw_all := lw_g (lw_at lw_m19 6 rfl) rfl
theorem q4573 : (Jvm.Cond.methodLink "TransportPairModel$Wire" (77 : Nat) ({ cls := "TransportPairModel$Wire", name := "takeStream", desc := "(I)V" } : Jvm.MethodName)) ∈ lw_all := lw_g (lw_at lw_m19 7 rfl) rfl
theorem q4575 : (Jvm.Cond.instanceMethod ({ cls := "TransportPairModel$Wire", name := "takeStream", desc := "(I)V" } : Jvm.MethodName)) ∈ lw_all := lw_g (lw_at lw_m19 9 rfl) rfl
theorem q4576 : (Jvm.Cond.code ({ cls := "TransportPairModel$Wire", name := "takeStream", desc := "(I)V" } : Jvm.MethodName) prog_43_method_10_code (2 : Nat) (Option.none : Option Jvm.ClassFile.FieldType)) ∈ lw_all := lw_g (lw_at lw_m19 10 rfl) rfl
theorem q4577 : (Jvm.Cond.methodLink "TransportPairModel$Wire" (60 : Nat) ({ cls := "TransportPairModel$Wire", name := "takeData", desc := "(J)V" } : Jvm.MethodName)) ∈ lw_all := lw_g (lw_at lw_m19 11 rfl) rfl
theorem q4579 : (Jvm.Cond.instanceMethod ({ cls := "TransportPairModel$Wire", name := "takeData", desc := "(J)V" } : Jvm.MethodName)) ∈ lw_all := lw_g (lw_at lw_m19 13 rfl) rfl
theorem q4580 : (Jvm.Cond.code ({ cls := "TransportPairModel$Wire", name := "takeData", desc := "(J)V" } : Jvm.MethodName) prog_43_method_7_code (3 : Nat) (Option.none : Option Jvm.ClassFile.FieldType)) ∈ lw_all := lw_g (lw_at lw_m19 14 rfl) rfl
theorem q4581 : (Jvm.Cond.methodLink "TransportPairModel$Wire" (42 : Nat) ({ cls := "TransportPairModel$Wire", name := "pass", desc := "(J)I" } : Jvm.MethodName)) ∈ lw_all := lw_g (lw_at lw_m19 15 rfl) rfl
theorem q4582 : (Jvm.Cond.methodLink "TransportPairModel$Wire" (80 : Nat) ({ cls := "TransportPairModel$Wire", name := "takeFields", desc := "(I)V" } : Jvm.MethodName)) ∈ lw_all := lw_g (lw_at lw_m19 16 rfl) rfl
theorem q4584 : (Jvm.Cond.instanceMethod ({ cls := "TransportPairModel$Wire", name := "takeFields", desc := "(I)V" } : Jvm.MethodName)) ∈ lw_all := lw_g (lw_at lw_m19 18 rfl) rfl
theorem q4585 : (Jvm.Cond.code ({ cls := "TransportPairModel$Wire", name := "takeFields", desc := "(I)V" } : Jvm.MethodName) prog_43_method_9_code (4 : Nat) (Option.none : Option Jvm.ClassFile.FieldType)) ∈ lw_all := lw_g (lw_at lw_m19 19 rfl) rfl
theorem q4586 : (Jvm.Cond.methodLink "TransportPairModel$Wire" (52 : Nat) ({ cls := "TransportPairModel$Wire", name := "fields", desc := "(I)I" } : Jvm.MethodName)) ∈ lw_all := lw_g (lw_at lw_m19 20 rfl) rfl
theorem q4587 : (Jvm.Cond.static ({ cls := "TransportPairModel$Wire", name := "fields", desc := "(I)I" } : Jvm.MethodName)) ∈ lw_all := lw_g (lw_at lw_m19 21 rfl) rfl
theorem q4588 : (Jvm.Cond.code ({ cls := "TransportPairModel$Wire", name := "fields", desc := "(I)I" } : Jvm.MethodName) prog_43_method_8_code (1 : Nat) (Option.some Jvm.ClassFile.FieldType.int)) ∈ lw_all := lw_g (lw_at lw_m19 22 rfl) rfl
theorem q4589 : (Jvm.Cond.constantLong "TransportPairModel$Wire" (83 : Nat) (16 : Int64)) ∈ lw_all := lw_g (lw_at lw_m19 23 rfl) rfl
theorem q4590 : (Jvm.Cond.methodLink "TransportPairModel$Wire" (98 : Nat) ({ cls := "TransportPairModel$Wire", name := "isRight", desc := "()Z" } : Jvm.MethodName)) ∈ lw_all := lw_g (lw_at lw_m19 24 rfl) rfl
theorem q4592 : (Jvm.Cond.instanceMethod ({ cls := "TransportPairModel$Wire", name := "isRight", desc := "()Z" } : Jvm.MethodName)) ∈ lw_all := lw_g (lw_at lw_m19 26 rfl) rfl
theorem q4593 : (Jvm.Cond.code ({ cls := "TransportPairModel$Wire", name := "isRight", desc := "()Z" } : Jvm.MethodName) prog_43_method_14_code (1 : Nat) (Option.some Jvm.ClassFile.FieldType.boolean)) ∈ lw_all := lw_g (lw_at lw_m19 27 rfl) rfl
theorem q4594 : (Jvm.Cond.methodLink "TransportPairModel$Wire" (89 : Nat) ({ cls := "TransportPairModel$Wire", name := "edge", desc := "(IZ)J" } : Jvm.MethodName)) ∈ lw_all := lw_g (lw_at lw_m19 28 rfl) rfl
theorem q4595 : (Jvm.Cond.instanceMethod ({ cls := "TransportPairModel$Wire", name := "edge", desc := "(IZ)J" } : Jvm.MethodName)) ∈ lw_all := lw_g (lw_at lw_m19 29 rfl) rfl
theorem q4596 : (Jvm.Cond.selects "TransportPairModel$Wire" ({ cls := "TransportPairModel$Wire", name := "edge", desc := "(IZ)J" } : Jvm.MethodName) ({ cls := "TransportPairModel$Wire", name := "edge", desc := "(IZ)J" } : Jvm.MethodName)) ∈ lw_all := lw_g (lw_at lw_m19 30 rfl) rfl
theorem q4597 : (Jvm.Cond.code ({ cls := "TransportPairModel$Wire", name := "edge", desc := "(IZ)J" } : Jvm.MethodName) prog_43_method_13_code (9 : Nat) (Option.some Jvm.ClassFile.FieldType.long)) ∈ lw_all := lw_g (lw_at lw_m19 31 rfl) rfl
theorem q4598 : (Jvm.Cond.constantLong "TransportPairModel$Wire" (85 : Nat) (2 : Int64)) ∈ lw_all := lw_g (lw_at lw_m19 32 rfl) rfl
theorem q4599 : (Jvm.Cond.constantLong "TransportPairModel$Wire" (87 : Nat) (-1 : Int64)) ∈ lw_all := lw_g (lw_at lw_m19 33 rfl) rfl
theorem q4600 : (Jvm.Cond.constantLong "TransportPairModel$Wire" (93 : Nat) (1152921504606846976 : Int64)) ∈ lw_all := lw_g (lw_at lw_m19 34 rfl) rfl
theorem q4601 : (Jvm.Cond.methodLink "TransportPairModel$Side" (314 : Nat) ({ cls := "TransportPairModel$Side", name := "does", desc := "(I)I" } : Jvm.MethodName)) ∈ lw_all := lw_g (lw_at lw_m19 35 rfl) rfl
theorem q4603 : (Jvm.Cond.instanceMethod ({ cls := "TransportPairModel$Side", name := "does", desc := "(I)I" } : Jvm.MethodName)) ∈ lw_all := lw_g (lw_at lw_m19 37 rfl) rfl
theorem q4604 : (Jvm.Cond.code ({ cls := "TransportPairModel$Side", name := "does", desc := "(I)I" } : Jvm.MethodName) prog_41_method_19_code (2 : Nat) (Option.some Jvm.ClassFile.FieldType.int)) ∈ lw_all := lw_g (lw_at lw_m19 38 rfl) rfl
theorem q4605 : (Jvm.Cond.methodLink "TransportPairModel$Side" (321 : Nat) ({ cls := "TransportPairModel$Side", name := "acknowledged", desc := "(I)I" } : Jvm.MethodName)) ∈ lw_all := lw_g (lw_at lw_m19 39 rfl) rfl
theorem q4607 : (Jvm.Cond.instanceMethod ({ cls := "TransportPairModel$Side", name := "acknowledged", desc := "(I)I" } : Jvm.MethodName)) ∈ lw_all := lw_g (lw_at lw_m19 41 rfl) rfl
theorem q4608 : (Jvm.Cond.code ({ cls := "TransportPairModel$Side", name := "acknowledged", desc := "(I)I" } : Jvm.MethodName) prog_41_method_21_code (4 : Nat) (Option.some Jvm.ClassFile.FieldType.int)) ∈ lw_all := lw_g (lw_at lw_m19 42 rfl) rfl
theorem q4609 : (Jvm.Cond.methodLink "TransportPairModel$Side" (360 : Nat) ({ cls := "TransportPairModel$Wire", name := "edge", desc := "(IZ)J" } : Jvm.MethodName)) ∈ lw_all := lw_g (lw_at lw_m19 43 rfl) rfl
theorem q4610 : (Jvm.Cond.constantLong "TransportPairModel$Side" (370 : Nat) (100000 : Int64)) ∈ lw_all := lw_g (lw_at lw_m19 44 rfl) rfl
theorem q4611 : (Jvm.Cond.methodLink "TransportPairModel$Side" (372 : Nat) ({ cls := "TransportPairModel$Book", name := "acknowledge", desc := "(II)Z" } : Jvm.MethodName)) ∈ lw_all := lw_g (lw_at lw_m19 45 rfl) rfl
theorem q4612 : (Jvm.Cond.instanceMethod ({ cls := "TransportPairModel$Book", name := "acknowledge", desc := "(II)Z" } : Jvm.MethodName)) ∈ lw_all := lw_g (lw_at lw_m19 46 rfl) rfl
theorem q4613 : (Jvm.Cond.selects "TransportPairModel$Book" ({ cls := "TransportPairModel$Book", name := "acknowledge", desc := "(II)Z" } : Jvm.MethodName) ({ cls := "TransportPairModel$Book", name := "acknowledge", desc := "(II)Z" } : Jvm.MethodName)) ∈ lw_all := lw_g (lw_at lw_m19 47 rfl) rfl
theorem q4614 : (Jvm.Cond.code ({ cls := "TransportPairModel$Book", name := "acknowledge", desc := "(II)Z" } : Jvm.MethodName) prog_36_method_17_code (8 : Nat) (Option.some Jvm.ClassFile.FieldType.boolean)) ∈ lw_all := lw_g (lw_at lw_m19 48 rfl) rfl
theorem q4615 : (Jvm.Cond.methodLink "TransportPairModel$Book" (159 : Nat) ({ cls := "TransportPairModel$Book", name := "isNew", desc := "(II)Z" } : Jvm.MethodName)) ∈ lw_all := lw_g (lw_at lw_m19 49 rfl) rfl
theorem q4617 : (Jvm.Cond.instanceMethod ({ cls := "TransportPairModel$Book", name := "isNew", desc := "(II)Z" } : Jvm.MethodName)) ∈ lw_all := lw_g (lw_at lw_m19 51 rfl) rfl
theorem q4618 : (Jvm.Cond.code ({ cls := "TransportPairModel$Book", name := "isNew", desc := "(II)Z" } : Jvm.MethodName) prog_36_method_16_code (5 : Nat) (Option.some Jvm.ClassFile.FieldType.boolean)) ∈ lw_all := lw_g (lw_at lw_m19 52 rfl) rfl
theorem q4619 : (Jvm.Cond.methodLink "TransportPairModel$Book" (110 : Nat) ({ cls := "TransportPairModel$Book", name := "isOut", desc := "(II)Z" } : Jvm.MethodName)) ∈ lw_all := lw_g (lw_at lw_m19 53 rfl) rfl
theorem q4620 : (Jvm.Cond.instanceMethod ({ cls := "TransportPairModel$Book", name := "isOut", desc := "(II)Z" } : Jvm.MethodName)) ∈ lw_all := lw_g (lw_at lw_m19 54 rfl) rfl
theorem q4621 : (Jvm.Cond.selects "TransportPairModel$Book" ({ cls := "TransportPairModel$Book", name := "isOut", desc := "(II)Z" } : Jvm.MethodName) ({ cls := "TransportPairModel$Book", name := "isOut", desc := "(II)Z" } : Jvm.MethodName)) ∈ lw_all := lw_g (lw_at lw_m19 55 rfl) rfl
theorem q4622 : (Jvm.Cond.code ({ cls := "TransportPairModel$Book", name := "isOut", desc := "(II)Z" } : Jvm.MethodName) prog_36_method_3_code (3 : Nat) (Option.some Jvm.ClassFile.FieldType.boolean)) ∈ lw_all := lw_g (lw_at lw_m19 56 rfl) rfl
theorem q4623 : (Jvm.Cond.methodLink "TransportPairModel$Book" (162 : Nat) ({ cls := "TransportPairModel$Book", name := "sample", desc := "(II)V" } : Jvm.MethodName)) ∈ lw_all := lw_g (lw_at lw_m19 57 rfl) rfl
theorem q4625 : (Jvm.Cond.instanceMethod ({ cls := "TransportPairModel$Book", name := "sample", desc := "(II)V" } : Jvm.MethodName)) ∈ lw_all := lw_g (lw_at lw_m19 59 rfl) rfl
theorem q4626 : (Jvm.Cond.code ({ cls := "TransportPairModel$Book", name := "sample", desc := "(II)V" } : Jvm.MethodName) prog_36_method_12_code (5 : Nat) (Option.none : Option Jvm.ClassFile.FieldType)) ∈ lw_all := lw_g (lw_at lw_m19 60 rfl) rfl
theorem q4627 : (Jvm.Cond.methodLink "TransportPairModel$Book" (166 : Nat) ({ cls := "TransportPairModel$Book", name := "find", desc := "(III)V" } : Jvm.MethodName)) ∈ lw_all := lw_g (lw_at lw_m19 61 rfl) rfl
theorem q4629 : (Jvm.Cond.instanceMethod ({ cls := "TransportPairModel$Book", name := "find", desc := "(III)V" } : Jvm.MethodName)) ∈ lw_all := lw_g (lw_at lw_m19 63 rfl) rfl
theorem q4630 : (Jvm.Cond.code ({ cls := "TransportPairModel$Book", name := "find", desc := "(III)V" } : Jvm.MethodName) prog_36_method_15_code (5 : Nat) (Option.none : Option Jvm.ClassFile.FieldType)) ∈ lw_all := lw_g (lw_at lw_m19 64 rfl) rfl
theorem q4631 : (Jvm.Cond.methodLink "TransportPairModel$Book" (170 : Nat) ({ cls := "TransportPairModel$Book", name := "grow", desc := "(I)V" } : Jvm.MethodName)) ∈ lw_all := lw_g (lw_at lw_m19 65 rfl) rfl
theorem q4633 : (Jvm.Cond.instanceMethod ({ cls := "TransportPairModel$Book", name := "grow", desc := "(I)V" } : Jvm.MethodName)) ∈ lw_all := lw_g (lw_at lw_m19 67 rfl) rfl
theorem q4634 : (Jvm.Cond.code ({ cls := "TransportPairModel$Book", name := "grow", desc := "(I)V" } : Jvm.MethodName) prog_36_method_14_code (2 : Nat) (Option.none : Option Jvm.ClassFile.FieldType)) ∈ lw_all := lw_g (lw_at lw_m19 68 rfl) rfl
theorem q4635 : (Jvm.Cond.methodLink "TransportPairModel$Book" (152 : Nat) ({ cls := "TransportPairModel$Book", name := "isBehindRecovery", desc := "(I)Z" } : Jvm.MethodName)) ∈ lw_all := lw_g (lw_at lw_m19 69 rfl) rfl
theorem q4637 : (Jvm.Cond.instanceMethod ({ cls := "TransportPairModel$Book", name := "isBehindRecovery", desc := "(I)Z" } : Jvm.MethodName)) ∈ lw_all := lw_g (lw_at lw_m19 71 rfl) rfl
theorem q4638 : (Jvm.Cond.code ({ cls := "TransportPairModel$Book", name := "isBehindRecovery", desc := "(I)Z" } : Jvm.MethodName) prog_36_method_13_code (2 : Nat) (Option.some Jvm.ClassFile.FieldType.boolean)) ∈ lw_all := lw_g (lw_at lw_m19 72 rfl) rfl
theorem q4639 : (Jvm.Cond.methodLink "TransportPairModel$Book" (174 : Nat) ({ cls := "TransportPairModel$Book", name := "losses", desc := "(I)V" } : Jvm.MethodName)) ∈ lw_all := lw_g (lw_at lw_m19 73 rfl) rfl
theorem q4641 : (Jvm.Cond.instanceMethod ({ cls := "TransportPairModel$Book", name := "losses", desc := "(I)V" } : Jvm.MethodName)) ∈ lw_all := lw_g (lw_at lw_m19 75 rfl) rfl
theorem q4642 : (Jvm.Cond.code ({ cls := "TransportPairModel$Book", name := "losses", desc := "(I)V" } : Jvm.MethodName) prog_36_method_18_code (7 : Nat) (Option.none : Option Jvm.ClassFile.FieldType)) ∈ lw_all := lw_g (lw_at lw_m19 76 rfl) rfl
theorem q4643 : (Jvm.Cond.methodLink "TransportPairModel$Book" (177 : Nat) ({ cls := "TransportPairModel$Book", name := "limit", desc := "()I" } : Jvm.MethodName)) ∈ lw_all := lw_g (lw_at lw_m19 77 rfl) rfl
theorem q4644 : (Jvm.Cond.instanceMethod ({ cls := "TransportPairModel$Book", name := "limit", desc := "()I" } : Jvm.MethodName)) ∈ lw_all := lw_g (lw_at lw_m19 78 rfl) rfl
theorem q4645 : (Jvm.Cond.selects "TransportPairModel$Book" ({ cls := "TransportPairModel$Book", name := "limit", desc := "()I" } : Jvm.MethodName) ({ cls := "TransportPairModel$Book", name := "limit", desc := "()I" } : Jvm.MethodName)) ∈ lw_all := lw_g (lw_at lw_m19 79 rfl) rfl
theorem q4646 : (Jvm.Cond.code ({ cls := "TransportPairModel$Book", name := "limit", desc := "()I" } : Jvm.MethodName) prog_36_method_8_code (1 : Nat) (Option.some Jvm.ClassFile.FieldType.int)) ∈ lw_all := lw_g (lw_at lw_m19 80 rfl) rfl
theorem q4647 : (Jvm.Cond.methodLink "TransportPairModel$Book" (180 : Nat) ({ cls := "TransportPairModel$Book", name := "persists", desc := "(II)V" } : Jvm.MethodName)) ∈ lw_all := lw_g (lw_at lw_m19 81 rfl) rfl
theorem q4649 : (Jvm.Cond.instanceMethod ({ cls := "TransportPairModel$Book", name := "persists", desc := "(II)V" } : Jvm.MethodName)) ∈ lw_all := lw_g (lw_at lw_m19 83 rfl) rfl
theorem q4650 : (Jvm.Cond.code ({ cls := "TransportPairModel$Book", name := "persists", desc := "(II)V" } : Jvm.MethodName) prog_36_method_19_code (7 : Nat) (Option.none : Option Jvm.ClassFile.FieldType)) ∈ lw_all := lw_g (lw_at lw_m19 84 rfl) rfl
theorem q4651 : (Jvm.Cond.methodLink "TransportPairModel$Book" (125 : Nat) ({ cls := "TransportPairModel$Book", name := "patience", desc := "(Z)I" } : Jvm.MethodName)) ∈ lw_all := lw_g (lw_at lw_m19 85 rfl) rfl
theorem q4652 : (Jvm.Cond.methodLink "TransportPairModel$Side" (376 : Nat) ({ cls := "TransportPairModel$Side", name := "tellFound", desc := "(I)V" } : Jvm.MethodName)) ∈ lw_all := lw_g (lw_at lw_m19 86 rfl) rfl
theorem q4654 : (Jvm.Cond.instanceMethod ({ cls := "TransportPairModel$Side", name := "tellFound", desc := "(I)V" } : Jvm.MethodName)) ∈ lw_all := lw_g (lw_at lw_m19 88 rfl) rfl
theorem q4655 : (Jvm.Cond.code ({ cls := "TransportPairModel$Side", name := "tellFound", desc := "(I)V" } : Jvm.MethodName) prog_41_method_22_code (3 : Nat) (Option.none : Option Jvm.ClassFile.FieldType)) ∈ lw_all := lw_g (lw_at lw_m19 89 rfl) rfl
theorem q4656 : (Jvm.Cond.methodLink "TransportPairModel$Side" (379 : Nat) ({ cls := "TransportPairModel$Book", name := "next", desc := "(IZ)I" } : Jvm.MethodName)) ∈ lw_all := lw_g (lw_at lw_m19 90 rfl) rfl
theorem q4657 : (Jvm.Cond.instanceMethod ({ cls := "TransportPairModel$Book", name := "next", desc := "(IZ)I" } : Jvm.MethodName)) ∈ lw_all := lw_g (lw_at lw_m19 91 rfl) rfl
theorem q4658 : (Jvm.Cond.selects "TransportPairModel$Book" ({ cls := "TransportPairModel$Book", name := "next", desc := "(IZ)I" } : Jvm.MethodName) ({ cls := "TransportPairModel$Book", name := "next", desc := "(IZ)I" } : Jvm.MethodName)) ∈ lw_all := lw_g (lw_at lw_m19 92 rfl) rfl
theorem q4659 : (Jvm.Cond.code ({ cls := "TransportPairModel$Book", name := "next", desc := "(IZ)I" } : Jvm.MethodName) prog_36_method_22_code (4 : Nat) (Option.some Jvm.ClassFile.FieldType.int)) ∈ lw_all := lw_g (lw_at lw_m19 93 rfl) rfl
theorem q4660 : (Jvm.Cond.methodLink "TransportPairModel$Side" (383 : Nat) ({ cls := "TransportPairModel$Side", name := "tellPacket", desc := "(IIZ)V" } : Jvm.MethodName)) ∈ lw_all := lw_g (lw_at lw_m19 94 rfl) rfl
theorem q4662 : (Jvm.Cond.instanceMethod ({ cls := "TransportPairModel$Side", name := "tellPacket", desc := "(IIZ)V" } : Jvm.MethodName)) ∈ lw_all := lw_g (lw_at lw_m19 96 rfl) rfl
theorem q4663 : (Jvm.Cond.code ({ cls := "TransportPairModel$Side", name := "tellPacket", desc := "(IIZ)V" } : Jvm.MethodName) prog_41_method_23_code (7 : Nat) (Option.none : Option Jvm.ClassFile.FieldType)) ∈ lw_all := lw_g (lw_at lw_m19 97 rfl) rfl
theorem q4664 : (Jvm.Cond.methodLink "TransportPairModel$Side" (401 : Nat) ({ cls := "TransportPairModel$Side", name := "tellCrypto", desc := "(IIIZ)V" } : Jvm.MethodName)) ∈ lw_all := lw_g (lw_at lw_m19 98 rfl) rfl
theorem q4666 : (Jvm.Cond.instanceMethod ({ cls := "TransportPairModel$Side", name := "tellCrypto", desc := "(IIIZ)V" } : Jvm.MethodName)) ∈ lw_all := lw_g (lw_at lw_m19 100 rfl) rfl
theorem q4667 : (Jvm.Cond.code ({ cls := "TransportPairModel$Side", name := "tellCrypto", desc := "(IIIZ)V" } : Jvm.MethodName) prog_41_method_24_code (6 : Nat) (Option.none : Option Jvm.ClassFile.FieldType)) ∈ lw_all := lw_g (lw_at lw_m19 101 rfl) rfl
theorem q4668 : (Jvm.Cond.methodLink "TransportPairModel$Side" (405 : Nat) ({ cls := "TransportPairModel$Side", name := "tellDone", desc := "(Z)V" } : Jvm.MethodName)) ∈ lw_all := lw_g (lw_at lw_m19 102 rfl) rfl
theorem q4670 : (Jvm.Cond.instanceMethod ({ cls := "TransportPairModel$Side", name := "tellDone", desc := "(Z)V" } : Jvm.MethodName)) ∈ lw_all := lw_g (lw_at lw_m19 104 rfl) rfl
theorem q4671 : (Jvm.Cond.code ({ cls := "TransportPairModel$Side", name := "tellDone", desc := "(Z)V" } : Jvm.MethodName) prog_41_method_25_code (2 : Nat) (Option.none : Option Jvm.ClassFile.FieldType)) ∈ lw_all := lw_g (lw_at lw_m19 105 rfl) rfl
theorem q4672 : (Jvm.Cond.methodLink "TransportPairModel$Side" (415 : Nat) ({ cls := "TransportPairModel$Streams", name := "gone", desc := "(IIJJIJZ)V" } : Jvm.MethodName)) ∈ lw_all := lw_g (lw_at lw_m19 106 rfl) rfl
theorem q4673 : (Jvm.Cond.instanceMethod ({ cls := "TransportPairModel$Streams", name := "gone", desc := "(IIJJIJZ)V" } : Jvm.MethodName)) ∈ lw_all := lw_g (lw_at lw_m19 107 rfl) rfl
theorem q4674 : (Jvm.Cond.selects "TransportPairModel$Streams" ({ cls := "TransportPairModel$Streams", name := "gone", desc := "(IIJJIJZ)V" } : Jvm.MethodName) ({ cls := "TransportPairModel$Streams", name := "gone", desc := "(IIJJIJZ)V" } : Jvm.MethodName)) ∈ lw_all := lw_g (lw_at lw_m19 108 rfl) rfl
theorem q4675 : (Jvm.Cond.code ({ cls := "TransportPairModel$Streams", name := "gone", desc := "(IIJJIJZ)V" } : Jvm.MethodName) prog_42_method_52_code (14 : Nat) (Option.none : Option Jvm.ClassFile.FieldType)) ∈ lw_all := lw_g (lw_at lw_m19 109 rfl) rfl
theorem q4676 : (Jvm.Cond.constantLong "TransportPairModel$Streams" (246 : Nat) (256 : Int64)) ∈ lw_all := lw_g (lw_at lw_m19 110 rfl) rfl
theorem q4677 : (Jvm.Cond.methodLink "TransportPairModel$Streams" (368 : Nat) ({ cls := "TransportPairModel$Streams", name := "goneStream", desc := "(IIIIJZ)V" } : Jvm.MethodName)) ∈ lw_all := lw_g (lw_at lw_m19 111 rfl) rfl
theorem q4679 : (Jvm.Cond.instanceMethod ({ cls := "TransportPairModel$Streams", name := "goneStream", desc := "(IIIIJZ)V" } : Jvm.MethodName)) ∈ lw_all := lw_g (lw_at lw_m19 113 rfl) rfl
theorem q4680 : (Jvm.Cond.code ({ cls := "TransportPairModel$Streams", name := "goneStream", desc := "(IIIIJZ)V" } : Jvm.MethodName) prog_42_method_53_code (11 : Nat) (Option.none : Option Jvm.ClassFile.FieldType)) ∈ lw_all := lw_g (lw_at lw_m19 114 rfl) rfl
theorem q4681 : (Jvm.Cond.methodLink "TransportPairModel$Streams" (338 : Nat) ({ cls := "TransportPairModel$Streams", name := "remark", desc := "(III)V" } : Jvm.MethodName)) ∈ lw_all := lw_g (lw_at lw_m19 115 rfl) rfl
theorem q4683 : (Jvm.Cond.instanceMethod ({ cls := "TransportPairModel$Streams", name := "remark", desc := "(III)V" } : Jvm.MethodName)) ∈ lw_all := lw_g (lw_at lw_m19 117 rfl) rfl
theorem q4684 : (Jvm.Cond.code ({ cls := "TransportPairModel$Streams", name := "remark", desc := "(III)V" } : Jvm.MethodName) prog_42_method_20_code (5 : Nat) (Option.none : Option Jvm.ClassFile.FieldType)) ∈ lw_all := lw_g (lw_at lw_m19 118 rfl) rfl
theorem q4685 : (Jvm.Cond.methodLink "TransportPairModel$Side" (330 : Nat) ({ cls := "TransportPairModel$Side", name := "cryptoComes", desc := "(I)I" } : Jvm.MethodName)) ∈ lw_all := lw_g (lw_at lw_m19 119 rfl) rfl
theorem q4687 : (Jvm.Cond.instanceMethod ({ cls := "TransportPairModel$Side", name := "cryptoComes", desc := "(I)I" } : Jvm.MethodName)) ∈ lw_all := lw_g (lw_at lw_m19 121 rfl) rfl
theorem q4688 : (Jvm.Cond.code ({ cls := "TransportPairModel$Side", name := "cryptoComes", desc := "(I)I" } : Jvm.MethodName) prog_41_method_26_code (6 : Nat) (Option.some Jvm.ClassFile.FieldType.int)) ∈ lw_all := lw_g (lw_at lw_m19 122 rfl) rfl
theorem q4689 : (Jvm.Cond.constantLong "TransportPairModel$Side" (425 : Nat) (2048 : Int64)) ∈ lw_all := lw_g (lw_at lw_m19 123 rfl) rfl
theorem q4690 : (Jvm.Cond.methodLink "TransportPairModel$Side" (433 : Nat) ({ cls := "TransportPairModel$Greet", name := "take", desc := "(I[III)I" } : Jvm.MethodName)) ∈ lw_all := lw_g (lw_at lw_m19 124 rfl) rfl
theorem q4691 : (Jvm.Cond.instanceMethod ({ cls := "TransportPairModel$Greet", name := "take", desc := "(I[III)I" } : Jvm.MethodName)) ∈ lw_all := lw_g (lw_at lw_m19 125 rfl) rfl
theorem q4692 : (Jvm.Cond.selects "TransportPairModel$Greet" ({ cls := "TransportPairModel$Greet", name := "take", desc := "(I[III)I" } : Jvm.MethodName) ({ cls := "TransportPairModel$Greet", name := "take", desc := "(I[III)I" } : Jvm.MethodName)) ∈ lw_all := lw_g (lw_at lw_m19 126 rfl) rfl
theorem q4693 : (Jvm.Cond.code ({ cls := "TransportPairModel$Greet", name := "take", desc := "(I[III)I" } : Jvm.MethodName) prog_39_method_15_code (7 : Nat) (Option.some Jvm.ClassFile.FieldType.int)) ∈ lw_all := lw_g (lw_at lw_m19 127 rfl) rfl
theorem q4694 : (Jvm.Cond.methodLink "TransportPairModel$Greet" (133 : Nat) ({ cls := "TransportPairModel$Greet", name := "works", desc := "(I)I" } : Jvm.MethodName)) ∈ lw_all := lw_g (lw_at lw_m19 128 rfl) rfl
theorem q4696 : (Jvm.Cond.instanceMethod ({ cls := "TransportPairModel$Greet", name := "works", desc := "(I)I" } : Jvm.MethodName)) ∈ lw_all := lw_g (lw_at lw_m19 130 rfl) rfl
theorem q4697 : (Jvm.Cond.code ({ cls := "TransportPairModel$Greet", name := "works", desc := "(I)I" } : Jvm.MethodName) prog_39_method_14_code (5 : Nat) (Option.some Jvm.ClassFile.FieldType.int)) ∈ lw_all := lw_g (lw_at lw_m19 131 rfl) rfl
theorem q4698 : (Jvm.Cond.methodLink "TransportPairModel$Greet" (122 : Nat) ({ cls := "TransportPairModel$Greet", name := "lookAt", desc := "(I)I" } : Jvm.MethodName)) ∈ lw_all := lw_g (lw_at lw_m19 132 rfl) rfl
theorem q4700 : (Jvm.Cond.instanceMethod ({ cls := "TransportPairModel$Greet", name := "lookAt", desc := "(I)I" } : Jvm.MethodName)) ∈ lw_all := lw_g (lw_at lw_m19 134 rfl) rfl
theorem q4701 : (Jvm.Cond.code ({ cls := "TransportPairModel$Greet", name := "lookAt", desc := "(I)I" } : Jvm.MethodName) prog_39_method_11_code (4 : Nat) (Option.some Jvm.ClassFile.FieldType.int)) ∈ lw_all := lw_g (lw_at lw_m19 135 rfl) rfl
theorem q4702 : (Jvm.Cond.methodLink "TransportPairModel$Greet" (102 : Nat) ({ cls := "TransportPairModel$Greet", name := "isSize", desc := "(II)Z" } : Jvm.MethodName)) ∈ lw_all := lw_g (lw_at lw_m19 136 rfl) rfl
theorem q4703 : (Jvm.Cond.static ({ cls := "TransportPairModel$Greet", name := "isSize", desc := "(II)Z" } : Jvm.MethodName)) ∈ lw_all := lw_g (lw_at lw_m19 137 rfl) rfl
theorem q4704 : (Jvm.Cond.code ({ cls := "TransportPairModel$Greet", name := "isSize", desc := "(II)Z" } : Jvm.MethodName) prog_39_method_10_code (2 : Nat) (Option.some Jvm.ClassFile.FieldType.boolean)) ∈ lw_all := lw_g (lw_at lw_m19 138 rfl) rfl
theorem q4705 : (Jvm.Cond.methodLink "TransportPairModel$Greet" (126 : Nat) ({ cls := "TransportPairModel$Greet", name := "done", desc := "(II)I" } : Jvm.MethodName)) ∈ lw_all := lw_g (lw_at lw_m19 139 rfl) rfl
theorem q4707 : (Jvm.Cond.instanceMethod ({ cls := "TransportPairModel$Greet", name := "done", desc := "(II)I" } : Jvm.MethodName)) ∈ lw_all := lw_g (lw_at lw_m19 141 rfl) rfl
theorem q4708 : (Jvm.Cond.code ({ cls := "TransportPairModel$Greet", name := "done", desc := "(II)I" } : Jvm.MethodName) prog_39_method_13_code (6 : Nat) (Option.some Jvm.ClassFile.FieldType.int)) ∈ lw_all := lw_g (lw_at lw_m19 142 rfl) rfl
theorem q4709 : (Jvm.Cond.methodLink "TransportPairModel$Greet" (106 : Nat) ({ cls := "TransportPairModel$Greet", name := "prove", desc := "(I)V" } : Jvm.MethodName)) ∈ lw_all := lw_g (lw_at lw_m19 143 rfl) rfl
theorem q4711 : (Jvm.Cond.instanceMethod ({ cls := "TransportPairModel$Greet", name := "prove", desc := "(I)V" } : Jvm.MethodName)) ∈ lw_all := lw_g (lw_at lw_m19 145 rfl) rfl
theorem q4712 : (Jvm.Cond.code ({ cls := "TransportPairModel$Greet", name := "prove", desc := "(I)V" } : Jvm.MethodName) prog_39_method_5_code (2 : Nat) (Option.none : Option Jvm.ClassFile.FieldType)) ∈ lw_all := lw_g (lw_at lw_m19 146 rfl) rfl
theorem q4713 : (Jvm.Cond.methodLink "TransportPairModel$Greet" (81 : Nat) ({ cls := "TransportPairModel$Seals", name := "digest", desc := "([II[I)V" } : Jvm.MethodName)) ∈ lw_all := lw_g (lw_at lw_m19 147 rfl) rfl
theorem q4714 : (Jvm.Cond.instanceMethod ({ cls := "TransportPairModel$Seals", name := "digest", desc := "([II[I)V" } : Jvm.MethodName)) ∈ lw_all := lw_g (lw_at lw_m19 148 rfl) rfl
theorem q4715 : (Jvm.Cond.selects "TransportPairModel$Seals" ({ cls := "TransportPairModel$Seals", name := "digest", desc := "([II[I)V" } : Jvm.MethodName) ({ cls := "TransportPairModel$Seals", name := "digest", desc := "([II[I)V" } : Jvm.MethodName)) ∈ lw_all := lw_g (lw_at lw_m19 149 rfl) rfl
theorem q4716 : (Jvm.Cond.code ({ cls := "TransportPairModel$Seals", name := "digest", desc := "([II[I)V" } : Jvm.MethodName) prog_40_method_10_code (5 : Nat) (Option.none : Option Jvm.ClassFile.FieldType)) ∈ lw_all := lw_g (lw_at lw_m19 150 rfl) rfl
theorem q4717 : (Jvm.Cond.methodLink "TransportPairModel$Greet" (109 : Nat) ({ cls := "TransportPairModel$Greet", name := "keepTheirs", desc := "(II)V" } : Jvm.MethodName)) ∈ lw_all := lw_g (lw_at lw_m19 151 rfl) rfl
theorem q4719 : (Jvm.Cond.instanceMethod ({ cls := "TransportPairModel$Greet", name := "keepTheirs", desc := "(II)V" } : Jvm.MethodName)) ∈ lw_all := lw_g (lw_at lw_m19 153 rfl) rfl
theorem q4720 : (Jvm.Cond.code ({ cls := "TransportPairModel$Greet", name := "keepTheirs", desc := "(II)V" } : Jvm.MethodName) prog_39_method_12_code (4 : Nat) (Option.none : Option Jvm.ClassFile.FieldType)) ∈ lw_all := lw_g (lw_at lw_m19 154 rfl) rfl
theorem q4721 : (Jvm.Cond.methodLink "TransportPairModel$Greet" (112 : Nat) ({ cls := "TransportPairModel$Greet", name := "greets", desc := "()V" } : Jvm.MethodName)) ∈ lw_all := lw_g (lw_at lw_m19 155 rfl) rfl
theorem q4723 : (Jvm.Cond.instanceMethod ({ cls := "TransportPairModel$Greet", name := "greets", desc := "()V" } : Jvm.MethodName)) ∈ lw_all := lw_g (lw_at lw_m19 157 rfl) rfl
theorem q4724 : (Jvm.Cond.code ({ cls := "TransportPairModel$Greet", name := "greets", desc := "()V" } : Jvm.MethodName) prog_39_method_3_code (2 : Nat) (Option.none : Option Jvm.ClassFile.FieldType)) ∈ lw_all := lw_g (lw_at lw_m19 158 rfl) rfl
theorem q4725 : (Jvm.Cond.methodLink "TransportPairModel$Greet" (115 : Nat) ({ cls := "TransportPairModel$Greet", name := "talks", desc := "()V" } : Jvm.MethodName)) ∈ lw_all := lw_g (lw_at lw_m19 159 rfl) rfl
theorem q4727 : (Jvm.Cond.instanceMethod ({ cls := "TransportPairModel$Greet", name := "talks", desc := "()V" } : Jvm.MethodName)) ∈ lw_all := lw_g (lw_at lw_m19 161 rfl) rfl
theorem q4728 : (Jvm.Cond.code ({ cls := "TransportPairModel$Greet", name := "talks", desc := "()V" } : Jvm.MethodName) prog_39_method_4_code (2 : Nat) (Option.none : Option Jvm.ClassFile.FieldType)) ∈ lw_all := lw_g (lw_at lw_m19 162 rfl) rfl
theorem q4729 : (Jvm.Cond.methodLink "TransportPairModel$Side" (443 : Nat) ({ cls := "TransportPairModel$Side", name := "readParameters", desc := "()Z" } : Jvm.MethodName)) ∈ lw_all := lw_g (lw_at lw_m19 163 rfl) rfl
theorem q4731 : (Jvm.Cond.instanceMethod ({ cls := "TransportPairModel$Side", name := "readParameters", desc := "()Z" } : Jvm.MethodName)) ∈ lw_all := lw_g (lw_at lw_m19 165 rfl) rfl
theorem q4732 : (Jvm.Cond.code ({ cls := "TransportPairModel$Side", name := "readParameters", desc := "()Z" } : Jvm.MethodName) prog_41_method_30_code (3 : Nat) (Option.some Jvm.ClassFile.FieldType.boolean)) ∈ lw_all := lw_g (lw_at lw_m19 166 rfl) rfl
theorem q4733 : (Jvm.Cond.methodLink "TransportPairModel$Side" (449 : Nat) ({ cls := "TransportPairModel$Side", name := "hasBytes", desc := "(I)Z" } : Jvm.MethodName)) ∈ lw_all := lw_g (lw_at lw_m19 167 rfl) rfl
theorem q4734 : (Jvm.Cond.static ({ cls := "TransportPairModel$Side", name := "hasBytes", desc := "(I)Z" } : Jvm.MethodName)) ∈ lw_all := lw_g (lw_at lw_m19 168 rfl) rfl
theorem q4735 : (Jvm.Cond.code ({ cls := "TransportPairModel$Side", name := "hasBytes", desc := "(I)Z" } : Jvm.MethodName) prog_41_method_27_code (1 : Nat) (Option.some Jvm.ClassFile.FieldType.boolean)) ∈ lw_all := lw_g (lw_at lw_m19 169 rfl) rfl
theorem q4736 : (Jvm.Cond.methodLink "TransportPairModel$Side" (475 : Nat) ({ cls := "TransportPairModel$Side", name := "readsParameters", desc := "(LTransportPairModel$Wire;)Z" } : Jvm.MethodName)) ∈ lw_all := lw_g (lw_at lw_m19 170 rfl) rfl
theorem q4738 : (Jvm.Cond.instanceMethod ({ cls := "TransportPairModel$Side", name := "readsParameters", desc := "(LTransportPairModel$Wire;)Z" } : Jvm.MethodName)) ∈ lw_all := lw_g (lw_at lw_m19 172 rfl) rfl
theorem q4739 : (Jvm.Cond.code ({ cls := "TransportPairModel$Side", name := "readsParameters", desc := "(LTransportPairModel$Wire;)Z" } : Jvm.MethodName) prog_41_method_29_code (11 : Nat) (Option.some Jvm.ClassFile.FieldType.boolean)) ∈ lw_all := lw_g (lw_at lw_m19 173 rfl) rfl
theorem q4740 : (Jvm.Cond.methodLink "TransportPairModel$Side" (454 : Nat) ({ cls := "TransportPairModel$Wire", name := "takeNumber", desc := "()J" } : Jvm.MethodName)) ∈ lw_all := lw_g (lw_at lw_m19 174 rfl) rfl
theorem q4741 : (Jvm.Cond.methodLink "TransportPairModel$Side" (466 : Nat) ({ cls := "TransportPairModel$Wire", name := "pass", desc := "(J)I" } : Jvm.MethodName)) ∈ lw_all := lw_g (lw_at lw_m19 175 rfl) rfl
theorem q4742 : (Jvm.Cond.constantLong "TransportPairModel$Side" (469 : Nat) (16 : Int64)) ∈ lw_all := lw_g (lw_at lw_m19 176 rfl) rfl
theorem q4743 : (Jvm.Cond.methodLink "TransportPairModel$Side" (471 : Nat) ({ cls := "TransportPairModel$Side", name := "suits", desc := "(LTransportPairModel$Wire;III)Z" } : Jvm.MethodName)) ∈ lw_all := lw_g (lw_at lw_m19 177 rfl) rfl
theorem q4745 : (Jvm.Cond.instanceMethod ({ cls := "TransportPairModel$Side", name := "suits", desc := "(LTransportPairModel$Wire;III)Z" } : Jvm.MethodName)) ∈ lw_all := lw_g (lw_at lw_m19 179 rfl) rfl
theorem q4746 : (Jvm.Cond.code ({ cls := "TransportPairModel$Side", name := "suits", desc := "(LTransportPairModel$Wire;III)Z" } : Jvm.MethodName) prog_41_method_28_code (9 : Nat) (Option.some Jvm.ClassFile.FieldType.boolean)) ∈ lw_all := lw_g (lw_at lw_m19 180 rfl) rfl
theorem q4747 : (Jvm.Cond.constantLong "TransportPairModel$Side" (460 : Nat) (1152921504606846976 : Int64)) ∈ lw_all := lw_g (lw_at lw_m19 181 rfl) rfl
theorem q4748 : (Jvm.Cond.constantLong "TransportPairModel$Side" (462 : Nat) (20 : Int64)) ∈ lw_all := lw_g (lw_at lw_m19 182 rfl) rfl
theorem q4749 : (Jvm.Cond.constantLong "TransportPairModel$Side" (464 : Nat) (16383 : Int64)) ∈ lw_all := lw_g (lw_at lw_m19 183 rfl) rfl
theorem q4750 : (Jvm.Cond.constantLong "TransportPairModel$Side" (479 : Nat) (8 : Int64)) ∈ lw_all := lw_g (lw_at lw_m19 184 rfl) rfl
theorem q4751 : (Jvm.Cond.methodLink "TransportPairModel$Side" (481 : Nat) ({ cls := "TransportPairModel$Streams", name := "know", desc := "(IIJ)V" } : Jvm.MethodName)) ∈ lw_all := lw_g (lw_at lw_m19 185 rfl) rfl
theorem q4752 : (Jvm.Cond.instanceMethod ({ cls := "TransportPairModel$Streams", name := "know", desc := "(IIJ)V" } : Jvm.MethodName)) ∈ lw_all := lw_g (lw_at lw_m19 186 rfl) rfl
theorem q4753 : (Jvm.Cond.selects "TransportPairModel$Streams" ({ cls := "TransportPairModel$Streams", name := "know", desc := "(IIJ)V" } : Jvm.MethodName) ({ cls := "TransportPairModel$Streams", name := "know", desc := "(IIJ)V" } : Jvm.MethodName)) ∈ lw_all := lw_g (lw_at lw_m19 187 rfl) rfl
theorem q4754 : (Jvm.Cond.code ({ cls := "TransportPairModel$Streams", name := "know", desc := "(IIJ)V" } : Jvm.MethodName) prog_42_method_3_code (5 : Nat) (Option.none : Option Jvm.ClassFile.FieldType)) ∈ lw_all := lw_g (lw_at lw_m19 188 rfl) rfl
theorem q4755 : (Jvm.Cond.constantLong "TransportPairModel$Streams" (172 : Nat) (64 : Int64)) ∈ lw_all := lw_g (lw_at lw_m19 189 rfl) rfl
theorem q4756 : (Jvm.Cond.methodLink "TransportPairModel$Side" (342 : Nat) ({ cls := "TransportPairModel$Side", name := "confirm", desc := "()V" } : Jvm.MethodName)) ∈ lw_all := lw_g (lw_at lw_m19 190 rfl) rfl
theorem q4758 : (Jvm.Cond.instanceMethod ({ cls := "TransportPairModel$Side", name := "confirm", desc := "()V" } : Jvm.MethodName)) ∈ lw_all := lw_g (lw_at lw_m19 192 rfl) rfl
theorem q4759 : (Jvm.Cond.code ({ cls := "TransportPairModel$Side", name := "confirm", desc := "()V" } : Jvm.MethodName) prog_41_method_20_code (1 : Nat) (Option.none : Option Jvm.ClassFile.FieldType)) ∈ lw_all := lw_g (lw_at lw_m19 193 rfl) rfl
theorem q4760 : (Jvm.Cond.constantLong "TransportPairModel$Side" (340 : Nat) (9999 : Int64)) ∈ lw_all := lw_g (lw_at lw_m19 194 rfl) rfl
theorem q4761 : (Jvm.Cond.methodLink "TransportPairModel$Side" (345 : Nat) ({ cls := "TransportPairModel$Streams", name := "takes", desc := "(ILTransportPairModel$Wire;)I" } : Jvm.MethodName)) ∈ lw_all := lw_g (lw_at lw_m19 195 rfl) rfl
theorem q4762 : (Jvm.Cond.instanceMethod ({ cls := "TransportPairModel$Streams", name := "takes", desc := "(ILTransportPairModel$Wire;)I" } : Jvm.MethodName)) ∈ lw_all := lw_g (lw_at lw_m19 196 rfl) rfl
theorem q4763 : (Jvm.Cond.selects "TransportPairModel$Streams" ({ cls := "TransportPairModel$Streams", name := "takes", desc := "(ILTransportPairModel$Wire;)I" } : Jvm.MethodName) ({ cls := "TransportPairModel$Streams", name := "takes", desc := "(ILTransportPairModel$Wire;)I" } : Jvm.MethodName)) ∈ lw_all := lw_g (lw_at lw_m19 197 rfl) rfl
theorem q4764 : (Jvm.Cond.code ({ cls := "TransportPairModel$Streams", name := "takes", desc := "(ILTransportPairModel$Wire;)I" } : Jvm.MethodName) prog_42_method_40_code (4 : Nat) (Option.some Jvm.ClassFile.FieldType.int)) ∈ lw_all := lw_g (lw_at lw_m19 198 rfl) rfl
theorem q4765 : (Jvm.Cond.methodLink "TransportPairModel$Streams" (307 : Nat) ({ cls := "TransportPairModel$Streams", name := "takeStream", desc := "(I[II)I" } : Jvm.MethodName)) ∈ lw_all := lw_g (lw_at lw_m19 199 rfl) rfl
theorem q4767 : (Jvm.Cond.instanceMethod ({ cls := "TransportPairModel$Streams", name := "takeStream", desc := "(I[II)I" } : Jvm.MethodName)) ∈ lw_all := lw_g (lw_at lw_m19 201 rfl) rfl
theorem q4768 : (Jvm.Cond.code ({ cls := "TransportPairModel$Streams", name := "takeStream", desc := "(I[II)I" } : Jvm.MethodName) prog_42_method_37_code (11 : Nat) (Option.some Jvm.ClassFile.FieldType.int)) ∈ lw_all := lw_g (lw_at lw_m19 202 rfl) rfl
theorem q4769 : (Jvm.Cond.methodLink "TransportPairModel$Streams" (257 : Nat) ({ cls := "TransportPairModel$Streams", name := "meant", desc := "(IJZ)I" } : Jvm.MethodName)) ∈ lw_all := lw_g (lw_at lw_m19 203 rfl) rfl
theorem q4771 : (Jvm.Cond.instanceMethod ({ cls := "TransportPairModel$Streams", name := "meant", desc := "(IJZ)I" } : Jvm.MethodName)) ∈ lw_all := lw_g (lw_at lw_m19 205 rfl) rfl
theorem q4772 : (Jvm.Cond.code ({ cls := "TransportPairModel$Streams", name := "meant", desc := "(IJZ)I" } : Jvm.MethodName) prog_42_method_34_code (5 : Nat) (Option.some Jvm.ClassFile.FieldType.int)) ∈ lw_all := lw_g (lw_at lw_m19 206 rfl) rfl
theorem q4773 : (Jvm.Cond.constantLong "TransportPairModel$Streams" (248 : Nat) (4 : Int64)) ∈ lw_all := lw_g (lw_at lw_m19 207 rfl) rfl
theorem q4774 : (Jvm.Cond.methodLink "TransportPairModel$Streams" (271 : Nat) ({ cls := "TransportPairModel$Streams", name := "reaches", desc := "(IIJZ)I" } : Jvm.MethodName)) ∈ lw_all := lw_g (lw_at lw_m19 208 rfl) rfl
theorem q4776 : (Jvm.Cond.instanceMethod ({ cls := "TransportPairModel$Streams", name := "reaches", desc := "(IIJZ)I" } : Jvm.MethodName)) ∈ lw_all := lw_g (lw_at lw_m19 210 rfl) rfl
theorem q4777 : (Jvm.Cond.code ({ cls := "TransportPairModel$Streams", name := "reaches", desc := "(IIJZ)I" } : Jvm.MethodName) prog_42_method_36_code (11 : Nat) (Option.some Jvm.ClassFile.FieldType.int)) ∈ lw_all := lw_g (lw_at lw_m19 211 rfl) rfl
theorem q4778 : (Jvm.Cond.methodLink "TransportPairModel$Streams" (250 : Nat) ({ cls := "TransportPairModel$Streams", name := "received", desc := "(I)J" } : Jvm.MethodName)) ∈ lw_all := lw_g (lw_at lw_m19 212 rfl) rfl
theorem q4780 : (Jvm.Cond.instanceMethod ({ cls := "TransportPairModel$Streams", name := "received", desc := "(I)J" } : Jvm.MethodName)) ∈ lw_all := lw_g (lw_at lw_m19 214 rfl) rfl
theorem q4781 : (Jvm.Cond.code ({ cls := "TransportPairModel$Streams", name := "received", desc := "(I)J" } : Jvm.MethodName) prog_42_method_18_code (5 : Nat) (Option.some Jvm.ClassFile.FieldType.long)) ∈ lw_all := lw_g (lw_at lw_m19 215 rfl) rfl
theorem q4782 : (Jvm.Cond.methodLink "TransportPairModel$Streams" (275 : Nat) ({ cls := "TransportPairModel$Streams", name := "comesThere", desc := "(II)V" } : Jvm.MethodName)) ∈ lw_all := lw_g (lw_at lw_m19 216 rfl) rfl
theorem q4784 : (Jvm.Cond.instanceMethod ({ cls := "TransportPairModel$Streams", name := "comesThere", desc := "(II)V" } : Jvm.MethodName)) ∈ lw_all := lw_g (lw_at lw_m19 218 rfl) rfl
theorem q4785 : (Jvm.Cond.code ({ cls := "TransportPairModel$Streams", name := "comesThere", desc := "(II)V" } : Jvm.MethodName) prog_42_method_35_code (4 : Nat) (Option.none : Option Jvm.ClassFile.FieldType)) ∈ lw_all := lw_g (lw_at lw_m19 219 rfl) rfl
theorem q4786 : (Jvm.Cond.methodLink "TransportPairModel$Streams" (278 : Nat) ({ cls := "TransportPairModel$Streams", name := "greater", desc := "(JJ)J" } : Jvm.MethodName)) ∈ lw_all := lw_g (lw_at lw_m19 220 rfl) rfl
theorem q4787 : (Jvm.Cond.static ({ cls := "TransportPairModel$Streams", name := "greater", desc := "(JJ)J" } : Jvm.MethodName)) ∈ lw_all := lw_g (lw_at lw_m19 221 rfl) rfl
theorem q4788 : (Jvm.Cond.code ({ cls := "TransportPairModel$Streams", name := "greater", desc := "(JJ)J" } : Jvm.MethodName) prog_42_method_4_code (4 : Nat) (Option.some Jvm.ClassFile.FieldType.long)) ∈ lw_all := lw_g (lw_at lw_m19 222 rfl) rfl
theorem q4789 : (Jvm.Cond.methodLink "TransportPairModel$Streams" (282 : Nat) ({ cls := "TransportPairModel$Streams", name := "comes", desc := "(IIII)V" } : Jvm.MethodName)) ∈ lw_all := lw_g (lw_at lw_m19 223 rfl) rfl
theorem q4791 : (Jvm.Cond.instanceMethod ({ cls := "TransportPairModel$Streams", name := "comes", desc := "(IIII)V" } : Jvm.MethodName)) ∈ lw_all := lw_g (lw_at lw_m19 225 rfl) rfl
theorem q4792 : (Jvm.Cond.code ({ cls := "TransportPairModel$Streams", name := "comes", desc := "(IIII)V" } : Jvm.MethodName) prog_42_method_22_code (7 : Nat) (Option.none : Option Jvm.ClassFile.FieldType)) ∈ lw_all := lw_g (lw_at lw_m19 226 rfl) rfl
theorem q4793 : (Jvm.Cond.methodLink "TransportPairModel$Streams" (286 : Nat) ({ cls := "TransportPairModel$Streams", name := "makeReady", desc := "(I)V" } : Jvm.MethodName)) ∈ lw_all := lw_g (lw_at lw_m19 227 rfl) rfl
theorem q4795 : (Jvm.Cond.instanceMethod ({ cls := "TransportPairModel$Streams", name := "makeReady", desc := "(I)V" } : Jvm.MethodName)) ∈ lw_all := lw_g (lw_at lw_m19 229 rfl) rfl
theorem q4796 : (Jvm.Cond.code ({ cls := "TransportPairModel$Streams", name := "makeReady", desc := "(I)V" } : Jvm.MethodName) prog_42_method_23_code (3 : Nat) (Option.none : Option Jvm.ClassFile.FieldType)) ∈ lw_all := lw_g (lw_at lw_m19 230 rfl) rfl
theorem q4797 : (Jvm.Cond.methodLink "TransportPairModel$Streams" (311 : Nat) ({ cls := "TransportPairModel$Streams", name := "takeReset", desc := "(I)I" } : Jvm.MethodName)) ∈ lw_all := lw_g (lw_at lw_m19 231 rfl) rfl
theorem q4799 : (Jvm.Cond.instanceMethod ({ cls := "TransportPairModel$Streams", name := "takeReset", desc := "(I)I" } : Jvm.MethodName)) ∈ lw_all := lw_g (lw_at lw_m19 233 rfl) rfl
theorem q4800 : (Jvm.Cond.code ({ cls := "TransportPairModel$Streams", name := "takeReset", desc := "(I)I" } : Jvm.MethodName) prog_42_method_38_code (6 : Nat) (Option.some Jvm.ClassFile.FieldType.int)) ∈ lw_all := lw_g (lw_at lw_m19 234 rfl) rfl
theorem q4801 : (Jvm.Cond.methodLink "TransportPairModel$Streams" (314 : Nat) ({ cls := "TransportPairModel$Streams", name := "takeOther", desc := "(I)I" } : Jvm.MethodName)) ∈ lw_all := lw_g (lw_at lw_m19 235 rfl) rfl
theorem q4803 : (Jvm.Cond.instanceMethod ({ cls := "TransportPairModel$Streams", name := "takeOther", desc := "(I)I" } : Jvm.MethodName)) ∈ lw_all := lw_g (lw_at lw_m19 237 rfl) rfl
theorem q4804 : (Jvm.Cond.code ({ cls := "TransportPairModel$Streams", name := "takeOther", desc := "(I)I" } : Jvm.MethodName) prog_42_method_39_code (4 : Nat) (Option.some Jvm.ClassFile.FieldType.int)) ∈ lw_all := lw_g (lw_at lw_m19 238 rfl) rfl
theorem q4805 : (Jvm.Cond.methodLink "TransportPairModel$Side" (317 : Nat) ({ cls := "TransportPairModel$Book", name := "came", desc := "(IJZ)V" } : Jvm.MethodName)) ∈ lw_all := lw_g (lw_at lw_m19 239 rfl) rfl
theorem q4806 : (Jvm.Cond.instanceMethod ({ cls := "TransportPairModel$Book", name := "came", desc := "(IJZ)V" } : Jvm.MethodName)) ∈ lw_all := lw_g (lw_at lw_m20 0 rfl) rfl
theorem q4807 : (Jvm.Cond.selects "TransportPairModel$Book" ({ cls := "TransportPairModel$Book", name := "came", desc := "(IJZ)V" } : Jvm.MethodName) ({ cls := "TransportPairModel$Book", name := "came", desc := "(IJZ)V" } : Jvm.MethodName)) ∈ lw_all := lw_g (lw_at lw_m20 1 rfl) rfl
theorem q4808 : (Jvm.Cond.code ({ cls := "TransportPairModel$Book", name := "came", desc := "(IJZ)V" } : Jvm.MethodName) prog_36_method_27_code (7 : Nat) (Option.none : Option Jvm.ClassFile.FieldType)) ∈ lw_all := lw_g (lw_at lw_m20 2 rfl) rfl
theorem q4809 : (Jvm.Cond.methodLink "TransportPairModel$Book" (191 : Nat) ({ cls := "TransportPairModel$Book", name := "isOld", desc := "(IJ)Z" } : Jvm.MethodName)) ∈ lw_all := lw_g (lw_at lw_m20 3 rfl) rfl
theorem q4810 : (Jvm.Cond.methodLink "TransportPairModel$Book" (195 : Nat) ({ cls := "TransportPairModel$Book", name := "greatest", desc := "(I)J" } : Jvm.MethodName)) ∈ lw_all := lw_g (lw_at lw_m20 4 rfl) rfl
theorem q4811 : (Jvm.Cond.methodLink "TransportPairModel$Book" (199 : Nat) ({ cls := "TransportPairModel$Book", name := "comeIn", desc := "(IJ)V" } : Jvm.MethodName)) ∈ lw_all := lw_g (lw_at lw_m20 5 rfl) rfl
theorem q4813 : (Jvm.Cond.instanceMethod ({ cls := "TransportPairModel$Book", name := "comeIn", desc := "(IJ)V" } : Jvm.MethodName)) ∈ lw_all := lw_g (lw_at lw_m20 7 rfl) rfl
theorem q4814 : (Jvm.Cond.code ({ cls := "TransportPairModel$Book", name := "comeIn", desc := "(IJ)V" } : Jvm.MethodName) prog_36_method_26_code (5 : Nat) (Option.none : Option Jvm.ClassFile.FieldType)) ∈ lw_all := lw_g (lw_at lw_m20 8 rfl) rfl
theorem q4815 : (Jvm.Cond.methodLink "TransportPairModel$Book" (188 : Nat) ({ cls := "TransportPairModel$Book", name := "takeOut", desc := "(II)V" } : Jvm.MethodName)) ∈ lw_all := lw_g (lw_at lw_m20 9 rfl) rfl
theorem q4817 : (Jvm.Cond.instanceMethod ({ cls := "TransportPairModel$Book", name := "takeOut", desc := "(II)V" } : Jvm.MethodName)) ∈ lw_all := lw_g (lw_at lw_m20 11 rfl) rfl
theorem q4818 : (Jvm.Cond.code ({ cls := "TransportPairModel$Book", name := "takeOut", desc := "(II)V" } : Jvm.MethodName) prog_36_method_25_code (4 : Nat) (Option.none : Option Jvm.ClassFile.FieldType)) ∈ lw_all := lw_g (lw_at lw_m20 12 rfl) rfl
theorem q4819 : (Jvm.Cond.methodLink "TransportPairLaw" (180 : Nat) ({ cls := "TransportPairModel", name := "drop", desc := "(II)I" } : Jvm.MethodName)) ∈ lw_all := lw_g (lw_at lw_m20 13 rfl) rfl
theorem q4820 : (Jvm.Cond.instanceMethod ({ cls := "TransportPairModel", name := "drop", desc := "(II)I" } : Jvm.MethodName)) ∈ lw_all := lw_g (lw_at lw_m20 14 rfl) rfl
theorem q4821 : (Jvm.Cond.selects "TransportPairModel" ({ cls := "TransportPairModel", name := "drop", desc := "(II)I" } : Jvm.MethodName) ({ cls := "TransportPairModel", name := "drop", desc := "(II)I" } : Jvm.MethodName)) ∈ lw_all := lw_g (lw_at lw_m20 15 rfl) rfl
theorem q4822 : (Jvm.Cond.code ({ cls := "TransportPairModel", name := "drop", desc := "(II)I" } : Jvm.MethodName) prog_35_method_28_code (3 : Nat) (Option.some Jvm.ClassFile.FieldType.int)) ∈ lw_all := lw_g (lw_at lw_m20 16 rfl) rfl
theorem q4823 : (Jvm.Cond.methodLink "TransportPairLaw" (183 : Nat) ({ cls := "TransportPairModel", name := "twice", desc := "(II)I" } : Jvm.MethodName)) ∈ lw_all := lw_g (lw_at lw_m20 17 rfl) rfl
theorem q4824 : (Jvm.Cond.instanceMethod ({ cls := "TransportPairModel", name := "twice", desc := "(II)I" } : Jvm.MethodName)) ∈ lw_all := lw_g (lw_at lw_m20 18 rfl) rfl
theorem q4825 : (Jvm.Cond.selects "TransportPairModel" ({ cls := "TransportPairModel", name := "twice", desc := "(II)I" } : Jvm.MethodName) ({ cls := "TransportPairModel", name := "twice", desc := "(II)I" } : Jvm.MethodName)) ∈ lw_all := lw_g (lw_at lw_m20 19 rfl) rfl
theorem q4826 : (Jvm.Cond.code ({ cls := "TransportPairModel", name := "twice", desc := "(II)I" } : Jvm.MethodName) prog_35_method_29_code (3 : Nat) (Option.some Jvm.ClassFile.FieldType.int)) ∈ lw_all := lw_g (lw_at lw_m20 20 rfl) rfl
theorem q4827 : (Jvm.Cond.methodLink "TransportPairModel" (196 : Nat) ({ cls := "TransportPairModel", name := "lies", desc := "(I[III)V" } : Jvm.MethodName)) ∈ lw_all := lw_g (lw_at lw_m20 21 rfl) rfl
theorem q4829 : (Jvm.Cond.instanceMethod ({ cls := "TransportPairModel", name := "lies", desc := "(I[III)V" } : Jvm.MethodName)) ∈ lw_all := lw_g (lw_at lw_m20 23 rfl) rfl
theorem q4830 : (Jvm.Cond.code ({ cls := "TransportPairModel", name := "lies", desc := "(I[III)V" } : Jvm.MethodName) prog_35_method_22_code (7 : Nat) (Option.none : Option Jvm.ClassFile.FieldType)) ∈ lw_all := lw_g (lw_at lw_m20 24 rfl) rfl
theorem q4831 : (Jvm.Cond.methodLink "TransportPairLaw" (187 : Nat) ({ cls := "TransportPairModel", name := "alter", desc := "(IIII)I" } : Jvm.MethodName)) ∈ lw_all := lw_g (lw_at lw_m20 25 rfl) rfl
theorem q4832 : (Jvm.Cond.instanceMethod ({ cls := "TransportPairModel", name := "alter", desc := "(IIII)I" } : Jvm.MethodName)) ∈ lw_all := lw_g (lw_at lw_m20 26 rfl) rfl
theorem q4833 : (Jvm.Cond.selects "TransportPairModel" ({ cls := "TransportPairModel", name := "alter", desc := "(IIII)I" } : Jvm.MethodName) ({ cls := "TransportPairModel", name := "alter", desc := "(IIII)I" } : Jvm.MethodName)) ∈ lw_all := lw_g (lw_at lw_m20 27 rfl) rfl
theorem q4834 : (Jvm.Cond.code ({ cls := "TransportPairModel", name := "alter", desc := "(IIII)I" } : Jvm.MethodName) prog_35_method_30_code (6 : Nat) (Option.some Jvm.ClassFile.FieldType.int)) ∈ lw_all := lw_g (lw_at lw_m20 28 rfl) rfl
theorem q4835 : (Jvm.Cond.methodLink "TransportPairLaw" (190 : Nat) ({ cls := "TransportPairModel", name := "flow", desc := "(I)V" } : Jvm.MethodName)) ∈ lw_all := lw_g (lw_at lw_m20 29 rfl) rfl
theorem q4836 : (Jvm.Cond.instanceMethod ({ cls := "TransportPairModel", name := "flow", desc := "(I)V" } : Jvm.MethodName)) ∈ lw_all := lw_g (lw_at lw_m20 30 rfl) rfl
theorem q4837 : (Jvm.Cond.selects "TransportPairModel" ({ cls := "TransportPairModel", name := "flow", desc := "(I)V" } : Jvm.MethodName) ({ cls := "TransportPairModel", name := "flow", desc := "(I)V" } : Jvm.MethodName)) ∈ lw_all := lw_g (lw_at lw_m20 31 rfl) rfl
theorem q4838 : (Jvm.Cond.code ({ cls := "TransportPairModel", name := "flow", desc := "(I)V" } : Jvm.MethodName) prog_35_method_31_code (2 : Nat) (Option.none : Option Jvm.ClassFile.FieldType)) ∈ lw_all := lw_g (lw_at lw_m20 32 rfl) rfl
theorem q4839 : (Jvm.Cond.methodLink "TransportPairLaw" (193 : Nat) ({ cls := "TransportPairModel", name := "tick", desc := "(I)I" } : Jvm.MethodName)) ∈ lw_all := lw_g (lw_at lw_m20 33 rfl) rfl
theorem q4840 : (Jvm.Cond.instanceMethod ({ cls := "TransportPairModel", name := "tick", desc := "(I)I" } : Jvm.MethodName)) ∈ lw_all := lw_g (lw_at lw_m20 34 rfl) rfl
theorem q4841 : (Jvm.Cond.selects "TransportPairModel" ({ cls := "TransportPairModel", name := "tick", desc := "(I)I" } : Jvm.MethodName) ({ cls := "TransportPairModel", name := "tick", desc := "(I)I" } : Jvm.MethodName)) ∈ lw_all := lw_g (lw_at lw_m20 35 rfl) rfl
theorem q4842 : (Jvm.Cond.code ({ cls := "TransportPairModel", name := "tick", desc := "(I)I" } : Jvm.MethodName) prog_35_method_32_code (3 : Nat) (Option.some Jvm.ClassFile.FieldType.int)) ∈ lw_all := lw_g (lw_at lw_m20 36 rfl) rfl
theorem q4843 : (Jvm.Cond.methodLink "TransportPairModel" (206 : Nat) ({ cls := "TransportPairModel", name := "ticks", desc := "()V" } : Jvm.MethodName)) ∈ lw_all := lw_g (lw_at lw_m20 37 rfl) rfl
theorem q4845 : (Jvm.Cond.instanceMethod ({ cls := "TransportPairModel", name := "ticks", desc := "()V" } : Jvm.MethodName)) ∈ lw_all := lw_g (lw_at lw_m20 39 rfl) rfl
theorem q4846 : (Jvm.Cond.code ({ cls := "TransportPairModel", name := "ticks", desc := "()V" } : Jvm.MethodName) prog_35_method_33_code (5 : Nat) (Option.none : Option Jvm.ClassFile.FieldType)) ∈ lw_all := lw_g (lw_at lw_m20 40 rfl) rfl
theorem q4847 : (Jvm.Cond.methodLink "TransportPairModel" (209 : Nat) ({ cls := "TransportPairModel$Side", name := "tick", desc := "()V" } : Jvm.MethodName)) ∈ lw_all := lw_g (lw_at lw_m20 41 rfl) rfl
theorem q4848 : (Jvm.Cond.instanceMethod ({ cls := "TransportPairModel$Side", name := "tick", desc := "()V" } : Jvm.MethodName)) ∈ lw_all := lw_g (lw_at lw_m20 42 rfl) rfl
theorem q4849 : (Jvm.Cond.selects "TransportPairModel$Side" ({ cls := "TransportPairModel$Side", name := "tick", desc := "()V" } : Jvm.MethodName) ({ cls := "TransportPairModel$Side", name := "tick", desc := "()V" } : Jvm.MethodName)) ∈ lw_all := lw_g (lw_at lw_m20 43 rfl) rfl
theorem q4850 : (Jvm.Cond.code ({ cls := "TransportPairModel$Side", name := "tick", desc := "()V" } : Jvm.MethodName) prog_41_method_32_code (4 : Nat) (Option.none : Option Jvm.ClassFile.FieldType)) ∈ lw_all := lw_g (lw_at lw_m20 44 rfl) rfl
theorem q4851 : (Jvm.Cond.methodLink "TransportPairModel$Side" (485 : Nat) ({ cls := "TransportPairModel$Book", name := "tick", desc := "()I" } : Jvm.MethodName)) ∈ lw_all := lw_g (lw_at lw_m20 45 rfl) rfl
theorem q4852 : (Jvm.Cond.instanceMethod ({ cls := "TransportPairModel$Book", name := "tick", desc := "()I" } : Jvm.MethodName)) ∈ lw_all := lw_g (lw_at lw_m20 46 rfl) rfl
theorem q4853 : (Jvm.Cond.selects "TransportPairModel$Book" ({ cls := "TransportPairModel$Book", name := "tick", desc := "()I" } : Jvm.MethodName) ({ cls := "TransportPairModel$Book", name := "tick", desc := "()I" } : Jvm.MethodName)) ∈ lw_all := lw_g (lw_at lw_m20 47 rfl) rfl
theorem q4854 : (Jvm.Cond.code ({ cls := "TransportPairModel$Book", name := "tick", desc := "()I" } : Jvm.MethodName) prog_36_method_20_code (5 : Nat) (Option.some Jvm.ClassFile.FieldType.int)) ∈ lw_all := lw_g (lw_at lw_m20 48 rfl) rfl
theorem q4855 : (Jvm.Cond.methodLink "TransportPairModel$Book" (183 : Nat) ({ cls := "TransportPairModel$Book", name := "probeTime", desc := "(I)I" } : Jvm.MethodName)) ∈ lw_all := lw_g (lw_at lw_m20 49 rfl) rfl
theorem q4856 : (Jvm.Cond.instanceMethod ({ cls := "TransportPairModel$Book", name := "probeTime", desc := "(I)I" } : Jvm.MethodName)) ∈ lw_all := lw_g (lw_at lw_m20 50 rfl) rfl
theorem q4857 : (Jvm.Cond.selects "TransportPairModel$Book" ({ cls := "TransportPairModel$Book", name := "probeTime", desc := "(I)I" } : Jvm.MethodName) ({ cls := "TransportPairModel$Book", name := "probeTime", desc := "(I)I" } : Jvm.MethodName)) ∈ lw_all := lw_g (lw_at lw_m20 51 rfl) rfl
theorem q4858 : (Jvm.Cond.code ({ cls := "TransportPairModel$Book", name := "probeTime", desc := "(I)I" } : Jvm.MethodName) prog_36_method_10_code (4 : Nat) (Option.some Jvm.ClassFile.FieldType.int)) ∈ lw_all := lw_g (lw_at lw_m20 52 rfl) rfl
theorem q4859 : (Jvm.Cond.methodLink "TransportPairModel$Book" (132 : Nat) ({ cls := "TransportPairModel$Book", name := "oldest", desc := "(I)I" } : Jvm.MethodName)) ∈ lw_all := lw_g (lw_at lw_m20 53 rfl) rfl
theorem q4860 : (Jvm.Cond.instanceMethod ({ cls := "TransportPairModel$Book", name := "oldest", desc := "(I)I" } : Jvm.MethodName)) ∈ lw_all := lw_g (lw_at lw_m20 54 rfl) rfl
theorem q4861 : (Jvm.Cond.selects "TransportPairModel$Book" ({ cls := "TransportPairModel$Book", name := "oldest", desc := "(I)I" } : Jvm.MethodName) ({ cls := "TransportPairModel$Book", name := "oldest", desc := "(I)I" } : Jvm.MethodName)) ∈ lw_all := lw_g (lw_at lw_m20 55 rfl) rfl
theorem q4862 : (Jvm.Cond.code ({ cls := "TransportPairModel$Book", name := "oldest", desc := "(I)I" } : Jvm.MethodName) prog_36_method_6_code (3 : Nat) (Option.some Jvm.ClassFile.FieldType.int)) ∈ lw_all := lw_g (lw_at lw_m20 56 rfl) rfl
theorem q4863 : (Jvm.Cond.methodLink "TransportPairModel$Book" (139 : Nat) ({ cls := "TransportPairModel$Book", name := "firstSpace", desc := "()I" } : Jvm.MethodName)) ∈ lw_all := lw_g (lw_at lw_m20 57 rfl) rfl
theorem q4865 : (Jvm.Cond.instanceMethod ({ cls := "TransportPairModel$Book", name := "firstSpace", desc := "()I" } : Jvm.MethodName)) ∈ lw_all := lw_g (lw_at lw_m20 59 rfl) rfl
theorem q4866 : (Jvm.Cond.code ({ cls := "TransportPairModel$Book", name := "firstSpace", desc := "()I" } : Jvm.MethodName) prog_36_method_9_code (2 : Nat) (Option.some Jvm.ClassFile.FieldType.int)) ∈ lw_all := lw_g (lw_at lw_m20 60 rfl) rfl
theorem q4867 : (Jvm.Cond.methodLink "TransportPairModel$Side" (489 : Nat) ({ cls := "TransportPairModel$Book", name := "oldest", desc := "(I)I" } : Jvm.MethodName)) ∈ lw_all := lw_g (lw_at lw_m20 61 rfl) rfl
theorem q4868 : (Jvm.Cond.methodLink "TransportPairModel$Side" (492 : Nat) ({ cls := "TransportPairModel$Side", name := "quietLimit", desc := "()J" } : Jvm.MethodName)) ∈ lw_all := lw_g (lw_at lw_m20 62 rfl) rfl
theorem q4870 : (Jvm.Cond.instanceMethod ({ cls := "TransportPairModel$Side", name := "quietLimit", desc := "()J" } : Jvm.MethodName)) ∈ lw_all := lw_g (lw_at lw_m20 64 rfl) rfl
theorem q4871 : (Jvm.Cond.code ({ cls := "TransportPairModel$Side", name := "quietLimit", desc := "()J" } : Jvm.MethodName) prog_41_method_31_code (9 : Nat) (Option.some Jvm.ClassFile.FieldType.long)) ∈ lw_all := lw_g (lw_at lw_m20 65 rfl) rfl
theorem q4872 : (Jvm.Cond.constant "TransportPairModel$Side" (495 : Nat) (40000 : Int32)) ∈ lw_all := lw_g (lw_at lw_m20 66 rfl) rfl
theorem q4873 : (Jvm.Cond.methodLink "TransportPairModel" (212 : Nat) ({ cls := "TransportPairModel$Side", name := "sends", desc := "(Z)Z" } : Jvm.MethodName)) ∈ lw_all := lw_g (lw_at lw_m20 67 rfl) rfl
theorem q4874 : (Jvm.Cond.instanceMethod ({ cls := "TransportPairModel$Side", name := "sends", desc := "(Z)Z" } : Jvm.MethodName)) ∈ lw_all := lw_g (lw_at lw_m20 68 rfl) rfl
theorem q4875 : (Jvm.Cond.selects "TransportPairModel$Side" ({ cls := "TransportPairModel$Side", name := "sends", desc := "(Z)Z" } : Jvm.MethodName) ({ cls := "TransportPairModel$Side", name := "sends", desc := "(Z)Z" } : Jvm.MethodName)) ∈ lw_all := lw_g (lw_at lw_m20 69 rfl) rfl
theorem q4876 : (Jvm.Cond.code ({ cls := "TransportPairModel$Side", name := "sends", desc := "(Z)Z" } : Jvm.MethodName) prog_41_method_37_code (7 : Nat) (Option.some Jvm.ClassFile.FieldType.boolean)) ∈ lw_all := lw_g (lw_at lw_m20 70 rfl) rfl
theorem q4877 : (Jvm.Cond.methodLink "TransportPairModel$Side" (511 : Nat) ({ cls := "TransportPairModel$Side", name := "isFull", desc := "()Z" } : Jvm.MethodName)) ∈ lw_all := lw_g (lw_at lw_m20 71 rfl) rfl
theorem q4879 : (Jvm.Cond.instanceMethod ({ cls := "TransportPairModel$Side", name := "isFull", desc := "()Z" } : Jvm.MethodName)) ∈ lw_all := lw_g (lw_at lw_m20 73 rfl) rfl
theorem q4880 : (Jvm.Cond.code ({ cls := "TransportPairModel$Side", name := "isFull", desc := "()Z" } : Jvm.MethodName) prog_41_method_33_code (3 : Nat) (Option.some Jvm.ClassFile.FieldType.boolean)) ∈ lw_all := lw_g (lw_at lw_m20 74 rfl) rfl
theorem q4881 : (Jvm.Cond.constant "TransportPairModel$Side" (514 : Nat) (50000 : Int32)) ∈ lw_all := lw_g (lw_at lw_m20 75 rfl) rfl
theorem q4882 : (Jvm.Cond.methodLink "TransportPairModel$Side" (503 : Nat) ({ cls := "TransportPairModel$Side", name := "headerOf", desc := "(I)I" } : Jvm.MethodName)) ∈ lw_all := lw_g (lw_at lw_m20 76 rfl) rfl
theorem q4883 : (Jvm.Cond.static ({ cls := "TransportPairModel$Side", name := "headerOf", desc := "(I)I" } : Jvm.MethodName)) ∈ lw_all := lw_g (lw_at lw_m20 77 rfl) rfl
theorem q4884 : (Jvm.Cond.code ({ cls := "TransportPairModel$Side", name := "headerOf", desc := "(I)I" } : Jvm.MethodName) prog_41_method_34_code (1 : Nat) (Option.some Jvm.ClassFile.FieldType.int)) ∈ lw_all := lw_g (lw_at lw_m20 78 rfl) rfl
theorem q4885 : (Jvm.Cond.methodLink "TransportPairModel$Side" (522 : Nat) ({ cls := "TransportPairModel$Side", name := "laysFrames", desc := "(IIZ)V" } : Jvm.MethodName)) ∈ lw_all := lw_g (lw_at lw_m20 79 rfl) rfl
theorem q4887 : (Jvm.Cond.instanceMethod ({ cls := "TransportPairModel$Side", name := "laysFrames", desc := "(IIZ)V" } : Jvm.MethodName)) ∈ lw_all := lw_g (lw_at lw_m20 81 rfl) rfl
theorem q4888 : (Jvm.Cond.code ({ cls := "TransportPairModel$Side", name := "laysFrames", desc := "(IIZ)V" } : Jvm.MethodName) prog_41_method_40_code (6 : Nat) (Option.none : Option Jvm.ClassFile.FieldType)) ∈ lw_all := lw_g (lw_at lw_m20 82 rfl) rfl
theorem q4889 : (Jvm.Cond.methodLink "TransportPairModel$Side" (556 : Nat) ({ cls := "TransportPairModel$Side", name := "laysClose", desc := "(II)V" } : Jvm.MethodName)) ∈ lw_all := lw_g (lw_at lw_m20 83 rfl) rfl
theorem q4891 : (Jvm.Cond.instanceMethod ({ cls := "TransportPairModel$Side", name := "laysClose", desc := "(II)V" } : Jvm.MethodName)) ∈ lw_all := lw_g (lw_at lw_m20 85 rfl) rfl
theorem q4892 : (Jvm.Cond.code ({ cls := "TransportPairModel$Side", name := "laysClose", desc := "(II)V" } : Jvm.MethodName) prog_41_method_41_code (7 : Nat) (Option.none : Option Jvm.ClassFile.FieldType)) ∈ lw_all := lw_g (lw_at lw_m20 86 rfl) rfl
theorem q4893 : (Jvm.Cond.constantLong "TransportPairModel$Side" (580 : Nat) (28 : Int64)) ∈ lw_all := lw_g (lw_at lw_m20 87 rfl) rfl
theorem q4894 : (Jvm.Cond.constantLong "TransportPairModel$Side" (582 : Nat) (29 : Int64)) ∈ lw_all := lw_g (lw_at lw_m20 88 rfl) rfl
theorem q4895 : (Jvm.Cond.methodLink "TransportPairModel$Side" (534 : Nat) ({ cls := "TransportPairModel$Draft", name := "put", desc := "(JI)V" } : Jvm.MethodName)) ∈ lw_all := lw_g (lw_at lw_m20 89 rfl) rfl
theorem q4896 : (Jvm.Cond.instanceMethod ({ cls := "TransportPairModel$Draft", name := "put", desc := "(JI)V" } : Jvm.MethodName)) ∈ lw_all := lw_g (lw_at lw_m20 90 rfl) rfl
theorem q4897 : (Jvm.Cond.selects "TransportPairModel$Draft" ({ cls := "TransportPairModel$Draft", name := "put", desc := "(JI)V" } : Jvm.MethodName) ({ cls := "TransportPairModel$Draft", name := "put", desc := "(JI)V" } : Jvm.MethodName)) ∈ lw_all := lw_g (lw_at lw_m20 91 rfl) rfl
theorem q4898 : (Jvm.Cond.code ({ cls := "TransportPairModel$Draft", name := "put", desc := "(JI)V" } : Jvm.MethodName) prog_38_method_2_code (5 : Nat) (Option.none : Option Jvm.ClassFile.FieldType)) ∈ lw_all := lw_g (lw_at lw_m20 92 rfl) rfl
theorem q4899 : (Jvm.Cond.constantLong "TransportPairModel$Draft" (17 : Nat) (255 : Int64)) ∈ lw_all := lw_g (lw_at lw_m20 93 rfl) rfl
theorem q4900 : (Jvm.Cond.methodLink "TransportPairModel$Side" (584 : Nat) ({ cls := "TransportPairModel$Draft", name := "number", desc := "(J)V" } : Jvm.MethodName)) ∈ lw_all := lw_g (lw_at lw_m20 94 rfl) rfl
theorem q4901 : (Jvm.Cond.instanceMethod ({ cls := "TransportPairModel$Draft", name := "number", desc := "(J)V" } : Jvm.MethodName)) ∈ lw_all := lw_g (lw_at lw_m20 95 rfl) rfl
theorem q4902 : (Jvm.Cond.selects "TransportPairModel$Draft" ({ cls := "TransportPairModel$Draft", name := "number", desc := "(J)V" } : Jvm.MethodName) ({ cls := "TransportPairModel$Draft", name := "number", desc := "(J)V" } : Jvm.MethodName)) ∈ lw_all := lw_g (lw_at lw_m20 96 rfl) rfl
theorem q4903 : (Jvm.Cond.code ({ cls := "TransportPairModel$Draft", name := "number", desc := "(J)V" } : Jvm.MethodName) prog_38_method_3_code (3 : Nat) (Option.none : Option Jvm.ClassFile.FieldType)) ∈ lw_all := lw_g (lw_at lw_m20 97 rfl) rfl
theorem q4904 : (Jvm.Cond.methodLink "TransportPairModel$Draft" (19 : Nat) ({ cls := "TransportPairModel$Wire", name := "needs", desc := "(J)I" } : Jvm.MethodName)) ∈ lw_all := lw_g (lw_at lw_m20 98 rfl) rfl
theorem q4905 : (Jvm.Cond.methodLink "TransportPairModel$Draft" (25 : Nat) ({ cls := "TransportPairModel$Draft", name := "sized", desc := "(JI)V" } : Jvm.MethodName)) ∈ lw_all := lw_g (lw_at lw_m20 99 rfl) rfl
theorem q4906 : (Jvm.Cond.instanceMethod ({ cls := "TransportPairModel$Draft", name := "sized", desc := "(JI)V" } : Jvm.MethodName)) ∈ lw_all := lw_g (lw_at lw_m20 100 rfl) rfl
theorem q4907 : (Jvm.Cond.selects "TransportPairModel$Draft" ({ cls := "TransportPairModel$Draft", name := "sized", desc := "(JI)V" } : Jvm.MethodName) ({ cls := "TransportPairModel$Draft", name := "sized", desc := "(JI)V" } : Jvm.MethodName)) ∈ lw_all := lw_g (lw_at lw_m20 101 rfl) rfl
theorem q4908 : (Jvm.Cond.code ({ cls := "TransportPairModel$Draft", name := "sized", desc := "(JI)V" } : Jvm.MethodName) prog_38_method_4_code (6 : Nat) (Option.none : Option Jvm.ClassFile.FieldType)) ∈ lw_all := lw_g (lw_at lw_m20 102 rfl) rfl
theorem q4909 : (Jvm.Cond.constantLong "TransportPairModel$Draft" (29 : Nat) (2 : Int64)) ∈ lw_all := lw_g (lw_at lw_m20 103 rfl) rfl
theorem q4910 : (Jvm.Cond.constantLong "TransportPairModel$Draft" (31 : Nat) (3 : Int64)) ∈ lw_all := lw_g (lw_at lw_m20 104 rfl) rfl
theorem q4911 : (Jvm.Cond.methodLink "TransportPairModel$Draft" (33 : Nat) ({ cls := "TransportPairModel$Draft", name := "put", desc := "(JI)V" } : Jvm.MethodName)) ∈ lw_all := lw_g (lw_at lw_m20 105 rfl) rfl
theorem q4912 : (Jvm.Cond.methodLink "TransportPairModel$Side" (538 : Nat) ({ cls := "TransportPairModel$Draft", name := "bytes", desc := "([III)V" } : Jvm.MethodName)) ∈ lw_all := lw_g (lw_at lw_m20 106 rfl) rfl
theorem q4913 : (Jvm.Cond.instanceMethod ({ cls := "TransportPairModel$Draft", name := "bytes", desc := "([III)V" } : Jvm.MethodName)) ∈ lw_all := lw_g (lw_at lw_m20 107 rfl) rfl
theorem q4914 : (Jvm.Cond.selects "TransportPairModel$Draft" ({ cls := "TransportPairModel$Draft", name := "bytes", desc := "([III)V" } : Jvm.MethodName) ({ cls := "TransportPairModel$Draft", name := "bytes", desc := "([III)V" } : Jvm.MethodName)) ∈ lw_all := lw_g (lw_at lw_m20 108 rfl) rfl
theorem q4915 : (Jvm.Cond.code ({ cls := "TransportPairModel$Draft", name := "bytes", desc := "([III)V" } : Jvm.MethodName) prog_38_method_5_code (5 : Nat) (Option.none : Option Jvm.ClassFile.FieldType)) ∈ lw_all := lw_g (lw_at lw_m20 109 rfl) rfl
theorem q4916 : (Jvm.Cond.methodLink "TransportPairModel$Side" (562 : Nat) ({ cls := "TransportPairModel$Side", name := "laysAck", desc := "(II)Z" } : Jvm.MethodName)) ∈ lw_all := lw_g (lw_at lw_m20 110 rfl) rfl
theorem q4918 : (Jvm.Cond.instanceMethod ({ cls := "TransportPairModel$Side", name := "laysAck", desc := "(II)Z" } : Jvm.MethodName)) ∈ lw_all := lw_g (lw_at lw_m20 112 rfl) rfl
theorem q4919 : (Jvm.Cond.code ({ cls := "TransportPairModel$Side", name := "laysAck", desc := "(II)Z" } : Jvm.MethodName) prog_41_method_43_code (6 : Nat) (Option.some Jvm.ClassFile.FieldType.boolean)) ∈ lw_all := lw_g (lw_at lw_m20 113 rfl) rfl
theorem q4920 : (Jvm.Cond.methodLink "TransportPairModel$Side" (599 : Nat) ({ cls := "TransportPairModel$Side", name := "ackSize", desc := "(II)I" } : Jvm.MethodName)) ∈ lw_all := lw_g (lw_at lw_m20 114 rfl) rfl
theorem q4922 : (Jvm.Cond.instanceMethod ({ cls := "TransportPairModel$Side", name := "ackSize", desc := "(II)I" } : Jvm.MethodName)) ∈ lw_all := lw_g (lw_at lw_m20 116 rfl) rfl
theorem q4923 : (Jvm.Cond.code ({ cls := "TransportPairModel$Side", name := "ackSize", desc := "(II)I" } : Jvm.MethodName) prog_41_method_42_code (7 : Nat) (Option.some Jvm.ClassFile.FieldType.int)) ∈ lw_all := lw_g (lw_at lw_m20 117 rfl) rfl
theorem q4924 : (Jvm.Cond.methodLink "TransportPairModel$Side" (587 : Nat) ({ cls := "TransportPairModel$Book", name := "range", desc := "(IIZ)J" } : Jvm.MethodName)) ∈ lw_all := lw_g (lw_at lw_m20 118 rfl) rfl
theorem q4925 : (Jvm.Cond.instanceMethod ({ cls := "TransportPairModel$Book", name := "range", desc := "(IIZ)J" } : Jvm.MethodName)) ∈ lw_all := lw_g (lw_at lw_m20 119 rfl) rfl
theorem q4926 : (Jvm.Cond.selects "TransportPairModel$Book" ({ cls := "TransportPairModel$Book", name := "range", desc := "(IIZ)J" } : Jvm.MethodName) ({ cls := "TransportPairModel$Book", name := "range", desc := "(IIZ)J" } : Jvm.MethodName)) ∈ lw_all := lw_g (lw_at lw_m20 120 rfl) rfl
theorem q4927 : (Jvm.Cond.code ({ cls := "TransportPairModel$Book", name := "range", desc := "(IIZ)J" } : Jvm.MethodName) prog_36_method_31_code (5 : Nat) (Option.some Jvm.ClassFile.FieldType.long)) ∈ lw_all := lw_g (lw_at lw_m20 121 rfl) rfl
theorem q4928 : (Jvm.Cond.methodLink "TransportPairModel$Side" (591 : Nat) ({ cls := "TransportPairModel$Book", name := "delay", desc := "(I)I" } : Jvm.MethodName)) ∈ lw_all := lw_g (lw_at lw_m20 122 rfl) rfl
theorem q4929 : (Jvm.Cond.instanceMethod ({ cls := "TransportPairModel$Book", name := "delay", desc := "(I)I" } : Jvm.MethodName)) ∈ lw_all := lw_g (lw_at lw_m20 123 rfl) rfl
theorem q4930 : (Jvm.Cond.selects "TransportPairModel$Book" ({ cls := "TransportPairModel$Book", name := "delay", desc := "(I)I" } : Jvm.MethodName) ({ cls := "TransportPairModel$Book", name := "delay", desc := "(I)I" } : Jvm.MethodName)) ∈ lw_all := lw_g (lw_at lw_m20 124 rfl) rfl
theorem q4931 : (Jvm.Cond.code ({ cls := "TransportPairModel$Book", name := "delay", desc := "(I)I" } : Jvm.MethodName) prog_36_method_29_code (2 : Nat) (Option.some Jvm.ClassFile.FieldType.int)) ∈ lw_all := lw_g (lw_at lw_m20 125 rfl) rfl
theorem q4932 : (Jvm.Cond.methodLink "TransportPairModel$Side" (565 : Nat) ({ cls := "TransportPairModel$Book", name := "flight", desc := "()I" } : Jvm.MethodName)) ∈ lw_all := lw_g (lw_at lw_m20 126 rfl) rfl
theorem q4933 : (Jvm.Cond.instanceMethod ({ cls := "TransportPairModel$Book", name := "flight", desc := "()I" } : Jvm.MethodName)) ∈ lw_all := lw_g (lw_at lw_m20 127 rfl) rfl
theorem q4934 : (Jvm.Cond.selects "TransportPairModel$Book" ({ cls := "TransportPairModel$Book", name := "flight", desc := "()I" } : Jvm.MethodName) ({ cls := "TransportPairModel$Book", name := "flight", desc := "()I" } : Jvm.MethodName)) ∈ lw_all := lw_g (lw_at lw_m20 128 rfl) rfl
theorem q4935 : (Jvm.Cond.code ({ cls := "TransportPairModel$Book", name := "flight", desc := "()I" } : Jvm.MethodName) prog_36_method_4_code (4 : Nat) (Option.some Jvm.ClassFile.FieldType.int)) ∈ lw_all := lw_g (lw_at lw_m20 129 rfl) rfl
theorem q4936 : (Jvm.Cond.methodLink "TransportPairModel$Side" (571 : Nat) ({ cls := "TransportPairModel$Side", name := "laysCrypto", desc := "(II)V" } : Jvm.MethodName)) ∈ lw_all := lw_g (lw_at lw_m20 130 rfl) rfl
theorem q4938 : (Jvm.Cond.instanceMethod ({ cls := "TransportPairModel$Side", name := "laysCrypto", desc := "(II)V" } : Jvm.MethodName)) ∈ lw_all := lw_g (lw_at lw_m20 132 rfl) rfl
theorem q4939 : (Jvm.Cond.code ({ cls := "TransportPairModel$Side", name := "laysCrypto", desc := "(II)V" } : Jvm.MethodName) prog_41_method_44_code (11 : Nat) (Option.none : Option Jvm.ClassFile.FieldType)) ∈ lw_all := lw_g (lw_at lw_m20 133 rfl) rfl
theorem q4940 : (Jvm.Cond.constantLong "TransportPairModel$Side" (606 : Nat) (6 : Int64)) ∈ lw_all := lw_g (lw_at lw_m20 134 rfl) rfl
theorem q4941 : (Jvm.Cond.methodLink "TransportPairModel$Side" (609 : Nat) ({ cls := "TransportPairModel$Cargo", name := "add", desc := "(IJJIJ)V" } : Jvm.MethodName)) ∈ lw_all := lw_g (lw_at lw_m20 135 rfl) rfl
theorem q4942 : (Jvm.Cond.instanceMethod ({ cls := "TransportPairModel$Cargo", name := "add", desc := "(IJJIJ)V" } : Jvm.MethodName)) ∈ lw_all := lw_g (lw_at lw_m20 136 rfl) rfl
theorem q4943 : (Jvm.Cond.selects "TransportPairModel$Cargo" ({ cls := "TransportPairModel$Cargo", name := "add", desc := "(IJJIJ)V" } : Jvm.MethodName) ({ cls := "TransportPairModel$Cargo", name := "add", desc := "(IJJIJ)V" } : Jvm.MethodName)) ∈ lw_all := lw_g (lw_at lw_m20 137 rfl) rfl
theorem q4944 : (Jvm.Cond.code ({ cls := "TransportPairModel$Cargo", name := "add", desc := "(IJJIJ)V" } : Jvm.MethodName) prog_37_method_2_code (9 : Nat) (Option.none : Option Jvm.ClassFile.FieldType)) ∈ lw_all := lw_g (lw_at lw_m20 138 rfl) rfl
theorem q4945 : (Jvm.Cond.methodLink "TransportPairModel$Cargo" (31 : Nat) ({ cls := "TransportPairModel$Cargo", name := "grow", desc := "()V" } : Jvm.MethodName)) ∈ lw_all := lw_g (lw_at lw_m20 139 rfl) rfl
theorem q4947 : (Jvm.Cond.instanceMethod ({ cls := "TransportPairModel$Cargo", name := "grow", desc := "()V" } : Jvm.MethodName)) ∈ lw_all := lw_g (lw_at lw_m20 141 rfl) rfl
theorem q4948 : (Jvm.Cond.code ({ cls := "TransportPairModel$Cargo", name := "grow", desc := "()V" } : Jvm.MethodName) prog_37_method_3_code (7 : Nat) (Option.none : Option Jvm.ClassFile.FieldType)) ∈ lw_all := lw_g (lw_at lw_m20 142 rfl) rfl
theorem q4949 : (Jvm.Cond.methodLink "TransportPairModel$Side" (574 : Nat) ({ cls := "TransportPairModel$Side", name := "laysLast", desc := "(I)V" } : Jvm.MethodName)) ∈ lw_all := lw_g (lw_at lw_m20 143 rfl) rfl
theorem q4951 : (Jvm.Cond.instanceMethod ({ cls := "TransportPairModel$Side", name := "laysLast", desc := "(I)V" } : Jvm.MethodName)) ∈ lw_all := lw_g (lw_at lw_m20 145 rfl) rfl
theorem q4952 : (Jvm.Cond.code ({ cls := "TransportPairModel$Side", name := "laysLast", desc := "(I)V" } : Jvm.MethodName) prog_41_method_45_code (3 : Nat) (Option.none : Option Jvm.ClassFile.FieldType)) ∈ lw_all := lw_g (lw_at lw_m20 146 rfl) rfl
theorem q4953 : (Jvm.Cond.constantLong "TransportPairModel$Side" (613 : Nat) (30 : Int64)) ∈ lw_all := lw_g (lw_at lw_m20 147 rfl) rfl
theorem q4954 : (Jvm.Cond.constantLong "TransportPairModel$Side" (615 : Nat) (27 : Int64)) ∈ lw_all := lw_g (lw_at lw_m20 148 rfl) rfl
theorem q4955 : (Jvm.Cond.methodLink "TransportPairModel$Side" (617 : Nat) ({ cls := "TransportPairModel$Streams", name := "fills", desc := "(II)Z" } : Jvm.MethodName)) ∈ lw_all := lw_g (lw_at lw_m20 149 rfl) rfl
theorem q4956 : (Jvm.Cond.instanceMethod ({ cls := "TransportPairModel$Streams", name := "fills", desc := "(II)Z" } : Jvm.MethodName)) ∈ lw_all := lw_g (lw_at lw_m20 150 rfl) rfl
theorem q4957 : (Jvm.Cond.selects "TransportPairModel$Streams" ({ cls := "TransportPairModel$Streams", name := "fills", desc := "(II)Z" } : Jvm.MethodName) ({ cls := "TransportPairModel$Streams", name := "fills", desc := "(II)Z" } : Jvm.MethodName)) ∈ lw_all := lw_g (lw_at lw_m20 151 rfl) rfl
theorem q4958 : (Jvm.Cond.code ({ cls := "TransportPairModel$Streams", name := "fills", desc := "(II)Z" } : Jvm.MethodName) prog_42_method_50_code (5 : Nat) (Option.some Jvm.ClassFile.FieldType.boolean)) ∈ lw_all := lw_g (lw_at lw_m20 152 rfl) rfl
theorem q4959 : (Jvm.Cond.methodLink "TransportPairModel$Streams" (342 : Nat) ({ cls := "TransportPairModel$Streams", name := "fillsResets", desc := "(II)Z" } : Jvm.MethodName)) ∈ lw_all := lw_g (lw_at lw_m20 153 rfl) rfl
theorem q4961 : (Jvm.Cond.instanceMethod ({ cls := "TransportPairModel$Streams", name := "fillsResets", desc := "(II)Z" } : Jvm.MethodName)) ∈ lw_all := lw_g (lw_at lw_m20 155 rfl) rfl
theorem q4962 : (Jvm.Cond.code ({ cls := "TransportPairModel$Streams", name := "fillsResets", desc := "(II)Z" } : Jvm.MethodName) prog_42_method_43_code (5 : Nat) (Option.some Jvm.ClassFile.FieldType.boolean)) ∈ lw_all := lw_g (lw_at lw_m20 156 rfl) rfl
theorem q4963 : (Jvm.Cond.methodLink "TransportPairModel$Streams" (324 : Nat) ({ cls := "TransportPairModel$Streams", name := "lays", desc := "(IJJJI)Z" } : Jvm.MethodName)) ∈ lw_all := lw_g (lw_at lw_m20 157 rfl) rfl
theorem q4965 : (Jvm.Cond.instanceMethod ({ cls := "TransportPairModel$Streams", name := "lays", desc := "(IJJJI)Z" } : Jvm.MethodName)) ∈ lw_all := lw_g (lw_at lw_m20 159 rfl) rfl
theorem q4966 : (Jvm.Cond.code ({ cls := "TransportPairModel$Streams", name := "lays", desc := "(IJJJI)Z" } : Jvm.MethodName) prog_42_method_42_code (9 : Nat) (Option.some Jvm.ClassFile.FieldType.boolean)) ∈ lw_all := lw_g (lw_at lw_m20 160 rfl) rfl
theorem q4967 : (Jvm.Cond.methodLink "TransportPairModel$Streams" (320 : Nat) ({ cls := "TransportPairModel$Streams", name := "bytes", desc := "()I" } : Jvm.MethodName)) ∈ lw_all := lw_g (lw_at lw_m20 161 rfl) rfl
theorem q4969 : (Jvm.Cond.instanceMethod ({ cls := "TransportPairModel$Streams", name := "bytes", desc := "()I" } : Jvm.MethodName)) ∈ lw_all := lw_g (lw_at lw_m20 163 rfl) rfl
theorem q4970 : (Jvm.Cond.code ({ cls := "TransportPairModel$Streams", name := "bytes", desc := "()I" } : Jvm.MethodName) prog_42_method_41_code (2 : Nat) (Option.some Jvm.ClassFile.FieldType.int)) ∈ lw_all := lw_g (lw_at lw_m20 164 rfl) rfl
theorem q4971 : (Jvm.Cond.methodLink "TransportPairModel$Streams" (317 : Nat) ({ cls := "TransportPairModel$Wire", name := "needs", desc := "(J)I" } : Jvm.MethodName)) ∈ lw_all := lw_g (lw_at lw_m20 165 rfl) rfl
theorem q4972 : (Jvm.Cond.methodLink "TransportPairModel$Streams" (345 : Nat) ({ cls := "TransportPairModel$Streams", name := "fillsGrants", desc := "(II)Z" } : Jvm.MethodName)) ∈ lw_all := lw_g (lw_at lw_m20 166 rfl) rfl
theorem q4974 : (Jvm.Cond.instanceMethod ({ cls := "TransportPairModel$Streams", name := "fillsGrants", desc := "(II)Z" } : Jvm.MethodName)) ∈ lw_all := lw_g (lw_at lw_m20 168 rfl) rfl
theorem q4975 : (Jvm.Cond.code ({ cls := "TransportPairModel$Streams", name := "fillsGrants", desc := "(II)Z" } : Jvm.MethodName) prog_42_method_44_code (5 : Nat) (Option.some Jvm.ClassFile.FieldType.boolean)) ∈ lw_all := lw_g (lw_at lw_m20 169 rfl) rfl
theorem q4976 : (Jvm.Cond.methodLink "TransportPairModel$Streams" (348 : Nat) ({ cls := "TransportPairModel$Streams", name := "fillsBlocked", desc := "(II)Z" } : Jvm.MethodName)) ∈ lw_all := lw_g (lw_at lw_m20 170 rfl) rfl
theorem q4978 : (Jvm.Cond.instanceMethod ({ cls := "TransportPairModel$Streams", name := "fillsBlocked", desc := "(II)Z" } : Jvm.MethodName)) ∈ lw_all := lw_g (lw_at lw_m20 172 rfl) rfl
theorem q4979 : (Jvm.Cond.code ({ cls := "TransportPairModel$Streams", name := "fillsBlocked", desc := "(II)Z" } : Jvm.MethodName) prog_42_method_46_code (6 : Nat) (Option.some Jvm.ClassFile.FieldType.boolean)) ∈ lw_all := lw_g (lw_at lw_m20 173 rfl) rfl
theorem q4980 : (Jvm.Cond.methodLink "TransportPairModel$Streams" (328 : Nat) ({ cls := "TransportPairModel$Streams", name := "waits", desc := "(II)Z" } : Jvm.MethodName)) ∈ lw_all := lw_g (lw_at lw_m20 174 rfl) rfl
theorem q4982 : (Jvm.Cond.instanceMethod ({ cls := "TransportPairModel$Streams", name := "waits", desc := "(II)Z" } : Jvm.MethodName)) ∈ lw_all := lw_g (lw_at lw_m20 176 rfl) rfl
theorem q4983 : (Jvm.Cond.code ({ cls := "TransportPairModel$Streams", name := "waits", desc := "(II)Z" } : Jvm.MethodName) prog_42_method_45_code (3 : Nat) (Option.some Jvm.ClassFile.FieldType.boolean)) ∈ lw_all := lw_g (lw_at lw_m20 177 rfl) rfl
theorem q4984 : (Jvm.Cond.methodLink "TransportPairModel$Streams" (351 : Nat) ({ cls := "TransportPairModel$Streams", name := "fillsStream", desc := "(III)Z" } : Jvm.MethodName)) ∈ lw_all := lw_g (lw_at lw_m20 178 rfl) rfl
theorem q4986 : (Jvm.Cond.instanceMethod ({ cls := "TransportPairModel$Streams", name := "fillsStream", desc := "(III)Z" } : Jvm.MethodName)) ∈ lw_all := lw_g (lw_at lw_m20 180 rfl) rfl
theorem q4987 : (Jvm.Cond.code ({ cls := "TransportPairModel$Streams", name := "fillsStream", desc := "(III)Z" } : Jvm.MethodName) prog_42_method_48_code (12 : Nat) (Option.some Jvm.ClassFile.FieldType.boolean)) ∈ lw_all := lw_g (lw_at lw_m20 181 rfl) rfl
theorem q4988 : (Jvm.Cond.methodLink "TransportPairModel$Streams" (331 : Nat) ({ cls := "TransportPairModel$Streams", name := "allowed", desc := "(II)J" } : Jvm.MethodName)) ∈ lw_all := lw_g (lw_at lw_m20 182 rfl) rfl
theorem q4990 : (Jvm.Cond.instanceMethod ({ cls := "TransportPairModel$Streams", name := "allowed", desc := "(II)J" } : Jvm.MethodName)) ∈ lw_all := lw_g (lw_at lw_m20 184 rfl) rfl
theorem q4991 : (Jvm.Cond.code ({ cls := "TransportPairModel$Streams", name := "allowed", desc := "(II)J" } : Jvm.MethodName) prog_42_method_47_code (9 : Nat) (Option.some Jvm.ClassFile.FieldType.long)) ∈ lw_all := lw_g (lw_at lw_m20 185 rfl) rfl
theorem q4992 : (Jvm.Cond.methodLink "TransportPairModel$Streams" (334 : Nat) ({ cls := "TransportPairModel$Streams", name := "fillsBytes", desc := "(IIIIJI)Z" } : Jvm.MethodName)) ∈ lw_all := lw_g (lw_at lw_m20 186 rfl) rfl
theorem q4994 : (Jvm.Cond.instanceMethod ({ cls := "TransportPairModel$Streams", name := "fillsBytes", desc := "(IIIIJI)Z" } : Jvm.MethodName)) ∈ lw_all := lw_g (lw_at lw_m20 188 rfl) rfl
theorem q4995 : (Jvm.Cond.code ({ cls := "TransportPairModel$Streams", name := "fillsBytes", desc := "(IIIIJI)Z" } : Jvm.MethodName) prog_42_method_49_code (12 : Nat) (Option.some Jvm.ClassFile.FieldType.boolean)) ∈ lw_all := lw_g (lw_at lw_m20 189 rfl) rfl
theorem q4996 : (Jvm.Cond.methodLink "TransportPairModel$Side" (620 : Nat) ({ cls := "TransportPairModel$Streams", name := "writeTo", desc := "(LTransportPairModel$Draft;)V" } : Jvm.MethodName)) ∈ lw_all := lw_g (lw_at lw_m20 190 rfl) rfl
theorem q4997 : (Jvm.Cond.instanceMethod ({ cls := "TransportPairModel$Streams", name := "writeTo", desc := "(LTransportPairModel$Draft;)V" } : Jvm.MethodName)) ∈ lw_all := lw_g (lw_at lw_m20 191 rfl) rfl
theorem q4998 : (Jvm.Cond.selects "TransportPairModel$Streams" ({ cls := "TransportPairModel$Streams", name := "writeTo", desc := "(LTransportPairModel$Draft;)V" } : Jvm.MethodName) ({ cls := "TransportPairModel$Streams", name := "writeTo", desc := "(LTransportPairModel$Draft;)V" } : Jvm.MethodName)) ∈ lw_all := lw_g (lw_at lw_m20 192 rfl) rfl
theorem q4999 : (Jvm.Cond.code ({ cls := "TransportPairModel$Streams", name := "writeTo", desc := "(LTransportPairModel$Draft;)V" } : Jvm.MethodName) prog_42_method_51_code (2 : Nat) (Option.none : Option Jvm.ClassFile.FieldType)) ∈ lw_all := lw_g (lw_at lw_m20 193 rfl) rfl
theorem q5000 : (Jvm.Cond.methodLink "TransportPairModel$Streams" (355 : Nat) ({ cls := "TransportPairModel$Draft", name := "put", desc := "(JI)V" } : Jvm.MethodName)) ∈ lw_all := lw_g (lw_at lw_m20 194 rfl) rfl
theorem q5001 : (Jvm.Cond.methodLink "TransportPairModel$Streams" (361 : Nat) ({ cls := "TransportPairModel$Draft", name := "number", desc := "(J)V" } : Jvm.MethodName)) ∈ lw_all := lw_g (lw_at lw_m20 195 rfl) rfl
theorem q5002 : (Jvm.Cond.methodLink "TransportPairModel$Streams" (365 : Nat) ({ cls := "TransportPairModel$Draft", name := "bytes", desc := "([III)V" } : Jvm.MethodName)) ∈ lw_all := lw_g (lw_at lw_m20 196 rfl) rfl
theorem q5003 : (Jvm.Cond.methodLink "TransportPairModel$Side" (577 : Nat) ({ cls := "TransportPairModel$Book", name := "due", desc := "(I)Z" } : Jvm.MethodName)) ∈ lw_all := lw_g (lw_at lw_m20 197 rfl) rfl
theorem q5004 : (Jvm.Cond.instanceMethod ({ cls := "TransportPairModel$Book", name := "due", desc := "(I)Z" } : Jvm.MethodName)) ∈ lw_all := lw_g (lw_at lw_m20 198 rfl) rfl
theorem q5005 : (Jvm.Cond.selects "TransportPairModel$Book" ({ cls := "TransportPairModel$Book", name := "due", desc := "(I)Z" } : Jvm.MethodName) ({ cls := "TransportPairModel$Book", name := "due", desc := "(I)Z" } : Jvm.MethodName)) ∈ lw_all := lw_g (lw_at lw_m20 199 rfl) rfl
theorem q5006 : (Jvm.Cond.code ({ cls := "TransportPairModel$Book", name := "due", desc := "(I)Z" } : Jvm.MethodName) prog_36_method_28_code (2 : Nat) (Option.some Jvm.ClassFile.FieldType.boolean)) ∈ lw_all := lw_g (lw_at lw_m20 200 rfl) rfl
theorem q5007 : (Jvm.Cond.methodLink "TransportPairModel$Side" (506 : Nat) ({ cls := "TransportPairModel$Side", name := "cut", desc := "(I)I" } : Jvm.MethodName)) ∈ lw_all := lw_g (lw_at lw_m20 201 rfl) rfl
theorem q5009 : (Jvm.Cond.instanceMethod ({ cls := "TransportPairModel$Side", name := "cut", desc := "(I)I" } : Jvm.MethodName)) ∈ lw_all := lw_g (lw_at lw_m20 203 rfl) rfl
theorem q5010 : (Jvm.Cond.code ({ cls := "TransportPairModel$Side", name := "cut", desc := "(I)I" } : Jvm.MethodName) prog_41_method_35_code (4 : Nat) (Option.some Jvm.ClassFile.FieldType.int)) ∈ lw_all := lw_g (lw_at lw_m20 204 rfl) rfl
theorem q5011 : (Jvm.Cond.constantLong "TransportPairModel$Side" (499 : Nat) (32768 : Int64)) ∈ lw_all := lw_g (lw_at lw_m20 205 rfl) rfl
theorem q5012 : (Jvm.Cond.constantLong "TransportPairModel$Side" (501 : Nat) (8388608 : Int64)) ∈ lw_all := lw_g (lw_at lw_m20 206 rfl) rfl
theorem q5013 : (Jvm.Cond.methodLink "TransportPairModel$Side" (525 : Nat) ({ cls := "TransportPairModel$Side", name := "pad", desc := "(I)V" } : Jvm.MethodName)) ∈ lw_all := lw_g (lw_at lw_m20 207 rfl) rfl
theorem q5015 : (Jvm.Cond.instanceMethod ({ cls := "TransportPairModel$Side", name := "pad", desc := "(I)V" } : Jvm.MethodName)) ∈ lw_all := lw_g (lw_at lw_m20 209 rfl) rfl
theorem q5016 : (Jvm.Cond.code ({ cls := "TransportPairModel$Side", name := "pad", desc := "(I)V" } : Jvm.MethodName) prog_41_method_38_code (2 : Nat) (Option.none : Option Jvm.ClassFile.FieldType)) ∈ lw_all := lw_g (lw_at lw_m20 210 rfl) rfl
theorem q5017 : (Jvm.Cond.methodLink "TransportPairModel$Side" (528 : Nat) ({ cls := "TransportPairModel$Side", name := "sizeOf", desc := "(I)I" } : Jvm.MethodName)) ∈ lw_all := lw_g (lw_at lw_m20 211 rfl) rfl
theorem q5019 : (Jvm.Cond.instanceMethod ({ cls := "TransportPairModel$Side", name := "sizeOf", desc := "(I)I" } : Jvm.MethodName)) ∈ lw_all := lw_g (lw_at lw_m20 213 rfl) rfl
theorem q5020 : (Jvm.Cond.code ({ cls := "TransportPairModel$Side", name := "sizeOf", desc := "(I)I" } : Jvm.MethodName) prog_41_method_36_code (2 : Nat) (Option.some Jvm.ClassFile.FieldType.int)) ∈ lw_all := lw_g (lw_at lw_m20 214 rfl) rfl
theorem q5021 : (Jvm.Cond.methodLink "TransportPairModel$Side" (531 : Nat) ({ cls := "TransportPairModel$Side", name := "sendsPacket", desc := "(I)V" } : Jvm.MethodName)) ∈ lw_all := lw_g (lw_at lw_m20 215 rfl) rfl
theorem q5023 : (Jvm.Cond.instanceMethod ({ cls := "TransportPairModel$Side", name := "sendsPacket", desc := "(I)V" } : Jvm.MethodName)) ∈ lw_all := lw_g (lw_at lw_m20 217 rfl) rfl
theorem q5024 : (Jvm.Cond.code ({ cls := "TransportPairModel$Side", name := "sendsPacket", desc := "(I)V" } : Jvm.MethodName) prog_41_method_39_code (8 : Nat) (Option.none : Option Jvm.ClassFile.FieldType)) ∈ lw_all := lw_g (lw_at lw_m20 218 rfl) rfl
theorem q5025 : (Jvm.Cond.methodLink "TransportPairModel$Side" (541 : Nat) ({ cls := "TransportPairModel$Draft", name := "sized", desc := "(JI)V" } : Jvm.MethodName)) ∈ lw_all := lw_g (lw_at lw_m20 219 rfl) rfl
theorem q5026 : (Jvm.Cond.methodLink "TransportPairModel$Side" (545 : Nat) ({ cls := "TransportPairModel$Seals", name := "seal", desc := "([IIJ[IIII)V" } : Jvm.MethodName)) ∈ lw_all := lw_g (lw_at lw_m20 220 rfl) rfl
theorem q5027 : (Jvm.Cond.instanceMethod ({ cls := "TransportPairModel$Seals", name := "seal", desc := "([IIJ[IIII)V" } : Jvm.MethodName)) ∈ lw_all := lw_g (lw_at lw_m20 221 rfl) rfl
theorem q5028 : (Jvm.Cond.selects "TransportPairModel$Seals" ({ cls := "TransportPairModel$Seals", name := "seal", desc := "([IIJ[IIII)V" } : Jvm.MethodName) ({ cls := "TransportPairModel$Seals", name := "seal", desc := "([IIJ[IIII)V" } : Jvm.MethodName)) ∈ lw_all := lw_g (lw_at lw_m20 222 rfl) rfl
theorem q5029 : (Jvm.Cond.code ({ cls := "TransportPairModel$Seals", name := "seal", desc := "([IIJ[IIII)V" } : Jvm.MethodName) prog_40_method_28_code (10 : Nat) (Option.none : Option Jvm.ClassFile.FieldType)) ∈ lw_all := lw_g (lw_at lw_m20 223 rfl) rfl
theorem q5030 : (Jvm.Cond.methodLink "TransportPairModel$Side" (549 : Nat) ({ cls := "TransportPairModel$Book", name := "send", desc := "(IIZZ)I" } : Jvm.MethodName)) ∈ lw_all := lw_g (lw_at lw_m20 224 rfl) rfl
theorem q5031 : (Jvm.Cond.instanceMethod ({ cls := "TransportPairModel$Book", name := "send", desc := "(IIZZ)I" } : Jvm.MethodName)) ∈ lw_all := lw_g (lw_at lw_m20 225 rfl) rfl
theorem q5032 : (Jvm.Cond.selects "TransportPairModel$Book" ({ cls := "TransportPairModel$Book", name := "send", desc := "(IIZZ)I" } : Jvm.MethodName) ({ cls := "TransportPairModel$Book", name := "send", desc := "(IIZZ)I" } : Jvm.MethodName)) ∈ lw_all := lw_g (lw_at lw_m20 226 rfl) rfl
theorem q5033 : (Jvm.Cond.code ({ cls := "TransportPairModel$Book", name := "send", desc := "(IIZZ)I" } : Jvm.MethodName) prog_36_method_11_code (7 : Nat) (Option.some Jvm.ClassFile.FieldType.int)) ∈ lw_all := lw_g (lw_at lw_m20 227 rfl) rfl
theorem q5034 : (Jvm.Cond.methodLink "TransportPairModel$Book" (149 : Nat) ({ cls := "TransportPairModel$Book", name := "flight", desc := "()I" } : Jvm.MethodName)) ∈ lw_all := lw_g (lw_at lw_m20 228 rfl) rfl
theorem q5035 : (Jvm.Cond.methodLink "TransportPairModel$Side" (553 : Nat) ({ cls := "TransportPairModel$Book", name := "written", desc := "(I)V" } : Jvm.MethodName)) ∈ lw_all := lw_g (lw_at lw_m20 229 rfl) rfl
theorem q5036 : (Jvm.Cond.instanceMethod ({ cls := "TransportPairModel$Book", name := "written", desc := "(I)V" } : Jvm.MethodName)) ∈ lw_all := lw_g (lw_at lw_m20 230 rfl) rfl
theorem q5037 : (Jvm.Cond.selects "TransportPairModel$Book" ({ cls := "TransportPairModel$Book", name := "written", desc := "(I)V" } : Jvm.MethodName) ({ cls := "TransportPairModel$Book", name := "written", desc := "(I)V" } : Jvm.MethodName)) ∈ lw_all := lw_g (lw_at lw_m20 231 rfl) rfl
theorem q5038 : (Jvm.Cond.code ({ cls := "TransportPairModel$Book", name := "written", desc := "(I)V" } : Jvm.MethodName) prog_36_method_30_code (2 : Nat) (Option.none : Option Jvm.ClassFile.FieldType)) ∈ lw_all := lw_g (lw_at lw_m20 232 rfl) rfl
theorem q5039 : (Jvm.Cond.methodLink "TransportPairLaw" (196 : Nat) ({ cls := "TransportPairModel", name := "line", desc := "(II)I" } : Jvm.MethodName)) ∈ lw_all := lw_g (lw_at lw_m20 233 rfl) rfl
theorem q5040 : (Jvm.Cond.instanceMethod ({ cls := "TransportPairModel", name := "line", desc := "(II)I" } : Jvm.MethodName)) ∈ lw_all := lw_g (lw_at lw_m20 234 rfl) rfl
theorem q5041 : (Jvm.Cond.selects "TransportPairModel" ({ cls := "TransportPairModel", name := "line", desc := "(II)I" } : Jvm.MethodName) ({ cls := "TransportPairModel", name := "line", desc := "(II)I" } : Jvm.MethodName)) ∈ lw_all := lw_g (lw_at lw_m20 235 rfl) rfl
theorem q5042 : (Jvm.Cond.code ({ cls := "TransportPairModel", name := "line", desc := "(II)I" } : Jvm.MethodName) prog_35_method_38_code (3 : Nat) (Option.some Jvm.ClassFile.FieldType.int)) ∈ lw_all := lw_g (lw_at lw_m20 236 rfl) rfl
theorem q5043 : (Jvm.Cond.methodLink "TransportPairLaw" (199 : Nat) ({ cls := "TransportPairModel", name := "at", desc := "(III)I" } : Jvm.MethodName)) ∈ lw_all := lw_g (lw_at lw_m20 237 rfl) rfl
theorem q5044 : (Jvm.Cond.instanceMethod ({ cls := "TransportPairModel", name := "at", desc := "(III)I" } : Jvm.MethodName)) ∈ lw_all := lw_g (lw_at lw_m20 238 rfl) rfl
theorem q5045 : (Jvm.Cond.selects "TransportPairModel" ({ cls := "TransportPairModel", name := "at", desc := "(III)I" } : Jvm.MethodName) ({ cls := "TransportPairModel", name := "at", desc := "(III)I" } : Jvm.MethodName)) ∈ lw_all := lw_g (lw_at lw_m20 239 rfl) rfl
theorem q5046 : (Jvm.Cond.code ({ cls := "TransportPairModel", name := "at", desc := "(III)I" } : Jvm.MethodName) prog_35_method_39_code (5 : Nat) (Option.some Jvm.ClassFile.FieldType.int)) ∈ lw_all := lw_g (lw_at lw_m21 0 rfl) rfl
theorem q5047 : (Jvm.Cond.methodLink "TransportPairLaw" (202 : Nat) ({ cls := "TransportPairModel", name := "look", desc := "(II)I" } : Jvm.MethodName)) ∈ lw_all := lw_g (lw_at lw_m21 1 rfl) rfl
theorem q5048 : (Jvm.Cond.instanceMethod ({ cls := "TransportPairModel", name := "look", desc := "(II)I" } : Jvm.MethodName)) ∈ lw_all := lw_g (lw_at lw_m21 2 rfl) rfl
theorem q5049 : (Jvm.Cond.selects "TransportPairModel" ({ cls := "TransportPairModel", name := "look", desc := "(II)I" } : Jvm.MethodName) ({ cls := "TransportPairModel", name := "look", desc := "(II)I" } : Jvm.MethodName)) ∈ lw_all := lw_g (lw_at lw_m21 3 rfl) rfl
theorem q5050 : (Jvm.Cond.code ({ cls := "TransportPairModel", name := "look", desc := "(II)I" } : Jvm.MethodName) prog_35_method_40_code (4 : Nat) (Option.some Jvm.ClassFile.FieldType.int)) ∈ lw_all := lw_g (lw_at lw_m21 4 rfl) rfl
theorem q5051 : (Jvm.Cond.methodLink "TransportPairLaw" (205 : Nat) ({ cls := "TransportPairModel", name := "book", desc := "(II)I" } : Jvm.MethodName)) ∈ lw_all := lw_g (lw_at lw_m21 5 rfl) rfl
theorem q5052 : (Jvm.Cond.instanceMethod ({ cls := "TransportPairModel", name := "book", desc := "(II)I" } : Jvm.MethodName)) ∈ lw_all := lw_g (lw_at lw_m21 6 rfl) rfl
theorem q5053 : (Jvm.Cond.selects "TransportPairModel" ({ cls := "TransportPairModel", name := "book", desc := "(II)I" } : Jvm.MethodName) ({ cls := "TransportPairModel", name := "book", desc := "(II)I" } : Jvm.MethodName)) ∈ lw_all := lw_g (lw_at lw_m21 7 rfl) rfl
theorem q5054 : (Jvm.Cond.code ({ cls := "TransportPairModel", name := "book", desc := "(II)I" } : Jvm.MethodName) prog_35_method_41_code (3 : Nat) (Option.some Jvm.ClassFile.FieldType.int)) ∈ lw_all := lw_g (lw_at lw_m21 8 rfl) rfl
theorem q5055 : (Jvm.Cond.methodLink "TransportPairModel" (311 : Nat) ({ cls := "TransportPairModel$Book", name := "look", desc := "(I)I" } : Jvm.MethodName)) ∈ lw_all := lw_g (lw_at lw_m21 9 rfl) rfl
theorem q5056 : (Jvm.Cond.instanceMethod ({ cls := "TransportPairModel$Book", name := "look", desc := "(I)I" } : Jvm.MethodName)) ∈ lw_all := lw_g (lw_at lw_m21 10 rfl) rfl
theorem q5057 : (Jvm.Cond.selects "TransportPairModel$Book" ({ cls := "TransportPairModel$Book", name := "look", desc := "(I)I" } : Jvm.MethodName) ({ cls := "TransportPairModel$Book", name := "look", desc := "(I)I" } : Jvm.MethodName)) ∈ lw_all := lw_g (lw_at lw_m21 11 rfl) rfl
theorem q5058 : (Jvm.Cond.code ({ cls := "TransportPairModel$Book", name := "look", desc := "(I)I" } : Jvm.MethodName) prog_36_method_32_code (2 : Nat) (Option.some Jvm.ClassFile.FieldType.int)) ∈ lw_all := lw_g (lw_at lw_m21 12 rfl) rfl
theorem q5059 : (Jvm.Cond.methodLink "TransportPairLaw" (208 : Nat) ({ cls := "TransportPairModel", name := "space", desc := "(III)J" } : Jvm.MethodName)) ∈ lw_all := lw_g (lw_at lw_m21 13 rfl) rfl
theorem q5060 : (Jvm.Cond.instanceMethod ({ cls := "TransportPairModel", name := "space", desc := "(III)J" } : Jvm.MethodName)) ∈ lw_all := lw_g (lw_at lw_m21 14 rfl) rfl
theorem q5061 : (Jvm.Cond.selects "TransportPairModel" ({ cls := "TransportPairModel", name := "space", desc := "(III)J" } : Jvm.MethodName) ({ cls := "TransportPairModel", name := "space", desc := "(III)J" } : Jvm.MethodName)) ∈ lw_all := lw_g (lw_at lw_m21 15 rfl) rfl
theorem q5062 : (Jvm.Cond.code ({ cls := "TransportPairModel", name := "space", desc := "(III)J" } : Jvm.MethodName) prog_35_method_42_code (4 : Nat) (Option.some Jvm.ClassFile.FieldType.long)) ∈ lw_all := lw_g (lw_at lw_m21 16 rfl) rfl
theorem q5063 : (Jvm.Cond.methodLink "TransportPairModel" (314 : Nat) ({ cls := "TransportPairModel$Side", name := "hasGuards", desc := "(I)Z" } : Jvm.MethodName)) ∈ lw_all := lw_g (lw_at lw_m21 17 rfl) rfl
theorem q5064 : (Jvm.Cond.methodLink "TransportPairModel" (317 : Nat) ({ cls := "TransportPairModel$Book", name := "space", desc := "(II)J" } : Jvm.MethodName)) ∈ lw_all := lw_g (lw_at lw_m21 18 rfl) rfl
theorem q5065 : (Jvm.Cond.instanceMethod ({ cls := "TransportPairModel$Book", name := "space", desc := "(II)J" } : Jvm.MethodName)) ∈ lw_all := lw_g (lw_at lw_m21 19 rfl) rfl
theorem q5066 : (Jvm.Cond.selects "TransportPairModel$Book" ({ cls := "TransportPairModel$Book", name := "space", desc := "(II)J" } : Jvm.MethodName) ({ cls := "TransportPairModel$Book", name := "space", desc := "(II)J" } : Jvm.MethodName)) ∈ lw_all := lw_g (lw_at lw_m21 20 rfl) rfl
theorem q5067 : (Jvm.Cond.code ({ cls := "TransportPairModel$Book", name := "space", desc := "(II)J" } : Jvm.MethodName) prog_36_method_33_code (3 : Nat) (Option.some Jvm.ClassFile.FieldType.long)) ∈ lw_all := lw_g (lw_at lw_m21 21 rfl) rfl
theorem q5068 : (Jvm.Cond.methodLink "TransportPairModel$Book" (203 : Nat) ({ cls := "TransportPairModel$Book", name := "outs", desc := "(IZ)I" } : Jvm.MethodName)) ∈ lw_all := lw_g (lw_at lw_m21 22 rfl) rfl
theorem q5069 : (Jvm.Cond.instanceMethod ({ cls := "TransportPairModel$Book", name := "outs", desc := "(IZ)I" } : Jvm.MethodName)) ∈ lw_all := lw_g (lw_at lw_m21 23 rfl) rfl
theorem q5070 : (Jvm.Cond.selects "TransportPairModel$Book" ({ cls := "TransportPairModel$Book", name := "outs", desc := "(IZ)I" } : Jvm.MethodName) ({ cls := "TransportPairModel$Book", name := "outs", desc := "(IZ)I" } : Jvm.MethodName)) ∈ lw_all := lw_g (lw_at lw_m21 24 rfl) rfl
theorem q5071 : (Jvm.Cond.code ({ cls := "TransportPairModel$Book", name := "outs", desc := "(IZ)I" } : Jvm.MethodName) prog_36_method_5_code (5 : Nat) (Option.some Jvm.ClassFile.FieldType.int)) ∈ lw_all := lw_g (lw_at lw_m21 25 rfl) rfl
theorem q5072 : (Jvm.Cond.methodLink "TransportPairLaw" (211 : Nat) ({ cls := "TransportPairModel", name := "stream", desc := "(III)J" } : Jvm.MethodName)) ∈ lw_all := lw_g (lw_at lw_m21 26 rfl) rfl
theorem q5073 : (Jvm.Cond.instanceMethod ({ cls := "TransportPairModel", name := "stream", desc := "(III)J" } : Jvm.MethodName)) ∈ lw_all := lw_g (lw_at lw_m21 27 rfl) rfl
theorem q5074 : (Jvm.Cond.selects "TransportPairModel" ({ cls := "TransportPairModel", name := "stream", desc := "(III)J" } : Jvm.MethodName) ({ cls := "TransportPairModel", name := "stream", desc := "(III)J" } : Jvm.MethodName)) ∈ lw_all := lw_g (lw_at lw_m21 28 rfl) rfl
theorem q5075 : (Jvm.Cond.code ({ cls := "TransportPairModel", name := "stream", desc := "(III)J" } : Jvm.MethodName) prog_35_method_43_code (4 : Nat) (Option.some Jvm.ClassFile.FieldType.long)) ∈ lw_all := lw_g (lw_at lw_m21 29 rfl) rfl
theorem q5076 : (Jvm.Cond.methodLink "TransportPairModel" (321 : Nat) ({ cls := "TransportPairModel$Streams", name := "look", desc := "(III)J" } : Jvm.MethodName)) ∈ lw_all := lw_g (lw_at lw_m21 30 rfl) rfl
theorem q5077 : (Jvm.Cond.instanceMethod ({ cls := "TransportPairModel$Streams", name := "look", desc := "(III)J" } : Jvm.MethodName)) ∈ lw_all := lw_g (lw_at lw_m21 31 rfl) rfl
theorem q5078 : (Jvm.Cond.selects "TransportPairModel$Streams" ({ cls := "TransportPairModel$Streams", name := "look", desc := "(III)J" } : Jvm.MethodName) ({ cls := "TransportPairModel$Streams", name := "look", desc := "(III)J" } : Jvm.MethodName)) ∈ lw_all := lw_g (lw_at lw_m21 32 rfl) rfl
theorem q5079 : (Jvm.Cond.code ({ cls := "TransportPairModel$Streams", name := "look", desc := "(III)J" } : Jvm.MethodName) prog_42_method_54_code (5 : Nat) (Option.some Jvm.ClassFile.FieldType.long)) ∈ lw_all := lw_g (lw_at lw_m21 33 rfl) rfl
theorem q5080 : (Jvm.Cond.methodLink "TransportPairLaw" (214 : Nat) ({ cls := "TransportPairModel", name := "streams", desc := "(II)J" } : Jvm.MethodName)) ∈ lw_all := lw_g (lw_at lw_m21 34 rfl) rfl
theorem q5081 : (Jvm.Cond.instanceMethod ({ cls := "TransportPairModel", name := "streams", desc := "(II)J" } : Jvm.MethodName)) ∈ lw_all := lw_g (lw_at lw_m21 35 rfl) rfl
theorem q5082 : (Jvm.Cond.selects "TransportPairModel" ({ cls := "TransportPairModel", name := "streams", desc := "(II)J" } : Jvm.MethodName) ({ cls := "TransportPairModel", name := "streams", desc := "(II)J" } : Jvm.MethodName)) ∈ lw_all := lw_g (lw_at lw_m21 36 rfl) rfl
theorem q5083 : (Jvm.Cond.code ({ cls := "TransportPairModel", name := "streams", desc := "(II)J" } : Jvm.MethodName) prog_35_method_44_code (3 : Nat) (Option.some Jvm.ClassFile.FieldType.long)) ∈ lw_all := lw_g (lw_at lw_m21 37 rfl) rfl
theorem q5084 : (Jvm.Cond.methodLink "TransportPairModel" (324 : Nat) ({ cls := "TransportPairModel$Streams", name := "look", desc := "(II)J" } : Jvm.MethodName)) ∈ lw_all := lw_g (lw_at lw_m21 38 rfl) rfl
theorem q5085 : (Jvm.Cond.instanceMethod ({ cls := "TransportPairModel$Streams", name := "look", desc := "(II)J" } : Jvm.MethodName)) ∈ lw_all := lw_g (lw_at lw_m21 39 rfl) rfl
theorem q5086 : (Jvm.Cond.selects "TransportPairModel$Streams" ({ cls := "TransportPairModel$Streams", name := "look", desc := "(II)J" } : Jvm.MethodName) ({ cls := "TransportPairModel$Streams", name := "look", desc := "(II)J" } : Jvm.MethodName)) ∈ lw_all := lw_g (lw_at lw_m21 40 rfl) rfl
theorem q5087 : (Jvm.Cond.code ({ cls := "TransportPairModel$Streams", name := "look", desc := "(II)J" } : Jvm.MethodName) prog_42_method_55_code (3 : Nat) (Option.some Jvm.ClassFile.FieldType.long)) ∈ lw_all := lw_g (lw_at lw_m21 41 rfl) rfl
theorem q5089 : (Jvm.Cond.fieldLinkNest "TransportPair$Stretch" (51 : Nat) "TransportPair$Label" "text" "Ljava/lang/String;" "TransportPair") ∈ lw_tbl := lw_at lw_m21 43 rfl
theorem q5090 : (Jvm.Cond.fieldLink "java/lang/String" (9 : Nat) "java/lang/String" "value" "[B") ∈ lw_all := lw_g (lw_at lw_m21 44 rfl) rfl
theorem q5091 : (Jvm.Cond.fieldLink "java/lang/String" (15 : Nat) "java/lang/String" "coder" "B") ∈ lw_all := lw_g (lw_at lw_m21 45 rfl) rfl
