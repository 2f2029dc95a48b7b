/-! links (gen/build.py) -/
set_option maxRecDepth 100000
theorem mc_cP_word : MC y_cP_word c_cP_word 2 (some .int) 2 := ⟨q2318, q247, by decide +kernel⟩
theorem mc_cP_sizeOf : MC y_cP_sizeOf c_cP_sizeOf 2 (some .int) 1 := ⟨q3067, q247, by decide +kernel⟩
theorem mc_cHash_init : MC y_cHash_init c_cHash_init 1 none 0 := ⟨q343, q252, by decide +kernel⟩
theorem mc_cMac_init : MC y_cMac_init c_cMac_init 1 none 0 := ⟨q337, q251, by decide +kernel⟩
theorem mc_cStretch_init : MC y_cStretch_init c_cStretch_init 1 none 0 := ⟨q331, q250, by decide +kernel⟩
theorem mc_cKeystream_init : MC y_cKeystream_init c_cKeystream_init 1 none 0 := ⟨q394, q253, by decide +kernel⟩
theorem mc_cTally_init : MC y_cTally_init c_cTally_init 1 none 0 := ⟨q411, q254, by decide +kernel⟩
theorem mc_cBench_init : MC y_cBench_init c_cBench_init 1 none 0 := ⟨q325, q249, by decide +kernel⟩
theorem mc_cGuard_init : MC y_cGuard_init c_cGuard_init 1 none 0 := ⟨q470, q255, by decide +kernel⟩
theorem mc_cCrypto_init : MC y_cCrypto_init c_cCrypto_init 1 none 0 := ⟨q496, q256, by decide +kernel⟩
theorem mc_cTrip_init : MC y_cTrip_init c_cTrip_init 1 none 0 := ⟨q529, q258, by decide +kernel⟩
theorem mc_cWindow_init : MC y_cWindow_init c_cWindow_init 1 none 0 := ⟨q556, q259, by decide +kernel⟩
theorem mc_cQueue_init : MC y_cQueue_init c_cQueue_init 1 none 0 := ⟨q585, q261, by decide +kernel⟩
theorem mc_cRanges_init : MC y_cRanges_init c_cRanges_init 1 none 0 := ⟨q602, q262, by decide +kernel⟩
theorem mc_cSpace_init : MC y_cSpace_init c_cSpace_init 1 none 0 := ⟨q579, q260, by decide +kernel⟩
theorem mc_cBook_init : MC y_cBook_init c_cBook_init 2 none 0 := ⟨q521, q257, by decide +kernel⟩
theorem mc_cCargo_init : MC y_cCargo_init c_cCargo_init 1 none 0 := ⟨q752, q263, by decide +kernel⟩
theorem mc_cParameters_isBytes : MC y_cParameters_isBytes c_cParameters_isBytes 1 (some .boolean) 1 := ⟨q800, q264, by decide +kernel⟩
theorem mc_cParameters_forget : MC y_cParameters_forget c_cParameters_forget 2 none 0 := ⟨q797, q264, by decide +kernel⟩
theorem mc_cParameters_init : MC y_cParameters_init c_cParameters_init 1 none 0 := ⟨q792, q264, by decide +kernel⟩
theorem mc_cBytes_init : MC y_cBytes_init c_cBytes_init 1 none 0 := ⟨q828, q265, by decide +kernel⟩
theorem mc_cHeader_init : MC y_cHeader_init c_cHeader_init 1 none 0 := ⟨q859, q266, by decide +kernel⟩
theorem mc_cFrame_init : MC y_cFrame_init c_cFrame_init 1 none 0 := ⟨q913, q267, by decide +kernel⟩
theorem mc_cRow_init : MC y_cRow_init c_cRow_init 1 none 0 := ⟨q995, q269, by decide +kernel⟩
theorem mc_cGreeting_init : MC y_cGreeting_init c_cGreeting_init 2 none 1 := ⟨q985, q268, by decide +kernel⟩
theorem mc_cWay_init : MC y_cWay_init c_cWay_init 1 none 0 := ⟨q1109, q271, by decide +kernel⟩
theorem mc_cSpans_init : MC y_cSpans_init c_cSpans_init 1 none 0 := ⟨q1140, q272, by decide +kernel⟩
theorem mc_cStore_init : MC y_cStore_init c_cStore_init 1 none 0 := ⟨q1165, q273, by decide +kernel⟩
theorem mc_cBlocks_init : MC y_cBlocks_init c_cBlocks_init 1 none 0 := ⟨q1192, q274, by decide +kernel⟩
theorem mc_cHall_init : MC y_cHall_init c_cHall_init 2 none 1 := ⟨q1098, q270, by decide +kernel⟩
theorem mc_cHall_grants : MC y_cHall_grants c_cHall_grants 7 none 6 := ⟨q1298, q270, by decide +kernel⟩
theorem mc_cSide_grants : MC y_cSide_grants c_cSide_grants 1 none 0 := ⟨q1294, q248, by decide +kernel⟩
theorem mc_cSide_init : MC y_cSide_init c_cSide_init 3 none 1 := ⟨q319, q248, by decide +kernel⟩
theorem mc_cLine_init : MC y_cLine_init c_cLine_init 1 none 0 := ⟨q1460, q275, by decide +kernel⟩
theorem mc_cP_init : MC y_cP_init c_cP_init 1 none 0 := ⟨q309, q247, by decide +kernel⟩
theorem mc_cP_need : MC y_cP_need c_cP_need 1 none 1 := ⟨q1608, q247, by decide +kernel⟩
theorem mc_cP_ready : MC y_cP_ready c_cP_ready 1 none 1 := ⟨q1531, q247, by decide +kernel⟩
theorem mc_cP_there : MC y_cP_there c_cP_there 1 none 1 := ⟨q2178, q247, by decide +kernel⟩
theorem mc_cP_in : MC y_cP_in c_cP_in 6 (some .boolean) 3 := ⟨q1605, q247, by decide +kernel⟩
theorem mc_cP_of : MC y_cP_of c_cP_of 2 (some (.object "TransportPair$Side")) 1 := ⟨q1638, q247, by decide +kernel⟩
theorem mc_cP_on : MC y_cP_on c_cP_on 3 (some (.object "TransportPair$Line")) 2 := ⟨q2240, q247, by decide +kernel⟩
theorem mc_cP_used : MC y_cP_used c_cP_used 2 (some .int) 0 := ⟨q1642, q247, by decide +kernel⟩
theorem mc_cP_feed : MC y_cP_feed c_cP_feed 8 (some .int) 5 := ⟨q1528, q247, by decide +kernel⟩
theorem mc_cP_end : MC y_cP_end c_cP_end 3 (some .int) 1 := ⟨q1602, q247, by decide +kernel⟩
theorem mc_cP_told : MC y_cP_told c_cP_told 4 none 2 := ⟨q1634, q247, by decide +kernel⟩
theorem mc_cP_key : MC y_cP_key c_cP_key 2 none 1 := ⟨q1630, q247, by decide +kernel⟩
theorem mc_cP_random : MC y_cP_random c_cP_random 2 none 1 := ⟨q1652, q247, by decide +kernel⟩
theorem mc_cP_parameter : MC y_cP_parameter c_cP_parameter 5 none 3 := ⟨q1659, q247, by decide +kernel⟩
theorem mc_cHash_begin : MC y_cHash_begin c_cHash_begin 1 none 0 := ⟨q1697, q252, by decide +kernel⟩
theorem mc_jInteger_rotateRight : MC y_jInteger_rotateRight c_jInteger_rotateRight 2 (some .int) 2 := ⟨q1719, q291, by decide +kernel⟩
theorem mc_cHash_spread : MC y_cHash_spread c_cHash_spread 6 none 0 := ⟨q1716, q252, by decide +kernel⟩
theorem mc_cHash_work : MC y_cHash_work c_cHash_work 12 none 0 := ⟨q1712, q252, by decide +kernel⟩
theorem mc_cHash_addByte : MC y_cHash_addByte c_cHash_addByte 2 none 1 := ⟨q1708, q252, by decide +kernel⟩
theorem mc_cHash_add : MC y_cHash_add c_cHash_add 5 none 3 := ⟨q1704, q252, by decide +kernel⟩
theorem mc_cHash_end : MC y_cHash_end c_cHash_end 4 none 2 := ⟨q1725, q252, by decide +kernel⟩
theorem mc_cMac_turn : MC y_cMac_turn c_cMac_turn 3 none 1 := ⟨q1730, q251, by decide +kernel⟩
theorem mc_cMac_begin : MC y_cMac_begin c_cMac_begin 4 none 2 := ⟨q1693, q251, by decide +kernel⟩
theorem mc_cMac_add : MC y_cMac_add c_cMac_add 4 none 3 := ⟨q1734, q251, by decide +kernel⟩
theorem mc_cMac_end : MC y_cMac_end c_cMac_end 3 none 2 := ⟨q1738, q251, by decide +kernel⟩
theorem mc_cGreeting_mac : MC y_cGreeting_mac c_cGreeting_mac 7 none 6 := ⟨q1689, q268, by decide +kernel⟩
theorem mc_jString_coder : MC y_jString_coder c_jString_coder 1 (some .byte) 0 := ⟨q1759, q294, by decide +kernel⟩
theorem mc_jString_length : MC y_jString_length c_jString_length 1 (some .int) 0 := ⟨q1755, q294, by decide +kernel⟩
theorem mc_jString_isLatin1 : MC y_jString_isLatin1 c_jString_isLatin1 1 (some .boolean) 0 := ⟨q1769, q294, by decide +kernel⟩
theorem mc_jPreconditions_checkIndex : MC y_jPreconditions_checkIndex c_jPreconditions_checkIndex 3 (some .int) 3 := ⟨q1780, q296, by decide +kernel⟩
theorem mc_jString_checkIndex : MC y_jString_checkIndex c_jString_checkIndex 2 none 2 := ⟨q1775, q294, by decide +kernel⟩
theorem mc_jStringLatin1_charAt : MC y_jStringLatin1_charAt c_jStringLatin1_charAt 2 (some .char) 2 := ⟨q1772, q295, by decide +kernel⟩
theorem mc_jString_charAt : MC y_jString_charAt c_jString_charAt 2 (some .char) 1 := ⟨q1765, q294, by decide +kernel⟩
theorem mc_cStretch_stretch : MC y_cStretch_stretch c_cStretch_stretch 10 none 6 := ⟨q1804, q250, by decide +kernel⟩
theorem mc_cStretch_label : MC y_cStretch_label c_cStretch_label 10 none 7 := ⟨q1751, q250, by decide +kernel⟩
theorem mc_cGreeting_secrets : MC y_cGreeting_secrets c_cGreeting_secrets 7 none 6 := ⟨q1747, q268, by decide +kernel⟩
theorem mc_cGreeting_first : MC y_cGreeting_first c_cGreeting_first 5 none 3 := ⟨q1685, q268, by decide +kernel⟩
theorem mc_cGuard_makeKeys : MC y_cGuard_makeKeys c_cGuard_makeKeys 2 none 1 := ⟨q1823, q255, by decide +kernel⟩
theorem mc_cGuard_arm : MC y_cGuard_arm c_cGuard_arm 3 none 2 := ⟨q1818, q255, by decide +kernel⟩
theorem mc_cSide_arm : MC y_cSide_arm c_cSide_arm 2 none 1 := ⟨q1814, q248, by decide +kernel⟩
theorem mc_cSide_name : MC y_cSide_name c_cSide_name 3 none 2 := ⟨q1680, q248, by decide +kernel⟩
theorem mc_cBytes_over : MC y_cBytes_over c_cBytes_over 4 none 3 := ⟨q1838, q265, by decide +kernel⟩
theorem mc_cBytes_sizeOf : MC y_cBytes_sizeOf c_cBytes_sizeOf 2 (some .int) 1 := ⟨q1849, q265, by decide +kernel⟩
theorem mc_cBytes_step : MC y_cBytes_step c_cBytes_step 2 (some .boolean) 1 := ⟨q1864, q265, by decide +kernel⟩
theorem mc_cBytes_putMany : MC y_cBytes_putMany c_cBytes_putMany 5 none 2 := ⟨q1860, q265, by decide +kernel⟩
theorem mc_cBytes_putSized : MC y_cBytes_putSized c_cBytes_putSized 5 none 2 := ⟨q1856, q265, by decide +kernel⟩
theorem mc_cBytes_putNumber : MC y_cBytes_putNumber c_cBytes_putNumber 3 none 1 := ⟨q1846, q265, by decide +kernel⟩
theorem mc_cBytes_putRow : MC y_cBytes_putRow c_cBytes_putRow 5 none 3 := ⟨q1869, q265, by decide +kernel⟩
theorem mc_cSide_put_II : MC y_cSide_put_II c_cSide_put_II 3 none 2 := ⟨q1842, q248, by decide +kernel⟩
theorem mc_cSide_tell : MC y_cSide_tell c_cSide_tell 4 none 0 := ⟨q1834, q248, by decide +kernel⟩
theorem mc_cRow_put : MC y_cRow_put c_cRow_put 2 none 1 := ⟨q1885, q269, by decide +kernel⟩
theorem mc_cRow_add : MC y_cRow_add c_cRow_add 4 none 3 := ⟨q1889, q269, by decide +kernel⟩
theorem mc_cGreeting_sends : MC y_cGreeting_sends c_cGreeting_sends 9 none 6 := ⟨q1881, q268, by decide +kernel⟩
theorem mc_cGreeting_begin : MC y_cGreeting_begin c_cGreeting_begin 1 none 0 := ⟨q1877, q268, by decide +kernel⟩
theorem mc_cSide_begin : MC y_cSide_begin c_cSide_begin 1 none 0 := ⟨q1676, q248, by decide +kernel⟩
theorem mc_cP_begin : MC y_cP_begin c_cP_begin 1 none 0 := ⟨q1672, q247, by decide +kernel⟩
theorem mc_cHall_isOneWay : MC y_cHall_isOneWay c_cHall_isOneWay 2 (some .boolean) 1 := ⟨q1908, q270, by decide +kernel⟩
theorem mc_cHall_isOwn : MC y_cHall_isOwn c_cHall_isOwn 3 (some .boolean) 1 := ⟨q1913, q270, by decide +kernel⟩
theorem mc_cHall_rule : MC y_cHall_rule c_cHall_rule 4 (some .int) 2 := ⟨q1918, q270, by decide +kernel⟩
theorem mc_cSending_init : MC y_cSending_init c_cSending_init 3 none 1 := ⟨q1921, q299, by decide +kernel⟩
theorem mc_cReceiving_init : MC y_cReceiving_init c_cReceiving_init 2 none 1 := ⟨q1974, q300, by decide +kernel⟩
theorem mc_cHall_begin : MC y_cHall_begin c_cHall_begin 2 none 1 := ⟨q1905, q270, by decide +kernel⟩
theorem mc_cHall_open : MC y_cHall_open c_cHall_open 4 (some .int) 1 := ⟨q1901, q270, by decide +kernel⟩
theorem mc_cP_open : MC y_cP_open c_cP_open 3 (some .int) 2 := ⟨q1897, q247, by decide +kernel⟩
theorem mc_cHall_sending : MC y_cHall_sending c_cHall_sending 2 (some (.object "TransportPair$Sending")) 1 := ⟨q2039, q270, by decide +kernel⟩
theorem mc_jArrays_copyOf_AII : MC y_jArrays_copyOf_AII c_jArrays_copyOf_AII 3 (some (.array (.int))) 2 := ⟨q2051, q301, by decide +kernel⟩
theorem mc_cStore_piece : MC y_cStore_piece c_cStore_piece 1 (some .int) 0 := ⟨q2048, q273, by decide +kernel⟩
theorem mc_cStore_add : MC y_cStore_add c_cStore_add 7 (some .int) 4 := ⟨q2043, q273, by decide +kernel⟩
theorem mc_cHall_write : MC y_cHall_write c_cHall_write 6 (some .int) 4 := ⟨q2035, q270, by decide +kernel⟩
theorem mc_cP_write : MC y_cP_write c_cP_write 4 (some .int) 2 := ⟨q2031, q247, by decide +kernel⟩
theorem mc_cHall_finish : MC y_cHall_finish c_cHall_finish 3 (some .boolean) 1 := ⟨q2072, q270, by decide +kernel⟩
theorem mc_cP_finish : MC y_cP_finish c_cP_finish 3 (some .boolean) 2 := ⟨q2068, q247, by decide +kernel⟩
theorem mc_cSending_isLive : MC y_cSending_isLive c_cSending_isLive 1 (some .boolean) 0 := ⟨q2087, q299, by decide +kernel⟩
theorem mc_cSending_reset : MC y_cSending_reset c_cSending_reset 3 none 1 := ⟨q2091, q299, by decide +kernel⟩
theorem mc_cHall_reset : MC y_cHall_reset c_cHall_reset 5 (some .boolean) 2 := ⟨q2083, q270, by decide +kernel⟩
theorem mc_cP_reset : MC y_cP_reset c_cP_reset 5 (some .boolean) 3 := ⟨q2079, q247, by decide +kernel⟩
theorem mc_cHall_receiving : MC y_cHall_receiving c_cHall_receiving 2 (some (.object "TransportPair$Receiving")) 1 := ⟨q2106, q270, by decide +kernel⟩
theorem mc_cReceiving_isLive : MC y_cReceiving_isLive c_cReceiving_isLive 1 (some .boolean) 0 := ⟨q2110, q300, by decide +kernel⟩
theorem mc_cHall_stop : MC y_cHall_stop c_cHall_stop 5 (some .boolean) 2 := ⟨q2102, q270, by decide +kernel⟩
theorem mc_cP_stop : MC y_cP_stop c_cP_stop 5 (some .boolean) 3 := ⟨q2098, q247, by decide +kernel⟩
theorem mc_cBlocks_drop : MC y_cBlocks_drop c_cBlocks_drop 3 none 1 := ⟨q2131, q274, by decide +kernel⟩
theorem mc_cBlocks_take : MC y_cBlocks_take c_cBlocks_take 6 none 4 := ⟨q2127, q274, by decide +kernel⟩
theorem mc_cHall_grow_ : MC y_cHall_grow_ c_cHall_grow_ 2 none 0 := ⟨q2135, q270, by decide +kernel⟩
theorem mc_cHall_grow_Receiving : MC y_cHall_grow_Receiving c_cHall_grow_Receiving 3 none 1 := ⟨q2140, q270, by decide +kernel⟩
theorem mc_cSending_isOver : MC y_cSending_isOver c_cSending_isOver 1 (some .boolean) 0 := ⟨q2148, q299, by decide +kernel⟩
theorem mc_cReceiving_isOver : MC y_cReceiving_isOver c_cReceiving_isOver 1 (some .boolean) 0 := ⟨q2152, q300, by decide +kernel⟩
theorem mc_cHall_isOver : MC y_cHall_isOver c_cHall_isOver 2 (some .boolean) 1 := ⟨q2144, q270, by decide +kernel⟩
theorem mc_cReceiving_settle : MC y_cReceiving_settle c_cReceiving_settle 1 none 0 := ⟨q2156, q300, by decide +kernel⟩
theorem mc_cHall_way : MC y_cHall_way c_cHall_way 3 (some (.object "TransportPair$Way")) 1 := ⟨q2164, q270, by decide +kernel⟩
theorem mc_cHall_mayBeOver : MC y_cHall_mayBeOver c_cHall_mayBeOver 4 none 2 := ⟨q2160, q270, by decide +kernel⟩
theorem mc_cHall_read : MC y_cHall_read c_cHall_read 8 (some .int) 4 := ⟨q2122, q270, by decide +kernel⟩
theorem mc_cP_read : MC y_cP_read c_cP_read 6 (some .int) 3 := ⟨q2117, q247, by decide +kernel⟩
theorem mc_cP_outs : MC y_cP_outs c_cP_outs 5 (some .long) 1 := ⟨q2175, q247, by decide +kernel⟩
theorem mc_cSide_isLive : MC y_cSide_isLive c_cSide_isLive 1 (some .boolean) 0 := ⟨q2207, q248, by decide +kernel⟩
theorem mc_cTrip_patience : MC y_cTrip_patience c_cTrip_patience 2 (some .int) 1 := ⟨q2220, q258, by decide +kernel⟩
theorem mc_cSide_patience : MC y_cSide_patience c_cSide_patience 1 (some .int) 0 := ⟨q2216, q248, by decide +kernel⟩
theorem mc_cSide_close : MC y_cSide_close c_cSide_close 4 none 3 := ⟨q2211, q248, by decide +kernel⟩
theorem mc_cP_close : MC y_cP_close c_cP_close 5 (some .boolean) 2 := ⟨q2202, q247, by decide +kernel⟩
theorem mc_cP_raw : MC y_cP_raw c_cP_raw 3 none 1 := ⟨q2228, q247, by decide +kernel⟩
theorem mc_cLine_remove : MC y_cLine_remove c_cLine_remove 4 none 1 := ⟨q2248, q275, by decide +kernel⟩
theorem mc_cBytes_one : MC y_cBytes_one c_cBytes_one 1 (some .int) 0 := ⟨q2260, q265, by decide +kernel⟩
theorem mc_cHeader_fails : MC y_cHeader_fails c_cHeader_fails 2 (some .int) 1 := ⟨q2264, q266, by decide +kernel⟩
theorem mc_cBytes_pass : MC y_cBytes_pass c_cBytes_pass 3 (some .int) 1 := ⟨q2272, q265, by decide +kernel⟩
theorem mc_cBytes_left : MC y_cBytes_left c_cBytes_left 1 (some .int) 0 := ⟨q2276, q265, by decide +kernel⟩
theorem mc_cHeader_readShort : MC y_cHeader_readShort c_cHeader_readShort 4 (some .int) 3 := ⟨q2268, q266, by decide +kernel⟩
theorem mc_cBytes_many : MC y_cBytes_many c_cBytes_many 5 (some .long) 1 := ⟨q2284, q265, by decide +kernel⟩
theorem mc_cBytes_number : MC y_cBytes_number c_cBytes_number 4 (some .long) 0 := ⟨q2292, q265, by decide +kernel⟩
theorem mc_cHeader_readRest : MC y_cHeader_readRest c_cHeader_readRest 4 (some .int) 1 := ⟨q2288, q266, by decide +kernel⟩
theorem mc_cHeader_readLong : MC y_cHeader_readLong c_cHeader_readLong 3 (some .int) 2 := ⟨q2280, q266, by decide +kernel⟩
theorem mc_cHeader_read : MC y_cHeader_read c_cHeader_read 4 (some .int) 2 := ⟨q2256, q266, by decide +kernel⟩
theorem mc_cSide_sameTo : MC y_cSide_sameTo c_cSide_sameTo 4 (some .boolean) 1 := ⟨q2299, q248, by decide +kernel⟩
theorem mc_cSide_isTo : MC y_cSide_isTo c_cSide_isTo 5 (some .boolean) 2 := ⟨q2307, q248, by decide +kernel⟩
theorem mc_cKeystream_begin : MC y_cKeystream_begin c_cKeystream_begin 6 none 4 := ⟨q2322, q253, by decide +kernel⟩
theorem mc_jInteger_rotateLeft : MC y_jInteger_rotateLeft c_jInteger_rotateLeft 2 (some .int) 2 := ⟨q2339, q291, by decide +kernel⟩
theorem mc_cKeystream_mix : MC y_cKeystream_mix c_cKeystream_mix 5 none 4 := ⟨q2336, q253, by decide +kernel⟩
theorem mc_cKeystream_next : MC y_cKeystream_next c_cKeystream_next 3 none 0 := ⟨q2331, q253, by decide +kernel⟩
theorem mc_cGuard_shield : MC y_cGuard_shield c_cGuard_shield 10 (some .int) 5 := ⟨q2315, q255, by decide +kernel⟩
theorem mc_cCounting_grow : MC y_cCounting_grow c_cCounting_grow 13 (some .long) 3 := ⟨q2343, q303, by decide +kernel⟩
theorem mc_cRanges_place : MC y_cRanges_place c_cRanges_place 4 (some .int) 1 := ⟨q2353, q262, by decide +kernel⟩
theorem mc_cRanges_has : MC y_cRanges_has c_cRanges_has 4 (some .boolean) 1 := ⟨q2349, q262, by decide +kernel⟩
theorem mc_cGuard_begin : MC y_cGuard_begin c_cGuard_begin 6 none 3 := ⟨q2365, q255, by decide +kernel⟩
theorem mc_cTally_eight : MC y_cTally_eight c_cTally_eight 2 (some .long) 2 := ⟨q2372, q254, by decide +kernel⟩
theorem mc_cTally_split : MC y_cTally_split c_cTally_split 5 none 3 := ⟨q2379, q254, by decide +kernel⟩
theorem mc_cTally_begin : MC y_cTally_begin c_cTally_begin 7 none 1 := ⟨q2369, q254, by decide +kernel⟩
theorem mc_cTally_carry : MC y_cTally_carry c_cTally_carry 2 none 0 := ⟨q2395, q254, by decide +kernel⟩
theorem mc_cTally_take : MC y_cTally_take c_cTally_take 5 none 1 := ⟨q2389, q254, by decide +kernel⟩
theorem mc_cTally_add : MC y_cTally_add c_cTally_add 5 none 3 := ⟨q2384, q254, by decide +kernel⟩
theorem mc_cTally_finish : MC y_cTally_finish c_cTally_finish 5 none 2 := ⟨q2403, q254, by decide +kernel⟩
theorem mc_cTally_fill : MC y_cTally_fill c_cTally_fill 1 none 0 := ⟨q2399, q254, by decide +kernel⟩
theorem mc_cTally_isWhole : MC y_cTally_isWhole c_cTally_isWhole 3 (some .boolean) 0 := ⟨q2411, q254, by decide +kernel⟩
theorem mc_jLong_compare : MC y_jLong_compare c_jLong_compare 4 (some .int) 2 := ⟨q2419, q304, by decide +kernel⟩
theorem mc_jLong_compareUnsigned : MC y_jLong_compareUnsigned c_jLong_compareUnsigned 4 (some .int) 2 := ⟨q2415, q304, by decide +kernel⟩
theorem mc_cTally_end : MC y_cTally_end c_cTally_end 10 none 2 := ⟨q2407, q254, by decide +kernel⟩
theorem mc_cGuard_reckon : MC y_cGuard_reckon c_cGuard_reckon 9 none 6 := ⟨q2361, q255, by decide +kernel⟩
theorem mc_cKeystream_cover : MC y_cKeystream_cover c_cKeystream_cover 5 none 3 := ⟨q2423, q253, by decide +kernel⟩
theorem mc_cGuard_open : MC y_cGuard_open c_cGuard_open 11 (some .int) 6 := ⟨q2357, q255, by decide +kernel⟩
theorem mc_cSide_open : MC y_cSide_open c_cSide_open 10 (some .int) 2 := ⟨q2311, q248, by decide +kernel⟩
theorem mc_cSide_forget : MC y_cSide_forget c_cSide_forget 1 none 0 := ⟨q2428, q248, by decide +kernel⟩
theorem mc_cSpace_is : MC y_cSpace_is c_cSpace_is 3 (some .boolean) 2 := ⟨q2448, q260, by decide +kernel⟩
theorem mc_cSpace_inFlight : MC y_cSpace_inFlight c_cSpace_inFlight 3 (some .int) 0 := ⟨q2444, q260, by decide +kernel⟩
theorem mc_cQueue_clear : MC y_cQueue_clear c_cQueue_clear 1 none 0 := ⟨q2456, q261, by decide +kernel⟩
theorem mc_cRanges_clear : MC y_cRanges_clear c_cRanges_clear 1 none 0 := ⟨q2460, q262, by decide +kernel⟩
theorem mc_cSpace_discard : MC y_cSpace_discard c_cSpace_discard 1 none 0 := ⟨q2452, q260, by decide +kernel⟩
theorem mc_cBook_discard : MC y_cBook_discard c_cBook_discard 2 none 1 := ⟨q2440, q257, by decide +kernel⟩
theorem mc_cSide_discard : MC y_cSide_discard c_cSide_discard 2 none 1 := ⟨q2436, q248, by decide +kernel⟩
theorem mc_cSide_opened : MC y_cSide_opened c_cSide_opened 3 none 2 := ⟨q2432, q248, by decide +kernel⟩
theorem mc_cFrame_clear : MC y_cFrame_clear c_cFrame_clear 2 none 0 := ⟨q2473, q267, by decide +kernel⟩
theorem mc_cFrame_isKind : MC y_cFrame_isKind c_cFrame_isKind 1 (some .boolean) 1 := ⟨q2477, q267, by decide +kernel⟩
theorem mc_cFrame_fails : MC y_cFrame_fails c_cFrame_fails 2 (some .int) 1 := ⟨q2481, q267, by decide +kernel⟩
theorem mc_cFrame_isEarly : MC y_cFrame_isEarly c_cFrame_isEarly 1 (some .boolean) 1 := ⟨q2484, q267, by decide +kernel⟩
theorem mc_cFrame_paddings : MC y_cFrame_paddings c_cFrame_paddings 2 (some .boolean) 1 := ⟨q2492, q267, by decide +kernel⟩
theorem mc_cFrame_twice : MC y_cFrame_twice c_cFrame_twice 2 (some (.array (.long))) 1 := ⟨q2506, q267, by decide +kernel⟩
theorem mc_cFrame_span : MC y_cFrame_span c_cFrame_span 5 none 2 := ⟨q2503, q267, by decide +kernel⟩
theorem mc_cFrame_acknowledges : MC y_cFrame_acknowledges c_cFrame_acknowledges 11 (some .boolean) 1 := ⟨q2498, q267, by decide +kernel⟩
theorem mc_cFrame_slice : MC y_cFrame_slice c_cFrame_slice 4 none 1 := ⟨q2516, q267, by decide +kernel⟩
theorem mc_cFrame_allowed : MC y_cFrame_allowed c_cFrame_allowed 1 (some .boolean) 0 := ⟨q2520, q267, by decide +kernel⟩
theorem mc_cFrame_streams : MC y_cFrame_streams c_cFrame_streams 3 (some .boolean) 2 := ⟨q2512, q267, by decide +kernel⟩
theorem mc_cFrame_names : MC y_cFrame_names c_cFrame_names 2 (some .boolean) 1 := ⟨q2526, q267, by decide +kernel⟩
theorem mc_cFrame_carries : MC y_cFrame_carries c_cFrame_carries 1 (some .boolean) 0 := ⟨q2531, q267, by decide +kernel⟩
theorem mc_cFrame_fields : MC y_cFrame_fields c_cFrame_fields 3 (some .boolean) 2 := ⟨q2488, q267, by decide +kernel⟩
theorem mc_cFrame_read : MC y_cFrame_read c_cFrame_read 5 (some .int) 2 := ⟨q2469, q267, by decide +kernel⟩
theorem mc_cBook_isSent : MC y_cBook_isSent c_cBook_isSent 2 (some .boolean) 1 := ⟨q2544, q257, by decide +kernel⟩
theorem mc_cSpace_state : MC y_cSpace_state c_cSpace_state 2 (some .int) 1 := ⟨q2557, q260, by decide +kernel⟩
theorem mc_cTrip_sample : MC y_cTrip_sample c_cTrip_sample 5 none 3 := ⟨q2566, q258, by decide +kernel⟩
theorem mc_cSpace_settle : MC y_cSpace_settle c_cSpace_settle 3 (some .int) 2 := ⟨q2578, q260, by decide +kernel⟩
theorem mc_cWindow_grow : MC y_cWindow_grow c_cWindow_grow 4 none 3 := ⟨q2582, q259, by decide +kernel⟩
theorem mc_cQueue_add : MC y_cQueue_add c_cQueue_add 3 none 1 := ⟨q2586, q261, by decide +kernel⟩
theorem mc_cBook_done : MC y_cBook_done c_cBook_done 4 none 2 := ⟨q2574, q257, by decide +kernel⟩
theorem mc_cTrip_limit : MC y_cTrip_limit c_cTrip_limit 1 (some .int) 0 := ⟨q2595, q258, by decide +kernel⟩
theorem mc_cWindow_shrink : MC y_cWindow_shrink c_cWindow_shrink 3 none 2 := ⟨q2599, q259, by decide +kernel⟩
theorem mc_cBook_persists : MC y_cBook_persists c_cBook_persists 6 (some .boolean) 3 := ⟨q2604, q257, by decide +kernel⟩
theorem mc_cWindow_collapse : MC y_cWindow_collapse c_cWindow_collapse 1 none 0 := ⟨q2609, q259, by decide +kernel⟩
theorem mc_cBook_losses : MC y_cBook_losses c_cBook_losses 10 (some .boolean) 1 := ⟨q2591, q257, by decide +kernel⟩
theorem mc_cBook_acknowledge : MC y_cBook_acknowledge c_cBook_acknowledge 10 (some .int) 2 := ⟨q2552, q257, by decide +kernel⟩
theorem mc_cQueue_next : MC y_cQueue_next c_cQueue_next 1 (some .int) 0 := ⟨q2617, q261, by decide +kernel⟩
theorem mc_cCargo_end : MC y_cCargo_end c_cCargo_end 2 (some .int) 1 := ⟨q2625, q263, by decide +kernel⟩
theorem mc_cCrypto_gone : MC y_cCrypto_gone c_cCrypto_gone 6 none 3 := ⟨q2629, q256, by decide +kernel⟩
theorem mc_cSpans_release : MC y_cSpans_release c_cSpans_release 2 none 1 := ⟨q2648, q272, by decide +kernel⟩
theorem mc_cSpans_make : MC y_cSpans_make c_cSpans_make 5 (some .int) 3 := ⟨q2652, q272, by decide +kernel⟩
theorem mc_cSpans_add : MC y_cSpans_add c_cSpans_add 9 (some .int) 3 := ⟨q2642, q272, by decide +kernel⟩
theorem mc_cSpans_trim : MC y_cSpans_trim c_cSpans_trim 5 none 3 := ⟨q2661, q272, by decide +kernel⟩
theorem mc_cSpans_cut : MC y_cSpans_cut c_cSpans_cut 9 (some .int) 3 := ⟨q2657, q272, by decide +kernel⟩
theorem mc_cSpans_count : MC y_cSpans_count c_cSpans_count 4 (some .int) 1 := ⟨q2665, q272, by decide +kernel⟩
theorem mc_cHall_isGone : MC y_cHall_isGone c_cHall_isGone 7 none 5 := ⟨q2638, q270, by decide +kernel⟩
theorem mc_cHall_isLost : MC y_cHall_isLost c_cHall_isLost 7 none 4 := ⟨q2669, q270, by decide +kernel⟩
theorem mc_cHall_gone : MC y_cHall_gone c_cHall_gone 12 none 6 := ⟨q2633, q270, by decide +kernel⟩
theorem mc_cSide_gone : MC y_cSide_gone c_cSide_gone 6 none 3 := ⟨q2621, q248, by decide +kernel⟩
theorem mc_cSide_settle : MC y_cSide_settle c_cSide_settle 4 none 1 := ⟨q2613, q248, by decide +kernel⟩
theorem mc_cSide_acknowledged : MC y_cSide_acknowledged c_cSide_acknowledged 4 (some .int) 1 := ⟨q2539, q248, by decide +kernel⟩
theorem mc_cCrypto_take : MC y_cCrypto_take c_cCrypto_take 3 (some .boolean) 1 := ⟨q2677, q256, by decide +kernel⟩
theorem mc_cCrypto_more : MC y_cCrypto_more c_cCrypto_more 2 (some .int) 0 := ⟨q2682, q256, by decide +kernel⟩
theorem mc_cGreeting_levelOf : MC y_cGreeting_levelOf c_cGreeting_levelOf 1 (some .int) 1 := ⟨q2689, q268, by decide +kernel⟩
theorem mc_cRow_clear : MC y_cRow_clear c_cRow_clear 1 none 0 := ⟨q2697, q269, by decide +kernel⟩
theorem mc_cGreeting_fails : MC y_cGreeting_fails c_cGreeting_fails 2 (some .int) 1 := ⟨q2693, q268, by decide +kernel⟩
theorem mc_cGreeting_fits : MC y_cGreeting_fits c_cGreeting_fits 2 (some .boolean) 2 := ⟨q2700, q268, by decide +kernel⟩
theorem mc_cGreeting_keep : MC y_cGreeting_keep c_cGreeting_keep 4 none 3 := ⟨q2712, q268, by decide +kernel⟩
theorem mc_cGreeting_digest : MC y_cGreeting_digest c_cGreeting_digest 1 none 0 := ⟨q2720, q268, by decide +kernel⟩
theorem mc_cGreeting_greetSecrets : MC y_cGreeting_greetSecrets c_cGreeting_greetSecrets 1 none 0 := ⟨q2716, q268, by decide +kernel⟩
theorem mc_cGreeting_prove : MC y_cGreeting_prove c_cGreeting_prove 2 none 1 := ⟨q2731, q268, by decide +kernel⟩
theorem mc_cGreeting_talkSecrets : MC y_cGreeting_talkSecrets c_cGreeting_talkSecrets 1 none 0 := ⟨q2737, q268, by decide +kernel⟩
theorem mc_cGreeting_hello : MC y_cGreeting_hello c_cGreeting_hello 3 none 2 := ⟨q2708, q268, by decide +kernel⟩
theorem mc_cGreeting_done : MC y_cGreeting_done c_cGreeting_done 4 none 1 := ⟨q2745, q268, by decide +kernel⟩
theorem mc_cGreeting_comes : MC y_cGreeting_comes c_cGreeting_comes 3 none 2 := ⟨q2704, q268, by decide +kernel⟩
theorem mc_cGreeting_take : MC y_cGreeting_take c_cGreeting_take 9 (some .int) 4 := ⟨q2686, q268, by decide +kernel⟩
theorem mc_cParameters_isAnswer : MC y_cParameters_isAnswer c_cParameters_isAnswer 1 (some .boolean) 1 := ⟨q2767, q264, by decide +kernel⟩
theorem mc_cParameters_fits : MC y_cParameters_fits c_cParameters_fits 3 (some .boolean) 2 := ⟨q2771, q264, by decide +kernel⟩
theorem mc_cParameters_one : MC y_cParameters_one c_cParameters_one 7 (some .int) 4 := ⟨q2764, q264, by decide +kernel⟩
theorem mc_cParameters_read : MC y_cParameters_read c_cParameters_read 9 (some .int) 2 := ⟨q2757, q264, by decide +kernel⟩
theorem mc_cSide_isName : MC y_cSide_isName c_cSide_isName 5 (some .boolean) 2 := ⟨q2779, q248, by decide +kernel⟩
theorem mc_cHall_limits : MC y_cHall_limits c_cHall_limits 13 none 6 := ⟨q2783, q270, by decide +kernel⟩
theorem mc_cSide_learn : MC y_cSide_learn c_cSide_learn 2 (some .boolean) 0 := ⟨q2753, q248, by decide +kernel⟩
theorem mc_cSide_confirm : MC y_cSide_confirm c_cSide_confirm 1 none 0 := ⟨q2789, q248, by decide +kernel⟩
theorem mc_cSide_follow : MC y_cSide_follow c_cSide_follow 1 none 0 := ⟨q2749, q248, by decide +kernel⟩
theorem mc_cSide_greets : MC y_cSide_greets c_cSide_greets 5 (some .int) 1 := ⟨q2673, q248, by decide +kernel⟩
theorem mc_cSide_drains : MC y_cSide_drains c_cSide_drains 2 none 1 := ⟨q2793, q248, by decide +kernel⟩
theorem mc_cHall_allowed : MC y_cHall_allowed c_cHall_allowed 6 (some .int) 2 := ⟨q2803, q270, by decide +kernel⟩
theorem mc_cHall_fits : MC y_cHall_fits c_cHall_fits 9 (some .int) 3 := ⟨q2808, q270, by decide +kernel⟩
theorem mc_cHall_come : MC y_cHall_come c_cHall_come 3 none 1 := ⟨q2812, q270, by decide +kernel⟩
theorem mc_cHall_reach : MC y_cHall_reach c_cHall_reach 3 none 2 := ⟨q2820, q270, by decide +kernel⟩
theorem mc_jArrays_copyOf_ABI : MC y_jArrays_copyOf_ABI c_jArrays_copyOf_ABI 3 (some (.array (.byte))) 2 := ⟨q2837, q301, by decide +kernel⟩
theorem mc_jArrays_copyOf_AJI : MC y_jArrays_copyOf_AJI c_jArrays_copyOf_AJI 3 (some (.array (.long))) 2 := ⟨q2845, q301, by decide +kernel⟩
theorem mc_cBlocks_make : MC y_cBlocks_make c_cBlocks_make 4 (some .int) 2 := ⟨q2834, q274, by decide +kernel⟩
theorem mc_cBlocks_block : MC y_cBlocks_block c_cBlocks_block 6 (some .int) 2 := ⟨q2830, q274, by decide +kernel⟩
theorem mc_cBlocks_put : MC y_cBlocks_put c_cBlocks_put 9 none 5 := ⟨q2825, q274, by decide +kernel⟩
theorem mc_cHall_comes : MC y_cHall_comes c_cHall_comes 7 none 6 := ⟨q2816, q270, by decide +kernel⟩
theorem mc_cBlocks_clear : MC y_cBlocks_clear c_cBlocks_clear 2 none 1 := ⟨q2859, q274, by decide +kernel⟩
theorem mc_cHall_isReset : MC y_cHall_isReset c_cHall_isReset 5 none 3 := ⟨q2855, q270, by decide +kernel⟩
theorem mc_cHall_take : MC y_cHall_take c_cHall_take 14 (some .int) 7 := ⟨q2798, q270, by decide +kernel⟩
theorem mc_cSide_frame : MC y_cSide_frame c_cSide_frame 2 (some .int) 1 := ⟨q2535, q248, by decide +kernel⟩
theorem mc_cRanges_remove : MC y_cRanges_remove c_cRanges_remove 3 none 1 := ⟨q2872, q262, by decide +kernel⟩
theorem mc_cRanges_insert : MC y_cRanges_insert c_cRanges_insert 5 none 2 := ⟨q2876, q262, by decide +kernel⟩
theorem mc_cRanges_add : MC y_cRanges_add c_cRanges_add 6 none 1 := ⟨q2868, q262, by decide +kernel⟩
theorem mc_cSpace_takes : MC y_cSpace_takes c_cSpace_takes 7 (some .boolean) 3 := ⟨q2863, q260, by decide +kernel⟩
theorem mc_cSide_frames : MC y_cSide_frames c_cSide_frames 9 none 3 := ⟨q2464, q248, by decide +kernel⟩
theorem mc_cSide_packet : MC y_cSide_packet c_cSide_packet 5 none 2 := ⟨q2303, q248, by decide +kernel⟩
theorem mc_cSide_comes : MC y_cSide_comes c_cSide_comes 5 none 2 := ⟨q2252, q248, by decide +kernel⟩
theorem mc_cP_comes : MC y_cP_comes c_cP_comes 5 (some .int) 2 := ⟨q2244, q247, by decide +kernel⟩
theorem mc_cP_deliver : MC y_cP_deliver c_cP_deliver 3 (some .int) 2 := ⟨q2236, q247, by decide +kernel⟩
theorem mc_cP_drop : MC y_cP_drop c_cP_drop 5 (some .int) 2 := ⟨q2883, q247, by decide +kernel⟩
theorem mc_cLine_add : MC y_cLine_add c_cLine_add 4 none 3 := ⟨q2894, q275, by decide +kernel⟩
theorem mc_cP_twice : MC y_cP_twice c_cP_twice 4 (some .int) 2 := ⟨q2890, q247, by decide +kernel⟩
theorem mc_cP_alter : MC y_cP_alter c_cP_alter 6 (some .int) 4 := ⟨q2902, q247, by decide +kernel⟩
theorem mc_cP_flow : MC y_cP_flow c_cP_flow 2 none 1 := ⟨q2909, q247, by decide +kernel⟩
theorem mc_cBook_patience : MC y_cBook_patience c_cBook_patience 2 (some .int) 1 := ⟨q2941, q257, by decide +kernel⟩
theorem mc_cBook_firstSpace : MC y_cBook_firstSpace c_cBook_firstSpace 2 (some .int) 0 := ⟨q2945, q257, by decide +kernel⟩
theorem mc_cBook_isQuiet : MC y_cBook_isQuiet c_cBook_isQuiet 6 (some .boolean) 0 := ⟨q2949, q257, by decide +kernel⟩
theorem mc_cBook_probeTime : MC y_cBook_probeTime c_cBook_probeTime 4 (some .int) 1 := ⟨q2937, q257, by decide +kernel⟩
theorem mc_cBook_earliest : MC y_cBook_earliest c_cBook_earliest 6 (some .int) 1 := ⟨q2933, q257, by decide +kernel⟩
theorem mc_cBook_tick : MC y_cBook_tick c_cBook_tick 2 (some .int) 0 := ⟨q2929, q257, by decide +kernel⟩
theorem mc_cSide_end : MC y_cSide_end c_cSide_end 2 none 1 := ⟨q2953, q248, by decide +kernel⟩
theorem mc_cSide_probe : MC y_cSide_probe c_cSide_probe 4 none 1 := ⟨q2957, q248, by decide +kernel⟩
theorem mc_cSide_quietLimit : MC y_cSide_quietLimit c_cSide_quietLimit 7 (some .int) 0 := ⟨q2963, q248, by decide +kernel⟩
theorem mc_cSide_isWorn : MC y_cSide_isWorn c_cSide_isWorn 3 (some .boolean) 0 := ⟨q2978, q248, by decide +kernel⟩
theorem mc_cSide_headSize : MC y_cSide_headSize c_cSide_headSize 1 (some .int) 1 := ⟨q2982, q248, by decide +kernel⟩
theorem mc_cBytes_put : MC y_cBytes_put c_cBytes_put 2 none 1 := ⟨q3000, q265, by decide +kernel⟩
theorem mc_cFrame_writeRanges : MC y_cFrame_writeRanges c_cFrame_writeRanges 3 none 1 := ⟨q3004, q267, by decide +kernel⟩
theorem mc_cFrame_write : MC y_cFrame_write c_cFrame_write 3 none 1 := ⟨q2996, q267, by decide +kernel⟩
theorem mc_cSide_closes : MC y_cSide_closes c_cSide_closes 3 none 1 := ⟨q2990, q248, by decide +kernel⟩
theorem mc_cBook_due : MC y_cBook_due c_cBook_due 3 (some .boolean) 1 := ⟨q3011, q257, by decide +kernel⟩
theorem mc_cBook_delay : MC y_cBook_delay c_cBook_delay 2 (some .int) 1 := ⟨q3019, q257, by decide +kernel⟩
theorem mc_cSide_acknowledges : MC y_cSide_acknowledges c_cSide_acknowledges 6 none 1 := ⟨q3015, q248, by decide +kernel⟩
theorem mc_cCrypto_next : MC y_cCrypto_next c_cCrypto_next 3 (some .int) 1 := ⟨q3033, q256, by decide +kernel⟩
theorem mc_cCrypto_fill : MC y_cCrypto_fill c_cCrypto_fill 9 (some .boolean) 3 := ⟨q3029, q256, by decide +kernel⟩
theorem mc_cCargo_twice_AI : MC y_cCargo_twice_AI c_cCargo_twice_AI 2 (some (.array (.int))) 1 := ⟨q3047, q263, by decide +kernel⟩
theorem mc_cCargo_twice_AB : MC y_cCargo_twice_AB c_cCargo_twice_AB 2 (some (.array (.byte))) 1 := ⟨q3051, q263, by decide +kernel⟩
theorem mc_cCargo_add : MC y_cCargo_add c_cCargo_add 2 none 1 := ⟨q3044, q263, by decide +kernel⟩
theorem mc_cSide_put_I : MC y_cSide_put_I c_cSide_put_I 2 none 1 := ⟨q3040, q248, by decide +kernel⟩
theorem mc_cHall_frame : MC y_cHall_frame c_cHall_frame 11 (some .boolean) 5 := ⟨q3064, q270, by decide +kernel⟩
theorem mc_cHall_fillsEnds : MC y_cHall_fillsEnds c_cHall_fillsEnds 4 (some .boolean) 1 := ⟨q3060, q270, by decide +kernel⟩
theorem mc_cHall_fillsGrants : MC y_cHall_fillsGrants c_cHall_fillsGrants 4 (some .boolean) 1 := ⟨q3073, q270, by decide +kernel⟩
theorem mc_cHall_waits : MC y_cHall_waits c_cHall_waits 1 (some .boolean) 1 := ⟨q3080, q270, by decide +kernel⟩
theorem mc_cHall_fillsBlocked : MC y_cHall_fillsBlocked c_cHall_fillsBlocked 5 (some .boolean) 1 := ⟨q3077, q270, by decide +kernel⟩
theorem mc_cStore_copy : MC y_cStore_copy c_cStore_copy 10 none 4 := ⟨q3092, q273, by decide +kernel⟩
theorem mc_cHall_fills : MC y_cHall_fills c_cHall_fills 13 (some .boolean) 3 := ⟨q3088, q270, by decide +kernel⟩
theorem mc_cHall_fillsStream : MC y_cHall_fillsStream c_cHall_fillsStream 5 (some .boolean) 1 := ⟨q3084, q270, by decide +kernel⟩
theorem mc_cHall_fill : MC y_cHall_fill c_cHall_fill 2 (some .boolean) 1 := ⟨q3056, q270, by decide +kernel⟩
theorem mc_cSide_carries : MC y_cSide_carries c_cSide_carries 2 none 1 := ⟨q3024, q248, by decide +kernel⟩
theorem mc_cBook_written : MC y_cBook_written c_cBook_written 2 (some .int) 1 := ⟨q3098, q257, by decide +kernel⟩
theorem mc_cCargo_begin : MC y_cCargo_begin c_cCargo_begin 1 none 0 := ⟨q3103, q263, by decide +kernel⟩
theorem mc_cCounting_bytesOf : MC y_cCounting_bytesOf c_cCounting_bytesOf 6 (some .int) 2 := ⟨q3110, q303, by decide +kernel⟩
theorem mc_cSide_bytesOf : MC y_cSide_bytesOf c_cSide_bytesOf 3 (some .int) 1 := ⟨q3107, q248, by decide +kernel⟩
theorem mc_cSide_pad : MC y_cSide_pad c_cSide_pad 4 none 2 := ⟨q3119, q248, by decide +kernel⟩
theorem mc_cSide_draft : MC y_cSide_draft c_cSide_draft 8 none 3 := ⟨q2986, q248, by decide +kernel⟩
theorem mc_cHeader_write : MC y_cHeader_write c_cHeader_write 8 none 8 := ⟨q3126, q266, by decide +kernel⟩
theorem mc_cGuard_seal : MC y_cGuard_seal c_cGuard_seal 8 (some .int) 6 := ⟨q3136, q255, by decide +kernel⟩
theorem mc_cSpace_grow : MC y_cSpace_grow c_cSpace_grow 4 none 0 := ⟨q3148, q260, by decide +kernel⟩
theorem mc_cSpace_add : MC y_cSpace_add c_cSpace_add 6 (some .int) 5 := ⟨q3144, q260, by decide +kernel⟩
theorem mc_cBook_send : MC y_cBook_send c_cBook_send 6 (some .int) 4 := ⟨q3140, q257, by decide +kernel⟩
theorem mc_cSide_seal : MC y_cSide_seal c_cSide_seal 7 (some .int) 2 := ⟨q3123, q248, by decide +kernel⟩
theorem mc_cSide_datagram : MC y_cSide_datagram c_cSide_datagram 9 (some .boolean) 2 := ⟨q2974, q248, by decide +kernel⟩
theorem mc_cSide_sends : MC y_cSide_sends c_cSide_sends 4 none 1 := ⟨q2970, q248, by decide +kernel⟩
theorem mc_cSide_tick : MC y_cSide_tick c_cSide_tick 4 none 1 := ⟨q2925, q248, by decide +kernel⟩
theorem mc_cP_tick_ : MC y_cP_tick_ c_cP_tick_ 3 none 0 := ⟨q2921, q247, by decide +kernel⟩
theorem mc_cP_tick_I : MC y_cP_tick_I c_cP_tick_I 3 (some .int) 1 := ⟨q2916, q247, by decide +kernel⟩
theorem mc_cP_line : MC y_cP_line c_cP_line 4 (some .int) 2 := ⟨q3157, q247, by decide +kernel⟩
theorem mc_cP_at : MC y_cP_at c_cP_at 5 (some .int) 3 := ⟨q3165, q247, by decide +kernel⟩
theorem mc_cP_look : MC y_cP_look c_cP_look 4 (some .int) 2 := ⟨q3173, q247, by decide +kernel⟩
theorem mc_cBook_look : MC y_cBook_look c_cBook_look 2 (some .int) 1 := ⟨q3185, q257, by decide +kernel⟩
theorem mc_cP_book : MC y_cP_book c_cP_book 4 (some .int) 2 := ⟨q3180, q247, by decide +kernel⟩
theorem mc_cBook_space : MC y_cBook_space c_cBook_space 4 (some .long) 2 := ⟨q3197, q257, by decide +kernel⟩
theorem mc_cP_space : MC y_cP_space c_cP_space 5 (some .long) 3 := ⟨q3192, q247, by decide +kernel⟩
theorem mc_cHall_look_II : MC y_cHall_look_II c_cHall_look_II 5 (some .long) 2 := ⟨q3209, q270, by decide +kernel⟩
theorem mc_cP_stream : MC y_cP_stream c_cP_stream 5 (some .long) 3 := ⟨q3204, q247, by decide +kernel⟩
theorem mc_cHall_look_I : MC y_cHall_look_I c_cHall_look_I 3 (some .long) 1 := ⟨q3221, q270, by decide +kernel⟩
theorem mc_cP_streams : MC y_cP_streams c_cP_streams 4 (some .long) 2 := ⟨q3216, q247, by decide +kernel⟩
theorem mc_mSeals_nextPrime : MC y_mSeals_nextPrime c_mSeals_nextPrime 4 (some .int) 1 := ⟨q3237, q277, by decide +kernel⟩
theorem mc_mSeals_times : MC y_mSeals_times c_mSeals_times 5 none 0 := ⟨q3250, q277, by decide +kernel⟩
theorem mc_mSeals_isAbove : MC y_mSeals_isAbove c_mSeals_isAbove 7 (some .boolean) 3 := ⟨q3245, q277, by decide +kernel⟩
theorem mc_mSeals_rootOf : MC y_mSeals_rootOf c_mSeals_rootOf 6 (some .long) 2 := ⟨q3241, q277, by decide +kernel⟩
theorem mc_mSeals_init : MC y_mSeals_init c_mSeals_init 3 none 0 := ⟨q3233, q277, by decide +kernel⟩
theorem mc_mStreams_init : MC y_mStreams_init c_mStreams_init 3 none 0 := ⟨q3332, q278, by decide +kernel⟩
theorem mc_mBook_init : MC y_mBook_init c_mBook_init 2 none 0 := ⟨q3522, q280, by decide +kernel⟩
theorem mc_mWire_init : MC y_mWire_init c_mWire_init 1 none 0 := ⟨q3656, q281, by decide +kernel⟩
theorem mc_mCargo_init : MC y_mCargo_init c_mCargo_init 1 none 0 := ⟨q3709, q282, by decide +kernel⟩
theorem mc_mDraft_init : MC y_mDraft_init c_mDraft_init 1 none 0 := ⟨q3742, q283, by decide +kernel⟩
theorem mc_mGreet_init : MC y_mGreet_init c_mGreet_init 3 none 2 := ⟨q3759, q284, by decide +kernel⟩
theorem mc_mSide_init : MC y_mSide_init c_mSide_init 4 none 3 := ⟨q3516, q279, by decide +kernel⟩
theorem mc_mStreams_setGrant : MC y_mStreams_setGrant c_mStreams_setGrant 5 none 3 := ⟨q4030, q278, by decide +kernel⟩
theorem mc_mP_set : MC y_mP_set c_mP_set 4 none 3 := ⟨q4026, q276, by decide +kernel⟩
theorem mc_mP_init : MC y_mP_init c_mP_init 3 none 0 := ⟨q3226, q276, by decide +kernel⟩
theorem mc_mP_thrown : MC y_mP_thrown c_mP_thrown 1 (some .int) 0 := ⟨q4104, q276, by decide +kernel⟩
theorem mc_mP_fails : MC y_mP_fails c_mP_fails 3 (some .boolean) 2 := ⟨q4112, q276, by decide +kernel⟩
theorem mc_mP_no : MC y_mP_no c_mP_no 1 (some .boolean) 1 := ⟨q4123, q276, by decide +kernel⟩
theorem mc_mP_feed : MC y_mP_feed c_mP_feed 8 (some .int) 5 := ⟨q4108, q276, by decide +kernel⟩
theorem mc_mP_end : MC y_mP_end c_mP_end 3 (some .int) 1 := ⟨q4116, q276, by decide +kernel⟩
theorem mc_mP_key : MC y_mP_key c_mP_key 3 none 1 := ⟨q4120, q276, by decide +kernel⟩
theorem mc_mP_random : MC y_mP_random c_mP_random 3 none 1 := ⟨q4127, q276, by decide +kernel⟩
theorem mc_mP_parameter : MC y_mP_parameter c_mP_parameter 5 none 3 := ⟨q4131, q276, by decide +kernel⟩
theorem mc_mSeals_right : MC y_mSeals_right c_mSeals_right 3 (some .long) 2 := ⟨q4164, q277, by decide +kernel⟩
theorem mc_mSeals_round : MC y_mSeals_round c_mSeals_round 19 none 1 := ⟨q4168, q277, by decide +kernel⟩
theorem mc_mSeals_part : MC y_mSeals_part c_mSeals_part 7 none 1 := ⟨q4160, q277, by decide +kernel⟩
theorem mc_mSeals_digestWork : MC y_mSeals_digestWork c_mSeals_digestWork 4 none 1 := ⟨q4156, q277, by decide +kernel⟩
theorem mc_mSeals_macText : MC y_mSeals_macText c_mSeals_macText 5 none 3 := ⟨q4152, q277, by decide +kernel⟩
theorem mc_mSeals_mac : MC y_mSeals_mac c_mSeals_mac 9 none 7 := ⟨q4148, q277, by decide +kernel⟩
theorem mc_mSeals_words : MC y_mSeals_words c_mSeals_words 1 (some .long) 1 := ⟨q4176, q277, by decide +kernel⟩
theorem mc_mSeals_tell : MC y_mSeals_tell c_mSeals_tell 2 none 1 := ⟨q4191, q277, by decide +kernel⟩
theorem mc_mSeals_label : MC y_mSeals_label c_mSeals_label 13 none 8 := ⟨q4173, q277, by decide +kernel⟩
theorem mc_mGreet_firstSecrets : MC y_mGreet_firstSecrets c_mGreet_firstSecrets 6 none 4 := ⟨q4144, q284, by decide +kernel⟩
theorem mc_mSeals_arm : MC y_mSeals_arm c_mSeals_arm 5 none 4 := ⟨q4199, q277, by decide +kernel⟩
theorem mc_mSide_arm : MC y_mSide_arm c_mSide_arm 2 none 1 := ⟨q4195, q279, by decide +kernel⟩
theorem mc_mSide_putOwn : MC y_mSide_putOwn c_mSide_putOwn 2 none 1 := ⟨q4212, q279, by decide +kernel⟩
theorem mc_mSide_putName : MC y_mSide_putName c_mSide_putName 5 none 3 := ⟨q4208, q279, by decide +kernel⟩
theorem mc_mWire_needs : MC y_mWire_needs c_mWire_needs 2 (some .int) 1 := ⟨q4220, q281, by decide +kernel⟩
theorem mc_mSide_putNumber : MC y_mSide_putNumber c_mSide_putNumber 10 none 2 := ⟨q4217, q279, by decide +kernel⟩
theorem mc_mSide_makeParameters : MC y_mSide_makeParameters c_mSide_makeParameters 2 none 0 := ⟨q4204, q279, by decide +kernel⟩
theorem mc_mGreet_send : MC y_mGreet_send c_mGreet_send 3 none 2 := ⟨q4238, q284, by decide +kernel⟩
theorem mc_mGreet_note : MC y_mGreet_note c_mGreet_note 2 none 1 := ⟨q4242, q284, by decide +kernel⟩
theorem mc_mGreet_says : MC y_mGreet_says c_mGreet_says 7 none 2 := ⟨q4234, q284, by decide +kernel⟩
theorem mc_mGreet_begin : MC y_mGreet_begin c_mGreet_begin 1 none 0 := ⟨q4230, q284, by decide +kernel⟩
theorem mc_mSide_begin : MC y_mSide_begin c_mSide_begin 4 none 2 := ⟨q4140, q279, by decide +kernel⟩
theorem mc_mP_begin : MC y_mP_begin c_mP_begin 3 none 0 := ⟨q4136, q276, by decide +kernel⟩
theorem mc_mStreams_at : MC y_mStreams_at c_mStreams_at 2 (some .int) 2 := ⟨q4257, q278, by decide +kernel⟩
theorem mc_mStreams_wayOf : MC y_mStreams_wayOf c_mStreams_wayOf 2 (some .int) 1 := ⟨q4264, q278, by decide +kernel⟩
theorem mc_mStreams_opens : MC y_mStreams_opens c_mStreams_opens 3 (some .boolean) 2 := ⟨q4267, q278, by decide +kernel⟩
theorem mc_mStreams_grantOf : MC y_mStreams_grantOf c_mStreams_grantOf 3 (some .long) 2 := ⟨q4261, q278, by decide +kernel⟩
theorem mc_mStreams_begin : MC y_mStreams_begin c_mStreams_begin 4 none 2 := ⟨q4254, q278, by decide +kernel⟩
theorem mc_mStreams_open : MC y_mStreams_open c_mStreams_open 6 (some .int) 2 := ⟨q4250, q278, by decide +kernel⟩
theorem mc_mP_open : MC y_mP_open c_mP_open 3 (some .int) 2 := ⟨q4246, q276, by decide +kernel⟩
theorem mc_mStreams_isThere : MC y_mStreams_isThere c_mStreams_isThere 3 (some .boolean) 2 := ⟨q4283, q278, by decide +kernel⟩
theorem mc_mStreams_sends : MC y_mStreams_sends c_mStreams_sends 3 (some .boolean) 2 := ⟨q4286, q278, by decide +kernel⟩
theorem mc_mStreams_hasSending : MC y_mStreams_hasSending c_mStreams_hasSending 3 (some .boolean) 2 := ⟨q4279, q278, by decide +kernel⟩
theorem mc_mStreams_sending : MC y_mStreams_sending c_mStreams_sending 2 (some .int) 1 := ⟨q4290, q278, by decide +kernel⟩
theorem mc_mStreams_write : MC y_mStreams_write c_mStreams_write 8 (some .int) 4 := ⟨q4275, q278, by decide +kernel⟩
theorem mc_mP_write : MC y_mP_write c_mP_write 4 (some .int) 2 := ⟨q4271, q276, by decide +kernel⟩
theorem mc_mStreams_finish : MC y_mStreams_finish c_mStreams_finish 3 (some .boolean) 2 := ⟨q4299, q278, by decide +kernel⟩
theorem mc_mP_finish : MC y_mP_finish c_mP_finish 3 (some .boolean) 2 := ⟨q4295, q276, by decide +kernel⟩
theorem mc_mStreams_isOpenSending : MC y_mStreams_isOpenSending c_mStreams_isOpenSending 3 (some .boolean) 2 := ⟨q4311, q278, by decide +kernel⟩
theorem mc_mStreams_doReset : MC y_mStreams_doReset c_mStreams_doReset 6 none 3 := ⟨q4315, q278, by decide +kernel⟩
theorem mc_mStreams_reset : MC y_mStreams_reset c_mStreams_reset 5 (some .boolean) 3 := ⟨q4307, q278, by decide +kernel⟩
theorem mc_mP_reset : MC y_mP_reset c_mP_reset 4 (some .boolean) 3 := ⟨q4303, q276, by decide +kernel⟩
theorem mc_mStreams_receives : MC y_mStreams_receives c_mStreams_receives 3 (some .boolean) 2 := ⟨q4330, q278, by decide +kernel⟩
theorem mc_mStreams_hasReceiving : MC y_mStreams_hasReceiving c_mStreams_hasReceiving 3 (some .boolean) 2 := ⟨q4327, q278, by decide +kernel⟩
theorem mc_mStreams_receiving : MC y_mStreams_receiving c_mStreams_receiving 2 (some .int) 1 := ⟨q4334, q278, by decide +kernel⟩
theorem mc_mStreams_stop : MC y_mStreams_stop c_mStreams_stop 6 (some .boolean) 3 := ⟨q4323, q278, by decide +kernel⟩
theorem mc_mP_stop : MC y_mP_stop c_mP_stop 4 (some .boolean) 3 := ⟨q4319, q276, by decide +kernel⟩
theorem mc_mStreams_pieceAt : MC y_mStreams_pieceAt c_mStreams_pieceAt 4 (some .int) 2 := ⟨q4346, q278, by decide +kernel⟩
theorem mc_mStreams_consumed : MC y_mStreams_consumed c_mStreams_consumed 5 (some .long) 1 := ⟨q4354, q278, by decide +kernel⟩
theorem mc_mStreams_growData : MC y_mStreams_growData c_mStreams_growData 8 none 1 := ⟨q4350, q278, by decide +kernel⟩
theorem mc_mStreams_growStream : MC y_mStreams_growStream c_mStreams_growStream 10 none 2 := ⟨q4360, q278, by decide +kernel⟩
theorem mc_mStreams_looksOver : MC y_mStreams_looksOver c_mStreams_looksOver 7 none 2 := ⟨q4364, q278, by decide +kernel⟩
theorem mc_mStreams_read : MC y_mStreams_read c_mStreams_read 8 (some .int) 4 := ⟨q4342, q278, by decide +kernel⟩
theorem mc_mP_read : MC y_mP_read c_mP_read 5 (some .int) 3 := ⟨q4338, q276, by decide +kernel⟩
theorem mc_mP_outs : MC y_mP_outs c_mP_outs 5 (some .long) 1 := ⟨q4368, q276, by decide +kernel⟩
theorem mc_mSide_isAlive : MC y_mSide_isAlive c_mSide_isAlive 1 (some .boolean) 0 := ⟨q4376, q279, by decide +kernel⟩
theorem mc_mBook_greater : MC y_mBook_greater c_mBook_greater 2 (some .int) 2 := ⟨q4392, q280, by decide +kernel⟩
theorem mc_mBook_patience : MC y_mBook_patience c_mBook_patience 2 (some .int) 1 := ⟨q4389, q280, by decide +kernel⟩
theorem mc_mSide_end : MC y_mSide_end c_mSide_end 2 none 1 := ⟨q4385, q279, by decide +kernel⟩
theorem mc_mSide_closes : MC y_mSide_closes c_mSide_closes 3 none 2 := ⟨q4380, q279, by decide +kernel⟩
theorem mc_mP_close : MC y_mP_close c_mP_close 3 (some .boolean) 2 := ⟨q4372, q276, by decide +kernel⟩
theorem mc_mP_raw : MC y_mP_raw c_mP_raw 4 none 1 := ⟨q4396, q276, by decide +kernel⟩
theorem mc_mP_place : MC y_mP_place c_mP_place 3 (some .int) 2 := ⟨q4416, q276, by decide +kernel⟩
theorem mc_mP_lies : MC y_mP_lies c_mP_lies 7 none 4 := ⟨q4830, q276, by decide +kernel⟩
theorem mc_mP_lift : MC y_mP_lift c_mP_lift 5 none 2 := ⟨q4412, q276, by decide +kernel⟩
theorem mc_mP_remove : MC y_mP_remove c_mP_remove 5 (some .int) 2 := ⟨q4420, q276, by decide +kernel⟩
theorem mc_mP_isNone : MC y_mP_isNone c_mP_isNone 3 (some .boolean) 2 := ⟨q4404, q276, by decide +kernel⟩
theorem mc_mWire_look : MC y_mWire_look c_mWire_look 4 none 3 := ⟨q4432, q281, by decide +kernel⟩
theorem mc_mWire_take : MC y_mWire_take c_mWire_take 5 (some .long) 1 := ⟨q4436, q281, by decide +kernel⟩
theorem mc_mWire_pass : MC y_mWire_pass c_mWire_pass 4 (some .int) 1 := ⟨q4441, q281, by decide +kernel⟩
theorem mc_mP_readsName : MC y_mP_readsName c_mP_readsName 3 (some .boolean) 1 := ⟨q4446, q276, by decide +kernel⟩
theorem mc_mWire_takeNumber : MC y_mWire_takeNumber c_mWire_takeNumber 4 (some .long) 0 := ⟨q4450, q281, by decide +kernel⟩
theorem mc_mP_reads : MC y_mP_reads c_mP_reads 6 (some .int) 2 := ⟨q4428, q276, by decide +kernel⟩
theorem mc_mP_isSame : MC y_mP_isSame c_mP_isSame 3 (some .boolean) 0 := ⟨q4456, q276, by decide +kernel⟩
theorem mc_mSeals_wordOf : MC y_mSeals_wordOf c_mSeals_wordOf 2 (some .long) 2 := ⟨q4471, q277, by decide +kernel⟩
theorem mc_mSeals_left : MC y_mSeals_left c_mSeals_left 3 (some .long) 2 := ⟨q4490, q277, by decide +kernel⟩
theorem mc_mSeals_half : MC y_mSeals_half c_mSeals_half 5 none 4 := ⟨q4487, q277, by decide +kernel⟩
theorem mc_mSeals_mix : MC y_mSeals_mix c_mSeals_mix 5 none 4 := ⟨q4483, q277, by decide +kernel⟩
theorem mc_mSeals_blockOf : MC y_mSeals_blockOf c_mSeals_blockOf 6 none 1 := ⟨q4475, q277, by decide +kernel⟩
theorem mc_mSeals_shield : MC y_mSeals_shield c_mSeals_shield 10 (some .int) 6 := ⟨q4468, q277, by decide +kernel⟩
theorem mc_mSide_grown : MC y_mSide_grown c_mSide_grown 18 (some .long) 3 := ⟨q4494, q279, by decide +kernel⟩
theorem mc_mSeals_nonceOf : MC y_mSeals_nonceOf c_mSeals_nonceOf 6 none 3 := ⟨q4503, q277, by decide +kernel⟩
theorem mc_mSeals_fill : MC y_mSeals_fill c_mSeals_fill 3 (some .int) 1 := ⟨q4511, q277, by decide +kernel⟩
theorem mc_mSeals_multiply : MC y_mSeals_multiply c_mSeals_multiply 6 none 0 := ⟨q4519, q277, by decide +kernel⟩
theorem mc_mSeals_tallyOf : MC y_mSeals_tallyOf c_mSeals_tallyOf 5 none 1 := ⟨q4515, q277, by decide +kernel⟩
theorem mc_mSeals_tagOf : MC y_mSeals_tagOf c_mSeals_tagOf 8 none 4 := ⟨q4507, q277, by decide +kernel⟩
theorem mc_mSeals_change : MC y_mSeals_change c_mSeals_change 5 none 3 := ⟨q4523, q277, by decide +kernel⟩
theorem mc_mSeals_open : MC y_mSeals_open c_mSeals_open 10 (some .boolean) 7 := ⟨q4499, q277, by decide +kernel⟩
theorem mc_mSide_tries : MC y_mSide_tries c_mSide_tries 8 (some .boolean) 2 := ⟨q4464, q279, by decide +kernel⟩
theorem mc_mSide_isName : MC y_mSide_isName c_mSide_isName 7 (some .boolean) 4 := ⟨q4527, q279, by decide +kernel⟩
theorem mc_mSide_hasGuards : MC y_mSide_hasGuards c_mSide_hasGuards 2 (some .boolean) 1 := ⟨q4531, q279, by decide +kernel⟩
theorem mc_mBook_greatest : MC y_mBook_greatest c_mBook_greatest 2 (some .long) 1 := ⟨q4535, q280, by decide +kernel⟩
theorem mc_mBook_isOld : MC y_mBook_isOld c_mBook_isOld 6 (some .boolean) 2 := ⟨q4540, q280, by decide +kernel⟩
theorem mc_mBook_discard : MC y_mBook_discard c_mBook_discard 2 none 1 := ⟨q4553, q280, by decide +kernel⟩
theorem mc_mSide_discard : MC y_mSide_discard c_mSide_discard 2 none 1 := ⟨q4549, q279, by decide +kernel⟩
theorem mc_mSide_opened : MC y_mSide_opened c_mSide_opened 5 none 3 := ⟨q4544, q279, by decide +kernel⟩
theorem mc_mWire_takeAck : MC y_mWire_takeAck c_mWire_takeAck 6 none 1 := ⟨q4571, q281, by decide +kernel⟩
theorem mc_mWire_takeData : MC y_mWire_takeData c_mWire_takeData 3 none 1 := ⟨q4580, q281, by decide +kernel⟩
theorem mc_mWire_takeStream : MC y_mWire_takeStream c_mWire_takeStream 2 none 1 := ⟨q4576, q281, by decide +kernel⟩
theorem mc_mWire_fields : MC y_mWire_fields c_mWire_fields 1 (some .int) 1 := ⟨q4588, q281, by decide +kernel⟩
theorem mc_mWire_takeFields : MC y_mWire_takeFields c_mWire_takeFields 4 none 1 := ⟨q4585, q281, by decide +kernel⟩
theorem mc_mWire_takeRest : MC y_mWire_takeRest c_mWire_takeRest 2 none 1 := ⟨q4567, q281, by decide +kernel⟩
theorem mc_mWire_edge : MC y_mWire_edge c_mWire_edge 9 (some .long) 2 := ⟨q4597, q281, by decide +kernel⟩
theorem mc_mWire_isRight : MC y_mWire_isRight c_mWire_isRight 1 (some .boolean) 0 := ⟨q4593, q281, by decide +kernel⟩
theorem mc_mWire_read : MC y_mWire_read c_mWire_read 4 (some .int) 1 := ⟨q4563, q281, by decide +kernel⟩
theorem mc_mBook_isOut : MC y_mBook_isOut c_mBook_isOut 3 (some .boolean) 2 := ⟨q4622, q280, by decide +kernel⟩
theorem mc_mBook_isNew : MC y_mBook_isNew c_mBook_isNew 5 (some .boolean) 2 := ⟨q4618, q280, by decide +kernel⟩
theorem mc_mBook_sample : MC y_mBook_sample c_mBook_sample 5 none 2 := ⟨q4626, q280, by decide +kernel⟩
theorem mc_mBook_find : MC y_mBook_find c_mBook_find 5 none 3 := ⟨q4630, q280, by decide +kernel⟩
theorem mc_mBook_isBehindRecovery : MC y_mBook_isBehindRecovery c_mBook_isBehindRecovery 2 (some .boolean) 1 := ⟨q4638, q280, by decide +kernel⟩
theorem mc_mBook_grow : MC y_mBook_grow c_mBook_grow 2 none 1 := ⟨q4634, q280, by decide +kernel⟩
theorem mc_mBook_limit : MC y_mBook_limit c_mBook_limit 1 (some .int) 0 := ⟨q4646, q280, by decide +kernel⟩
theorem mc_mBook_persists : MC y_mBook_persists c_mBook_persists 7 none 2 := ⟨q4650, q280, by decide +kernel⟩
theorem mc_mBook_losses : MC y_mBook_losses c_mBook_losses 7 none 1 := ⟨q4642, q280, by decide +kernel⟩
theorem mc_mBook_acknowledge : MC y_mBook_acknowledge c_mBook_acknowledge 8 (some .boolean) 2 := ⟨q4614, q280, by decide +kernel⟩
theorem mc_mBook_next : MC y_mBook_next c_mBook_next 4 (some .int) 2 := ⟨q4659, q280, by decide +kernel⟩
theorem mc_mSide_tellCrypto : MC y_mSide_tellCrypto c_mSide_tellCrypto 6 none 4 := ⟨q4667, q279, by decide +kernel⟩
theorem mc_mSide_tellDone : MC y_mSide_tellDone c_mSide_tellDone 2 none 1 := ⟨q4671, q279, by decide +kernel⟩
theorem mc_mStreams_remark : MC y_mStreams_remark c_mStreams_remark 5 none 3 := ⟨q4684, q278, by decide +kernel⟩
theorem mc_mStreams_goneStream : MC y_mStreams_goneStream c_mStreams_goneStream 11 none 6 := ⟨q4680, q278, by decide +kernel⟩
theorem mc_mStreams_gone : MC y_mStreams_gone c_mStreams_gone 14 none 7 := ⟨q4675, q278, by decide +kernel⟩
theorem mc_mSide_tellPacket : MC y_mSide_tellPacket c_mSide_tellPacket 7 none 3 := ⟨q4663, q279, by decide +kernel⟩
theorem mc_mSide_tellFound : MC y_mSide_tellFound c_mSide_tellFound 3 none 1 := ⟨q4655, q279, by decide +kernel⟩
theorem mc_mSide_acknowledged : MC y_mSide_acknowledged c_mSide_acknowledged 4 (some .int) 1 := ⟨q4608, q279, by decide +kernel⟩
theorem mc_mGreet_isSize : MC y_mGreet_isSize c_mGreet_isSize 2 (some .boolean) 2 := ⟨q4704, q284, by decide +kernel⟩
theorem mc_mGreet_lookAt : MC y_mGreet_lookAt c_mGreet_lookAt 4 (some .int) 1 := ⟨q4701, q284, by decide +kernel⟩
theorem mc_mSeals_digest : MC y_mSeals_digest c_mSeals_digest 5 none 3 := ⟨q4716, q277, by decide +kernel⟩
theorem mc_mGreet_prove : MC y_mGreet_prove c_mGreet_prove 2 none 1 := ⟨q4712, q284, by decide +kernel⟩
theorem mc_mGreet_keepTheirs : MC y_mGreet_keepTheirs c_mGreet_keepTheirs 4 none 2 := ⟨q4720, q284, by decide +kernel⟩
theorem mc_mGreet_greets : MC y_mGreet_greets c_mGreet_greets 2 none 0 := ⟨q4724, q284, by decide +kernel⟩
theorem mc_mGreet_talks : MC y_mGreet_talks c_mGreet_talks 2 none 0 := ⟨q4728, q284, by decide +kernel⟩
theorem mc_mGreet_done : MC y_mGreet_done c_mGreet_done 6 (some .int) 2 := ⟨q4708, q284, by decide +kernel⟩
theorem mc_mGreet_works : MC y_mGreet_works c_mGreet_works 5 (some .int) 1 := ⟨q4697, q284, by decide +kernel⟩
theorem mc_mGreet_take : MC y_mGreet_take c_mGreet_take 7 (some .int) 4 := ⟨q4693, q284, by decide +kernel⟩
theorem mc_mSide_hasBytes : MC y_mSide_hasBytes c_mSide_hasBytes 1 (some .boolean) 1 := ⟨q4735, q279, by decide +kernel⟩
theorem mc_mSide_suits : MC y_mSide_suits c_mSide_suits 9 (some .boolean) 4 := ⟨q4746, q279, by decide +kernel⟩
theorem mc_mSide_readsParameters : MC y_mSide_readsParameters c_mSide_readsParameters 11 (some .boolean) 1 := ⟨q4739, q279, by decide +kernel⟩
theorem mc_mStreams_know : MC y_mStreams_know c_mStreams_know 5 none 3 := ⟨q4754, q278, by decide +kernel⟩
theorem mc_mSide_readParameters : MC y_mSide_readParameters c_mSide_readParameters 3 (some .boolean) 0 := ⟨q4732, q279, by decide +kernel⟩
theorem mc_mSide_confirm : MC y_mSide_confirm c_mSide_confirm 1 none 0 := ⟨q4759, q279, by decide +kernel⟩
theorem mc_mSide_cryptoComes : MC y_mSide_cryptoComes c_mSide_cryptoComes 6 (some .int) 1 := ⟨q4688, q279, by decide +kernel⟩
theorem mc_mStreams_meant : MC y_mStreams_meant c_mStreams_meant 5 (some .int) 3 := ⟨q4772, q278, by decide +kernel⟩
theorem mc_mStreams_received : MC y_mStreams_received c_mStreams_received 5 (some .long) 1 := ⟨q4781, q278, by decide +kernel⟩
theorem mc_mStreams_reaches : MC y_mStreams_reaches c_mStreams_reaches 11 (some .int) 4 := ⟨q4777, q278, by decide +kernel⟩
theorem mc_mStreams_comesThere : MC y_mStreams_comesThere c_mStreams_comesThere 4 none 2 := ⟨q4785, q278, by decide +kernel⟩
theorem mc_mStreams_greater : MC y_mStreams_greater c_mStreams_greater 4 (some .long) 2 := ⟨q4788, q278, by decide +kernel⟩
theorem mc_mStreams_comes : MC y_mStreams_comes c_mStreams_comes 7 none 4 := ⟨q4792, q278, by decide +kernel⟩
theorem mc_mStreams_makeReady : MC y_mStreams_makeReady c_mStreams_makeReady 3 none 1 := ⟨q4796, q278, by decide +kernel⟩
theorem mc_mStreams_takeStream : MC y_mStreams_takeStream c_mStreams_takeStream 11 (some .int) 3 := ⟨q4768, q278, by decide +kernel⟩
theorem mc_mStreams_takeReset : MC y_mStreams_takeReset c_mStreams_takeReset 6 (some .int) 1 := ⟨q4800, q278, by decide +kernel⟩
theorem mc_mStreams_takeOther : MC y_mStreams_takeOther c_mStreams_takeOther 4 (some .int) 1 := ⟨q4804, q278, by decide +kernel⟩
theorem mc_mStreams_takes : MC y_mStreams_takes c_mStreams_takes 4 (some .int) 2 := ⟨q4764, q278, by decide +kernel⟩
theorem mc_mSide_does : MC y_mSide_does c_mSide_does 2 (some .int) 1 := ⟨q4604, q279, by decide +kernel⟩
theorem mc_mBook_takeOut : MC y_mBook_takeOut c_mBook_takeOut 4 none 2 := ⟨q4818, q280, by decide +kernel⟩
theorem mc_mBook_comeIn : MC y_mBook_comeIn c_mBook_comeIn 5 none 2 := ⟨q4814, q280, by decide +kernel⟩
theorem mc_mBook_came : MC y_mBook_came c_mBook_came 7 none 3 := ⟨q4808, q280, by decide +kernel⟩
theorem mc_mSide_frames : MC y_mSide_frames c_mSide_frames 11 none 5 := ⟨q4558, q279, by decide +kernel⟩
theorem mc_mSide_packet : MC y_mSide_packet c_mSide_packet 15 none 3 := ⟨q4460, q279, by decide +kernel⟩
theorem mc_mP_comes : MC y_mP_comes c_mP_comes 7 none 2 := ⟨q4424, q276, by decide +kernel⟩
theorem mc_mP_delivers : MC y_mP_delivers c_mP_delivers 4 (some .int) 2 := ⟨q4408, q276, by decide +kernel⟩
theorem mc_mP_deliver : MC y_mP_deliver c_mP_deliver 3 (some .int) 2 := ⟨q4400, q276, by decide +kernel⟩
theorem mc_mP_drop : MC y_mP_drop c_mP_drop 3 (some .int) 2 := ⟨q4822, q276, by decide +kernel⟩
theorem mc_mP_twice : MC y_mP_twice c_mP_twice 3 (some .int) 2 := ⟨q4826, q276, by decide +kernel⟩
theorem mc_mP_alter : MC y_mP_alter c_mP_alter 6 (some .int) 4 := ⟨q4834, q276, by decide +kernel⟩
theorem mc_mP_flow : MC y_mP_flow c_mP_flow 2 none 1 := ⟨q4838, q276, by decide +kernel⟩
theorem mc_mBook_oldest : MC y_mBook_oldest c_mBook_oldest 3 (some .int) 1 := ⟨q4862, q280, by decide +kernel⟩
theorem mc_mBook_firstSpace : MC y_mBook_firstSpace c_mBook_firstSpace 2 (some .int) 0 := ⟨q4866, q280, by decide +kernel⟩
theorem mc_mBook_probeTime : MC y_mBook_probeTime c_mBook_probeTime 4 (some .int) 1 := ⟨q4858, q280, by decide +kernel⟩
theorem mc_mBook_tick : MC y_mBook_tick c_mBook_tick 5 (some .int) 0 := ⟨q4854, q280, by decide +kernel⟩
theorem mc_mSide_quietLimit : MC y_mSide_quietLimit c_mSide_quietLimit 9 (some .long) 0 := ⟨q4871, q279, by decide +kernel⟩
theorem mc_mSide_tick : MC y_mSide_tick c_mSide_tick 4 none 0 := ⟨q4850, q279, by decide +kernel⟩
theorem mc_mSide_isFull : MC y_mSide_isFull c_mSide_isFull 3 (some .boolean) 0 := ⟨q4880, q279, by decide +kernel⟩
theorem mc_mSide_headerOf : MC y_mSide_headerOf c_mSide_headerOf 1 (some .int) 1 := ⟨q4884, q279, by decide +kernel⟩
theorem mc_mDraft_put : MC y_mDraft_put c_mDraft_put 5 none 2 := ⟨q4898, q283, by decide +kernel⟩
theorem mc_mDraft_sized : MC y_mDraft_sized c_mDraft_sized 6 none 2 := ⟨q4908, q283, by decide +kernel⟩
theorem mc_mDraft_number : MC y_mDraft_number c_mDraft_number 3 none 1 := ⟨q4903, q283, by decide +kernel⟩
theorem mc_mSide_laysClose : MC y_mSide_laysClose c_mSide_laysClose 7 none 2 := ⟨q4892, q279, by decide +kernel⟩
theorem mc_mDraft_bytes : MC y_mDraft_bytes c_mDraft_bytes 5 none 3 := ⟨q4915, q283, by decide +kernel⟩
theorem mc_mBook_range : MC y_mBook_range c_mBook_range 5 (some .long) 3 := ⟨q4927, q280, by decide +kernel⟩
theorem mc_mBook_delay : MC y_mBook_delay c_mBook_delay 2 (some .int) 1 := ⟨q4931, q280, by decide +kernel⟩
theorem mc_mSide_ackSize : MC y_mSide_ackSize c_mSide_ackSize 7 (some .int) 2 := ⟨q4923, q279, by decide +kernel⟩
theorem mc_mSide_laysAck : MC y_mSide_laysAck c_mSide_laysAck 6 (some .boolean) 2 := ⟨q4919, q279, by decide +kernel⟩
theorem mc_mBook_flight : MC y_mBook_flight c_mBook_flight 4 (some .int) 0 := ⟨q4935, q280, by decide +kernel⟩
theorem mc_mCargo_grow : MC y_mCargo_grow c_mCargo_grow 7 none 0 := ⟨q4948, q282, by decide +kernel⟩
theorem mc_mCargo_add : MC y_mCargo_add c_mCargo_add 9 none 5 := ⟨q4944, q282, by decide +kernel⟩
theorem mc_mSide_laysCrypto : MC y_mSide_laysCrypto c_mSide_laysCrypto 11 none 2 := ⟨q4939, q279, by decide +kernel⟩
theorem mc_mStreams_bytes : MC y_mStreams_bytes c_mStreams_bytes 2 (some .int) 0 := ⟨q4970, q278, by decide +kernel⟩
theorem mc_mStreams_lays : MC y_mStreams_lays c_mStreams_lays 9 (some .boolean) 5 := ⟨q4966, q278, by decide +kernel⟩
theorem mc_mStreams_fillsResets : MC y_mStreams_fillsResets c_mStreams_fillsResets 5 (some .boolean) 2 := ⟨q4962, q278, by decide +kernel⟩
theorem mc_mStreams_fillsGrants : MC y_mStreams_fillsGrants c_mStreams_fillsGrants 5 (some .boolean) 2 := ⟨q4975, q278, by decide +kernel⟩
theorem mc_mStreams_waits : MC y_mStreams_waits c_mStreams_waits 3 (some .boolean) 2 := ⟨q4983, q278, by decide +kernel⟩
theorem mc_mStreams_fillsBlocked : MC y_mStreams_fillsBlocked c_mStreams_fillsBlocked 6 (some .boolean) 2 := ⟨q4979, q278, by decide +kernel⟩
theorem mc_mStreams_allowed : MC y_mStreams_allowed c_mStreams_allowed 9 (some .long) 2 := ⟨q4991, q278, by decide +kernel⟩
theorem mc_mStreams_fillsBytes : MC y_mStreams_fillsBytes c_mStreams_fillsBytes 12 (some .boolean) 6 := ⟨q4995, q278, by decide +kernel⟩
theorem mc_mStreams_fillsStream : MC y_mStreams_fillsStream c_mStreams_fillsStream 12 (some .boolean) 3 := ⟨q4987, q278, by decide +kernel⟩
theorem mc_mStreams_fills : MC y_mStreams_fills c_mStreams_fills 5 (some .boolean) 2 := ⟨q4958, q278, by decide +kernel⟩
theorem mc_mStreams_writeTo : MC y_mStreams_writeTo c_mStreams_writeTo 2 none 1 := ⟨q4999, q278, by decide +kernel⟩
theorem mc_mSide_laysLast : MC y_mSide_laysLast c_mSide_laysLast 3 none 1 := ⟨q4952, q279, by decide +kernel⟩
theorem mc_mBook_due : MC y_mBook_due c_mBook_due 2 (some .boolean) 1 := ⟨q5006, q280, by decide +kernel⟩
theorem mc_mSide_laysFrames : MC y_mSide_laysFrames c_mSide_laysFrames 6 none 3 := ⟨q4888, q279, by decide +kernel⟩
theorem mc_mSide_cut : MC y_mSide_cut c_mSide_cut 4 (some .int) 1 := ⟨q5010, q279, by decide +kernel⟩
theorem mc_mSide_pad : MC y_mSide_pad c_mSide_pad 2 none 1 := ⟨q5016, q279, by decide +kernel⟩
theorem mc_mSide_sizeOf : MC y_mSide_sizeOf c_mSide_sizeOf 2 (some .int) 1 := ⟨q5020, q279, by decide +kernel⟩
theorem mc_mSeals_seal : MC y_mSeals_seal c_mSeals_seal 10 none 7 := ⟨q5029, q277, by decide +kernel⟩
theorem mc_mBook_send : MC y_mBook_send c_mBook_send 7 (some .int) 4 := ⟨q5033, q280, by decide +kernel⟩
theorem mc_mBook_written : MC y_mBook_written c_mBook_written 2 none 1 := ⟨q5038, q280, by decide +kernel⟩
theorem mc_mSide_sendsPacket : MC y_mSide_sendsPacket c_mSide_sendsPacket 8 none 1 := ⟨q5024, q279, by decide +kernel⟩
theorem mc_mSide_sends : MC y_mSide_sends c_mSide_sends 7 (some .boolean) 1 := ⟨q4876, q279, by decide +kernel⟩
theorem mc_mP_ticks : MC y_mP_ticks c_mP_ticks 5 none 0 := ⟨q4846, q276, by decide +kernel⟩
theorem mc_mP_tick : MC y_mP_tick c_mP_tick 3 (some .int) 1 := ⟨q4842, q276, by decide +kernel⟩
theorem mc_mP_line : MC y_mP_line c_mP_line 3 (some .int) 2 := ⟨q5042, q276, by decide +kernel⟩
theorem mc_mP_at : MC y_mP_at c_mP_at 5 (some .int) 3 := ⟨q5046, q276, by decide +kernel⟩
theorem mc_mP_look : MC y_mP_look c_mP_look 4 (some .int) 2 := ⟨q5050, q276, by decide +kernel⟩
theorem mc_mBook_look : MC y_mBook_look c_mBook_look 2 (some .int) 1 := ⟨q5058, q280, by decide +kernel⟩
theorem mc_mP_book : MC y_mP_book c_mP_book 3 (some .int) 2 := ⟨q5054, q276, by decide +kernel⟩
theorem mc_mBook_outs : MC y_mBook_outs c_mBook_outs 5 (some .int) 2 := ⟨q5071, q280, by decide +kernel⟩
theorem mc_mBook_space : MC y_mBook_space c_mBook_space 3 (some .long) 2 := ⟨q5067, q280, by decide +kernel⟩
theorem mc_mP_space : MC y_mP_space c_mP_space 4 (some .long) 3 := ⟨q5062, q276, by decide +kernel⟩
theorem mc_mStreams_look_III : MC y_mStreams_look_III c_mStreams_look_III 5 (some .long) 3 := ⟨q5079, q278, by decide +kernel⟩
theorem mc_mP_stream : MC y_mP_stream c_mP_stream 4 (some .long) 3 := ⟨q5075, q276, by decide +kernel⟩
theorem mc_mStreams_look_II : MC y_mStreams_look_II c_mStreams_look_II 3 (some .long) 2 := ⟨q5087, q278, by decide +kernel⟩
theorem mc_mP_streams : MC y_mP_streams c_mP_streams 3 (some .long) 2 := ⟨q5083, q276, by decide +kernel⟩
theorem mc_law_feed : MCW y_law_feed c_law_feed 8 (some .int) 7 [(0, 16, 19, 13)] := ⟨q1523, q246, by decide +kernel⟩
theorem mc_law_end : MCW y_law_end c_law_end 4 (some .int) 3 [(0, 9, 12, 19)] := ⟨q1597, q246, by decide +kernel⟩
theorem mc_law_key : MCW y_law_key c_law_key 3 (some .int) 2 [(0, 5, 8, 19), (0, 5, 11, 13)] := ⟨q1626, q246, by decide +kernel⟩
theorem mc_law_random : MCW y_law_random c_law_random 3 (some .int) 2 [(0, 5, 8, 19), (0, 5, 11, 13)] := ⟨q1648, q246, by decide +kernel⟩
theorem mc_law_parameter : MCW y_law_parameter c_law_parameter 5 (some .int) 4 [(0, 7, 10, 19), (0, 7, 14, 13)] := ⟨q1655, q246, by decide +kernel⟩
theorem mc_law_begin : MCW y_law_begin c_law_begin 2 (some .int) 1 [(0, 4, 7, 13)] := ⟨q1668, q246, by decide +kernel⟩
theorem mc_law_open : MCW y_law_open c_law_open 5 (some .int) 4 [(0, 10, 13, 19)] := ⟨q1893, q246, by decide +kernel⟩
theorem mc_law_write : MCW y_law_write c_law_write 5 (some .int) 4 [(0, 10, 13, 19)] := ⟨q2027, q246, by decide +kernel⟩
theorem mc_law_finish : MCW y_law_finish c_law_finish 5 (some .int) 4 [(0, 17, 20, 19)] := ⟨q2064, q246, by decide +kernel⟩
theorem mc_law_reset : MCW y_law_reset c_law_reset 6 (some .int) 5 [(0, 19, 22, 19)] := ⟨q2075, q246, by decide +kernel⟩
theorem mc_law_stop : MCW y_law_stop c_law_stop 6 (some .int) 5 [(0, 19, 22, 19)] := ⟨q2094, q246, by decide +kernel⟩
theorem mc_law_read : MCW y_law_read c_law_read 6 (some .int) 5 [(0, 12, 15, 19)] := ⟨q2113, q246, by decide +kernel⟩
theorem mc_law_outs : MCW y_law_outs c_law_outs 4 (some .int) 3 [(0, 8, 11, 62)] := ⟨q2170, q246, by decide +kernel⟩
theorem mc_law_close : MCW y_law_close c_law_close 5 (some .int) 4 [(0, 17, 20, 19)] := ⟨q2198, q246, by decide +kernel⟩
theorem mc_law_raw : MCW y_law_raw c_law_raw 3 (some .int) 2 [(0, 5, 8, 19), (0, 5, 11, 13)] := ⟨q2224, q246, by decide +kernel⟩
theorem mc_law_deliver : MCW y_law_deliver c_law_deliver 5 (some .int) 4 [(0, 10, 13, 19), (0, 10, 17, 62)] := ⟨q2232, q246, by decide +kernel⟩
theorem mc_law_drop : MCW y_law_drop c_law_drop 5 (some .int) 4 [(0, 10, 13, 19), (0, 10, 17, 62)] := ⟨q2879, q246, by decide +kernel⟩
theorem mc_law_twice : MCW y_law_twice c_law_twice 5 (some .int) 4 [(0, 10, 13, 19), (0, 10, 17, 62)] := ⟨q2886, q246, by decide +kernel⟩
theorem mc_law_alter : MCW y_law_alter c_law_alter 7 (some .int) 6 [(0, 14, 17, 19), (0, 14, 21, 62)] := ⟨q2898, q246, by decide +kernel⟩
theorem mc_law_flow : MCW y_law_flow c_law_flow 3 (some .int) 2 [(0, 5, 8, 19)] := ⟨q2905, q246, by decide +kernel⟩
theorem mc_law_tick : MCW y_law_tick c_law_tick 4 (some .int) 3 [(0, 9, 12, 19), (0, 9, 15, 13)] := ⟨q2912, q246, by decide +kernel⟩
theorem mc_law_line : MCW y_law_line c_law_line 5 (some .int) 4 [(0, 10, 13, 19)] := ⟨q3153, q246, by decide +kernel⟩
theorem mc_law_at : MCW y_law_at c_law_at 6 (some .int) 5 [(0, 12, 15, 19), (0, 12, 19, 62)] := ⟨q3161, q246, by decide +kernel⟩
theorem mc_law_look : MCW y_law_look c_law_look 5 (some .int) 4 [(0, 10, 13, 19)] := ⟨q3169, q246, by decide +kernel⟩
theorem mc_law_book : MCW y_law_book c_law_book 5 (some .int) 4 [(0, 10, 13, 19)] := ⟨q3176, q246, by decide +kernel⟩
theorem mc_law_space : MCW y_law_space c_law_space 6 (some .int) 5 [(0, 11, 14, 19)] := ⟨q3188, q246, by decide +kernel⟩
theorem mc_law_stream : MCW y_law_stream c_law_stream 6 (some .int) 5 [(0, 11, 14, 19)] := ⟨q3200, q246, by decide +kernel⟩
theorem mc_law_streams : MCW y_law_streams c_law_streams 5 (some .int) 4 [(0, 9, 12, 19)] := ⟨q3212, q246, by decide +kernel⟩
/- the law -/
theorem pf345 : PF "TransportPair$Hash" 9 5 0 (.array (.int)) 101 := ⟨_, rfl, by decide, rfl, fun _ => rfl, by decide, rfl, rfl, q345⟩
theorem pf346 : PF "TransportPair$Hash" 15 5 1 (.array (.int)) 101 := ⟨_, rfl, by decide, rfl, fun _ => rfl, by decide, rfl, rfl, q346⟩
theorem pf347 : PF "TransportPair$Hash" 18 5 2 (.array (.byte)) 102 := ⟨_, rfl, by decide, rfl, fun _ => rfl, by decide, rfl, rfl, q347⟩
theorem ml341 : ML "TransportPair$Mac" 11 y_cHash_init := Or.inr ⟨_, q341⟩
theorem pf363 : PF "TransportPair$Mac" 12 4 0 (.object "TransportPair$Hash") 6 := ⟨_, rfl, by decide, rfl, fun _ => rfl, by decide, rfl, rfl, q363⟩
theorem pf364 : PF "TransportPair$Mac" 18 4 1 (.object "TransportPair$Hash") 6 := ⟨_, rfl, by decide, rfl, fun _ => rfl, by decide, rfl, rfl, q364⟩
theorem pf365 : PF "TransportPair$Mac" 21 4 2 (.array (.byte)) 102 := ⟨_, rfl, by decide, rfl, fun _ => rfl, by decide, rfl, rfl, q365⟩
theorem pf366 : PF "TransportPair$Mac" 25 4 3 (.array (.byte)) 102 := ⟨_, rfl, by decide, rfl, fun _ => rfl, by decide, rfl, rfl, q366⟩
theorem ml335 : ML "TransportPair$Stretch" 11 y_cMac_init := Or.inr ⟨_, q335⟩
theorem pf376 : PF "TransportPair$Stretch" 12 3 0 (.object "TransportPair$Mac") 5 := ⟨_, rfl, by decide, rfl, fun _ => rfl, by decide, rfl, rfl, q376⟩
theorem pf378 : PF "TransportPair$Stretch" 18 3 1 (.array (.byte)) 102 := ⟨_, rfl, by decide, rfl, fun _ => rfl, by decide, rfl, rfl, q378⟩
theorem pf379 : PF "TransportPair$Stretch" 22 3 2 (.array (.byte)) 102 := ⟨_, rfl, by decide, rfl, fun _ => rfl, by decide, rfl, rfl, q379⟩
theorem pf380 : PF "TransportPair$Stretch" 25 3 3 (.array (.byte)) 102 := ⟨_, rfl, by decide, rfl, fun _ => rfl, by decide, rfl, rfl, q380⟩
theorem pf396 : PF "TransportPair$Keystream" 9 6 0 (.array (.int)) 101 := ⟨_, rfl, by decide, rfl, fun _ => rfl, by decide, rfl, rfl, q396⟩
theorem pf397 : PF "TransportPair$Keystream" 15 6 1 (.array (.int)) 101 := ⟨_, rfl, by decide, rfl, fun _ => rfl, by decide, rfl, rfl, q397⟩
theorem pf398 : PF "TransportPair$Keystream" 18 6 2 (.array (.byte)) 102 := ⟨_, rfl, by decide, rfl, fun _ => rfl, by decide, rfl, rfl, q398⟩
theorem pf413 : PF "TransportPair$Tally" 9 7 0 (.array (.long)) 105 := ⟨_, rfl, by decide, rfl, fun _ => rfl, by decide, rfl, rfl, q413⟩
theorem pf414 : PF "TransportPair$Tally" 15 7 1 (.array (.long)) 105 := ⟨_, rfl, by decide, rfl, fun _ => rfl, by decide, rfl, rfl, q414⟩
theorem pf415 : PF "TransportPair$Tally" 18 7 2 (.array (.long)) 105 := ⟨_, rfl, by decide, rfl, fun _ => rfl, by decide, rfl, rfl, q415⟩
theorem pf416 : PF "TransportPair$Tally" 21 7 3 (.array (.byte)) 102 := ⟨_, rfl, by decide, rfl, fun _ => rfl, by decide, rfl, rfl, q416⟩
theorem ml329 : ML "TransportPair$Bench" 11 y_cStretch_init := Or.inr ⟨_, q329⟩
theorem pf436 : PF "TransportPair$Bench" 12 2 0 (.object "TransportPair$Stretch") 4 := ⟨_, rfl, by decide, rfl, fun _ => rfl, by decide, rfl, rfl, q436⟩
theorem ml392 : ML "TransportPair$Bench" 20 y_cKeystream_init := Or.inr ⟨_, q392⟩
theorem pf438 : PF "TransportPair$Bench" 21 2 1 (.object "TransportPair$Keystream") 7 := ⟨_, rfl, by decide, rfl, fun _ => rfl, by decide, rfl, rfl, q438⟩
theorem ml409 : ML "TransportPair$Bench" 27 y_cTally_init := Or.inr ⟨_, q409⟩
theorem pf440 : PF "TransportPair$Bench" 28 2 2 (.object "TransportPair$Tally") 8 := ⟨_, rfl, by decide, rfl, fun _ => rfl, by decide, rfl, rfl, q440⟩
theorem pf442 : PF "TransportPair$Bench" 32 2 3 (.array (.byte)) 102 := ⟨_, rfl, by decide, rfl, fun _ => rfl, by decide, rfl, rfl, q442⟩
theorem pf444 : PF "TransportPair$Bench" 36 2 4 (.array (.byte)) 102 := ⟨_, rfl, by decide, rfl, fun _ => rfl, by decide, rfl, rfl, q444⟩
theorem pf446 : PF "TransportPair$Bench" 39 2 5 (.array (.byte)) 102 := ⟨_, rfl, by decide, rfl, fun _ => rfl, by decide, rfl, rfl, q446⟩
theorem pf448 : PF "TransportPair$Bench" 42 2 6 (.array (.byte)) 102 := ⟨_, rfl, by decide, rfl, fun _ => rfl, by decide, rfl, rfl, q448⟩
theorem pf472 : PF "TransportPair$Guard" 9 8 0 (.array (.byte)) 102 := ⟨_, rfl, by decide, rfl, fun _ => rfl, by decide, rfl, rfl, q472⟩
theorem pf473 : PF "TransportPair$Guard" 15 8 1 (.array (.byte)) 102 := ⟨_, rfl, by decide, rfl, fun _ => rfl, by decide, rfl, rfl, q473⟩
theorem pf474 : PF "TransportPair$Guard" 18 8 2 (.array (.byte)) 102 := ⟨_, rfl, by decide, rfl, fun _ => rfl, by decide, rfl, rfl, q474⟩
theorem pf475 : PF "TransportPair$Guard" 21 8 3 (.array (.byte)) 102 := ⟨_, rfl, by decide, rfl, fun _ => rfl, by decide, rfl, rfl, q475⟩
theorem pf498 : PF "TransportPair$Crypto" 9 9 0 (.array (.byte)) 102 := ⟨_, rfl, by decide, rfl, fun _ => rfl, by decide, rfl, rfl, q498⟩
theorem pf500 : PF "TransportPair$Crypto" 13 9 2 (.array (.byte)) 102 := ⟨_, rfl, by decide, rfl, fun _ => rfl, by decide, rfl, rfl, q500⟩
theorem pf502 : PF "TransportPair$Crypto" 16 9 3 (.array (.boolean)) 103 := ⟨_, rfl, by decide, rfl, fun _ => rfl, by decide, rfl, rfl, q502⟩
theorem pl531 : PL "TransportPair$Trip" 9 11 0 (.int) 0 := ⟨_, rfl, by decide, rfl, fun z => absurd z (by decide), by decide, Or.inl q531, rfl⟩
theorem pl533 : PL "TransportPair$Trip" 15 11 1 (.int) 0 := ⟨_, rfl, by decide, rfl, fun z => absurd z (by decide), by decide, Or.inl q533, rfl⟩
theorem pl537 : PL "TransportPair$Trip" 18 11 3 (.int) 0 := ⟨_, rfl, by decide, rfl, fun z => absurd z (by decide), by decide, Or.inl q537, rfl⟩
theorem pl539 : PL "TransportPair$Trip" 21 11 4 (.int) 0 := ⟨_, rfl, by decide, rfl, fun z => absurd z (by decide), by decide, Or.inl q539, rfl⟩
theorem pl558 : PL "TransportPair$Window" 9 12 0 (.int) 0 := ⟨_, rfl, by decide, rfl, fun z => absurd z (by decide), by decide, Or.inl q558, rfl⟩
theorem pl561 : PL "TransportPair$Window" 15 12 1 (.int) 0 := ⟨_, rfl, by decide, rfl, fun z => absurd z (by decide), by decide, Or.inl q561, rfl⟩
theorem pl563 : PL "TransportPair$Window" 18 12 2 (.int) 0 := ⟨_, rfl, by decide, rfl, fun z => absurd z (by decide), by decide, Or.inl q563, rfl⟩
theorem pl587 : PL "TransportPair$Queue" 7 14 0 (.array (.int)) 101 := ⟨_, rfl, by decide, rfl, fun _ => rfl, by decide, Or.inl q587, rfl⟩
theorem pf604 : PF "TransportPair$Ranges" 9 15 0 (.array (.long)) 105 := ⟨_, rfl, by decide, rfl, fun _ => rfl, by decide, rfl, rfl, q604⟩
theorem pf606 : PF "TransportPair$Ranges" 15 15 1 (.array (.long)) 105 := ⟨_, rfl, by decide, rfl, fun _ => rfl, by decide, rfl, rfl, q606⟩
theorem pl624 : PL "TransportPair$Space" 9 13 0 (.array (.int)) 101 := ⟨_, rfl, by decide, rfl, fun _ => rfl, by decide, Or.inl q624, rfl⟩
theorem pl626 : PL "TransportPair$Space" 15 13 1 (.array (.short)) 104 := ⟨_, rfl, by decide, rfl, fun _ => rfl, by decide, Or.inl q626, rfl⟩
theorem pl627 : PL "TransportPair$Space" 19 13 2 (.array (.byte)) 102 := ⟨_, rfl, by decide, rfl, fun _ => rfl, by decide, Or.inl q627, rfl⟩
theorem pl635 : PL "TransportPair$Space" 23 13 6 (.int) 0 := ⟨_, rfl, by decide, rfl, fun z => absurd z (by decide), by decide, Or.inl q635, rfl⟩
theorem pl638 : PL "TransportPair$Space" 27 13 7 (.int) 0 := ⟨_, rfl, by decide, rfl, fun z => absurd z (by decide), by decide, Or.inl q638, rfl⟩
theorem pl640 : PL "TransportPair$Space" 30 13 8 (.int) 0 := ⟨_, rfl, by decide, rfl, fun z => absurd z (by decide), by decide, Or.inl q640, rfl⟩
theorem ml583 : ML "TransportPair$Space" 35 y_cQueue_init := Or.inr ⟨_, q583⟩
theorem pf648 : PF "TransportPair$Space" 36 13 11 (.object "TransportPair$Queue") 15 := ⟨_, rfl, by decide, rfl, fun _ => rfl, by decide, rfl, rfl, q648⟩
theorem pf651 : PF "TransportPair$Space" 40 13 12 (.object "TransportPair$Queue") 15 := ⟨_, rfl, by decide, rfl, fun _ => rfl, by decide, rfl, rfl, q651⟩
theorem ml600 : ML "TransportPair$Space" 45 y_cRanges_init := Or.inr ⟨_, q600⟩
theorem pf654 : PF "TransportPair$Space" 46 13 13 (.object "TransportPair$Ranges") 16 := ⟨_, rfl, by decide, rfl, fun _ => rfl, by decide, rfl, rfl, q654⟩
theorem pf703 : PF "TransportPair$Book" 11 10 0 (.array (.object "TransportPair$Space")) 109 := ⟨_, rfl, by decide, rfl, fun _ => rfl, by decide, rfl, rfl, q703⟩
theorem ml527 : ML "TransportPair$Book" 19 y_cTrip_init := Or.inr ⟨_, q527⟩
theorem pf705 : PF "TransportPair$Book" 20 10 1 (.object "TransportPair$Trip") 12 := ⟨_, rfl, by decide, rfl, fun _ => rfl, by decide, rfl, rfl, q705⟩
theorem ml554 : ML "TransportPair$Book" 26 y_cWindow_init := Or.inr ⟨_, q554⟩
theorem pf707 : PF "TransportPair$Book" 27 10 2 (.object "TransportPair$Window") 13 := ⟨_, rfl, by decide, rfl, fun _ => rfl, by decide, rfl, rfl, q707⟩
theorem pf718 : PF "TransportPair$Book" 31 10 8 (.array (.long)) 105 := ⟨_, rfl, by decide, rfl, fun _ => rfl, by decide, rfl, rfl, q718⟩
theorem pf720 : PF "TransportPair$Book" 35 10 9 (.array (.long)) 105 := ⟨_, rfl, by decide, rfl, fun _ => rfl, by decide, rfl, rfl, q720⟩
theorem fl703 : FL "TransportPair$Book" 11 10 0 2 109 := ⟨_, rfl, by decide, rfl, fun _ => rfl, by decide, Or.inl q703⟩
theorem ml577 : ML "TransportPair$Book" 38 y_cSpace_init := Or.inr ⟨_, q577⟩
theorem pl754 : PL "TransportPair$Cargo" 7 16 0 (.array (.int)) 101 := ⟨_, rfl, by decide, rfl, fun _ => rfl, by decide, Or.inl q754, rfl⟩
theorem pl756 : PL "TransportPair$Cargo" 13 16 1 (.array (.int)) 101 := ⟨_, rfl, by decide, rfl, fun _ => rfl, by decide, Or.inl q756, rfl⟩
theorem pl758 : PL "TransportPair$Cargo" 16 16 2 (.array (.byte)) 102 := ⟨_, rfl, by decide, rfl, fun _ => rfl, by decide, Or.inl q758, rfl⟩
theorem pl760 : PL "TransportPair$Cargo" 20 16 3 (.array (.long)) 105 := ⟨_, rfl, by decide, rfl, fun _ => rfl, by decide, Or.inl q760, rfl⟩
theorem pl762 : PL "TransportPair$Cargo" 24 16 4 (.array (.long)) 105 := ⟨_, rfl, by decide, rfl, fun _ => rfl, by decide, Or.inl q762, rfl⟩
theorem pl764 : PL "TransportPair$Cargo" 27 16 5 (.array (.long)) 105 := ⟨_, rfl, by decide, rfl, fun _ => rfl, by decide, Or.inl q764, rfl⟩
theorem fl806 : FL "TransportPair$Parameters" 9 17 0 2 105 := ⟨_, rfl, by decide, rfl, fun _ => rfl, by decide, Or.inl q806⟩
theorem fl808 : FL "TransportPair$Parameters" 15 17 1 2 103 := ⟨_, rfl, by decide, rfl, fun _ => rfl, by decide, Or.inl q808⟩
theorem ml798 : ML "TransportPair$Parameters" 26 y_cParameters_isBytes := Or.inl q798
theorem fl809 : FL "TransportPair$Parameters" 19 17 2 2 101 := ⟨_, rfl, by decide, rfl, fun _ => rfl, by decide, Or.inl q809⟩
theorem pf806 : PF "TransportPair$Parameters" 9 17 0 (.array (.long)) 105 := ⟨_, rfl, by decide, rfl, fun _ => rfl, by decide, rfl, rfl, q806⟩
theorem pf808 : PF "TransportPair$Parameters" 15 17 1 (.array (.boolean)) 103 := ⟨_, rfl, by decide, rfl, fun _ => rfl, by decide, rfl, rfl, q808⟩
theorem pf809 : PF "TransportPair$Parameters" 19 17 2 (.array (.int)) 101 := ⟨_, rfl, by decide, rfl, fun _ => rfl, by decide, rfl, rfl, q809⟩
theorem ml794 : ML "TransportPair$Parameters" 23 y_cParameters_forget := Or.inl q794
theorem pf932 : PF "TransportPair$Frame" 9 20 6 (.array (.long)) 105 := ⟨_, rfl, by decide, rfl, fun _ => rfl, by decide, rfl, rfl, q932⟩
theorem pl946 : PL "TransportPair$Frame" 15 20 12 (.array (.long)) 105 := ⟨_, rfl, by decide, rfl, fun _ => rfl, by decide, Or.inl q946, rfl⟩
theorem pl948 : PL "TransportPair$Frame" 18 20 13 (.array (.long)) 105 := ⟨_, rfl, by decide, rfl, fun _ => rfl, by decide, Or.inl q948, rfl⟩
theorem pf997 : PF "TransportPair$Row" 9 22 0 (.array (.byte)) 102 := ⟨_, rfl, by decide, rfl, fun _ => rfl, by decide, rfl, rfl, q997⟩
theorem pf1011 : PF "TransportPair$Greeting" 9 21 1 (.array (.byte)) 102 := ⟨_, rfl, by decide, rfl, fun _ => rfl, by decide, rfl, rfl, q1011⟩
theorem pf1013 : PF "TransportPair$Greeting" 15 21 2 (.array (.byte)) 102 := ⟨_, rfl, by decide, rfl, fun _ => rfl, by decide, rfl, rfl, q1013⟩
theorem pf1016 : PF "TransportPair$Greeting" 18 21 3 (.array (.byte)) 102 := ⟨_, rfl, by decide, rfl, fun _ => rfl, by decide, rfl, rfl, q1016⟩
theorem ml988 : ML "TransportPair$Greeting" 23 y_cHash_init := Or.inr ⟨_, q988⟩
theorem pf1020 : PF "TransportPair$Greeting" 24 21 5 (.object "TransportPair$Hash") 6 := ⟨_, rfl, by decide, rfl, fun _ => rfl, by decide, rfl, rfl, q1020⟩
theorem ml990 : ML "TransportPair$Greeting" 30 y_cStretch_init := Or.inr ⟨_, q990⟩
theorem pf1021 : PF "TransportPair$Greeting" 31 21 6 (.object "TransportPair$Stretch") 4 := ⟨_, rfl, by decide, rfl, fun _ => rfl, by decide, rfl, rfl, q1021⟩
theorem ml993 : ML "TransportPair$Greeting" 37 y_cRow_init := Or.inr ⟨_, q993⟩
theorem pf1022 : PF "TransportPair$Greeting" 38 21 7 (.object "TransportPair$Row") 23 := ⟨_, rfl, by decide, rfl, fun _ => rfl, by decide, rfl, rfl, q1022⟩
theorem pf1023 : PF "TransportPair$Greeting" 42 21 8 (.array (.object "TransportPair$Row")) 112 := ⟨_, rfl, by decide, rfl, fun _ => rfl, by decide, rfl, rfl, q1023⟩
theorem pf1025 : PF "TransportPair$Greeting" 46 21 9 (.array (.object "TransportPair$Row")) 112 := ⟨_, rfl, by decide, rfl, fun _ => rfl, by decide, rfl, rfl, q1025⟩
theorem pf1026 : PF "TransportPair$Greeting" 51 21 10 (.array (.array (.byte))) 111 := ⟨_, rfl, by decide, rfl, fun _ => rfl, by decide, rfl, rfl, q1026⟩
theorem pf1028 : PF "TransportPair$Greeting" 54 21 11 (.array (.boolean)) 103 := ⟨_, rfl, by decide, rfl, fun _ => rfl, by decide, rfl, rfl, q1028⟩
theorem pf1031 : PF "TransportPair$Greeting" 58 21 12 (.array (.byte)) 102 := ⟨_, rfl, by decide, rfl, fun _ => rfl, by decide, rfl, rfl, q1031⟩
theorem pf1032 : PF "TransportPair$Greeting" 61 21 13 (.array (.byte)) 102 := ⟨_, rfl, by decide, rfl, fun _ => rfl, by decide, rfl, rfl, q1032⟩
theorem pf1033 : PF "TransportPair$Greeting" 64 21 14 (.array (.byte)) 102 := ⟨_, rfl, by decide, rfl, fun _ => rfl, by decide, rfl, rfl, q1033⟩
theorem pf1034 : PF "TransportPair$Greeting" 67 21 15 (.array (.byte)) 102 := ⟨_, rfl, by decide, rfl, fun _ => rfl, by decide, rfl, rfl, q1034⟩
theorem pf1035 : PF "TransportPair$Greeting" 70 21 16 (.array (.byte)) 102 := ⟨_, rfl, by decide, rfl, fun _ => rfl, by decide, rfl, rfl, q1035⟩
theorem pf1036 : PF "TransportPair$Greeting" 73 21 17 (.array (.byte)) 102 := ⟨_, rfl, by decide, rfl, fun _ => rfl, by decide, rfl, rfl, q1036⟩
theorem pl1038 : PL "TransportPair$Greeting" 76 21 18 (.int) 0 := ⟨_, rfl, by decide, rfl, fun z => absurd z (by decide), by decide, Or.inl q1038, rfl⟩
theorem pf1010 : PF "TransportPair$Greeting" 80 21 0 (.int) 0 := ⟨_, rfl, by decide, rfl, fun z => absurd z (by decide), by decide, rfl, rfl, q1010⟩
theorem pl1116 : PL "TransportPair$Way" 11 24 4 (.long) 0 := ⟨_, rfl, by decide, rfl, fun z => absurd z (by decide), by decide, Or.inl q1116, rfl⟩
theorem pl1118 : PL "TransportPair$Way" 17 24 5 (.long) 0 := ⟨_, rfl, by decide, rfl, fun z => absurd z (by decide), by decide, Or.inl q1118, rfl⟩
theorem pl1142 : PL "TransportPair$Spans" 9 25 0 (.array (.int)) 101 := ⟨_, rfl, by decide, rfl, fun _ => rfl, by decide, Or.inl q1142, rfl⟩
theorem pl1144 : PL "TransportPair$Spans" 15 25 1 (.array (.int)) 101 := ⟨_, rfl, by decide, rfl, fun _ => rfl, by decide, Or.inl q1144, rfl⟩
theorem pl1146 : PL "TransportPair$Spans" 18 25 2 (.array (.int)) 101 := ⟨_, rfl, by decide, rfl, fun _ => rfl, by decide, Or.inl q1146, rfl⟩
theorem pl1149 : PL "TransportPair$Spans" 21 25 4 (.int) 0 := ⟨_, rfl, by decide, rfl, fun z => absurd z (by decide), by decide, Or.inl q1149, rfl⟩
theorem pf1168 : PF "TransportPair$Store" 10 26 0 (.array (.byte)) 102 := ⟨_, rfl, by decide, rfl, fun _ => rfl, by decide, rfl, rfl, q1168⟩
theorem pl1171 : PL "TransportPair$Store" 16 26 2 (.array (.int)) 101 := ⟨_, rfl, by decide, rfl, fun _ => rfl, by decide, Or.inl q1171, rfl⟩
theorem pl1172 : PL "TransportPair$Store" 20 26 3 (.array (.int)) 101 := ⟨_, rfl, by decide, rfl, fun _ => rfl, by decide, Or.inl q1172, rfl⟩
theorem pl1173 : PL "TransportPair$Store" 23 26 4 (.array (.int)) 101 := ⟨_, rfl, by decide, rfl, fun _ => rfl, by decide, Or.inl q1173, rfl⟩
theorem pl1194 : PL "TransportPair$Blocks" 9 27 0 (.array (.byte)) 102 := ⟨_, rfl, by decide, rfl, fun _ => rfl, by decide, Or.inl q1194, rfl⟩
theorem pl1195 : PL "TransportPair$Blocks" 15 27 1 (.array (.long)) 105 := ⟨_, rfl, by decide, rfl, fun _ => rfl, by decide, Or.inl q1195, rfl⟩
theorem pl1196 : PL "TransportPair$Blocks" 19 27 2 (.array (.int)) 101 := ⟨_, rfl, by decide, rfl, fun _ => rfl, by decide, Or.inl q1196, rfl⟩
theorem pl1197 : PL "TransportPair$Blocks" 23 27 3 (.array (.int)) 101 := ⟨_, rfl, by decide, rfl, fun _ => rfl, by decide, Or.inl q1197, rfl⟩
theorem pl1199 : PL "TransportPair$Blocks" 26 27 5 (.int) 0 := ⟨_, rfl, by decide, rfl, fun z => absurd z (by decide), by decide, Or.inl q1199, rfl⟩
theorem pf1215 : PF "TransportPair$Hall" 11 23 1 (.array (.object "TransportPair$Sending")) 113 := ⟨_, rfl, by decide, rfl, fun _ => rfl, by decide, rfl, rfl, q1215⟩
theorem pf1216 : PF "TransportPair$Hall" 19 23 2 (.array (.object "TransportPair$Receiving")) 114 := ⟨_, rfl, by decide, rfl, fun _ => rfl, by decide, rfl, rfl, q1216⟩
theorem ml1107 : ML "TransportPair$Hall" 25 y_cWay_init := Or.inr ⟨_, q1107⟩
theorem pf1217 : PF "TransportPair$Hall" 26 23 3 (.array (.object "TransportPair$Way")) 115 := ⟨_, rfl, by decide, rfl, fun _ => rfl, by decide, rfl, rfl, q1217⟩
theorem pf1218 : PF "TransportPair$Hall" 30 23 4 (.array (.int)) 101 := ⟨_, rfl, by decide, rfl, fun _ => rfl, by decide, rfl, rfl, q1218⟩
theorem pf1219 : PF "TransportPair$Hall" 34 23 5 (.array (.long)) 105 := ⟨_, rfl, by decide, rfl, fun _ => rfl, by decide, rfl, rfl, q1219⟩
theorem ml1138 : ML "TransportPair$Hall" 40 y_cSpans_init := Or.inr ⟨_, q1138⟩
theorem pf1220 : PF "TransportPair$Hall" 41 23 6 (.object "TransportPair$Spans") 26 := ⟨_, rfl, by decide, rfl, fun _ => rfl, by decide, rfl, rfl, q1220⟩
theorem ml1163 : ML "TransportPair$Hall" 47 y_cStore_init := Or.inr ⟨_, q1163⟩
theorem pf1221 : PF "TransportPair$Hall" 48 23 7 (.object "TransportPair$Store") 27 := ⟨_, rfl, by decide, rfl, fun _ => rfl, by decide, rfl, rfl, q1221⟩
theorem ml1190 : ML "TransportPair$Hall" 54 y_cBlocks_init := Or.inr ⟨_, q1190⟩
theorem pf1222 : PF "TransportPair$Hall" 55 23 8 (.object "TransportPair$Blocks") 28 := ⟨_, rfl, by decide, rfl, fun _ => rfl, by decide, rfl, rfl, q1222⟩
theorem pl1224 : PL "TransportPair$Hall" 61 23 10 (.long) 0 := ⟨_, rfl, by decide, rfl, fun z => absurd z (by decide), by decide, Or.inl q1224, rfl⟩
theorem pl1229 : PL "TransportPair$Hall" 65 23 15 (.int) 0 := ⟨_, rfl, by decide, rfl, fun z => absurd z (by decide), by decide, Or.inl q1229, rfl⟩
theorem pf1241 : PF "TransportPair$Hall" 69 23 22 (.array (.byte)) 102 := ⟨_, rfl, by decide, rfl, fun _ => rfl, by decide, rfl, rfl, q1241⟩
theorem pf1214 : PF "TransportPair$Hall" 73 23 0 (.int) 0 := ⟨_, rfl, by decide, rfl, fun z => absurd z (by decide), by decide, rfl, rfl, q1214⟩
theorem fl1218 : FL "TransportPair$Hall" 30 23 4 2 101 := ⟨_, rfl, by decide, rfl, fun _ => rfl, by decide, Or.inl q1218⟩
theorem pl1228 : PL "TransportPair$Hall" 76 23 14 (.int) 0 := ⟨_, rfl, by decide, rfl, fun z => absurd z (by decide), by decide, Or.inl q1228, rfl⟩
theorem fl1217 : FL "TransportPair$Hall" 26 23 3 2 115 := ⟨_, rfl, by decide, rfl, fun _ => rfl, by decide, Or.inl q1217⟩
theorem pl1114 : PL "TransportPair$Hall" 79 24 2 (.int) 0 := ⟨_, rfl, by decide, rfl, fun z => absurd z (by decide), by decide, Or.inr ⟨_, q1114⟩, rfl⟩
theorem fl1316 : FL "TransportPair$Side" 134 1 11 2 24 := ⟨_, rfl, by decide, rfl, fun _ => rfl, by decide, Or.inl q1316⟩
theorem fl1343 : FL "TransportPair$Side" 61 1 33 2 101 := ⟨_, rfl, by decide, rfl, fun _ => rfl, by decide, Or.inl q1343⟩
theorem ml1295 : ML "TransportPair$Side" 142 y_cHall_grants := Or.inl q1295
theorem ml323 : ML "TransportPair$Side" 11 y_cBench_init := Or.inr ⟨_, q323⟩
theorem pf1304 : PF "TransportPair$Side" 12 1 3 (.object "TransportPair$Bench") 3 := ⟨_, rfl, by decide, rfl, fun _ => rfl, by decide, rfl, rfl, q1304⟩
theorem ml468 : ML "TransportPair$Side" 20 y_cGuard_init := Or.inr ⟨_, q468⟩
theorem pf1305 : PF "TransportPair$Side" 21 1 4 (.array (.object "TransportPair$Guard")) 107 := ⟨_, rfl, by decide, rfl, fun _ => rfl, by decide, rfl, rfl, q1305⟩
theorem pf1306 : PF "TransportPair$Side" 25 1 5 (.array (.object "TransportPair$Guard")) 107 := ⟨_, rfl, by decide, rfl, fun _ => rfl, by decide, rfl, rfl, q1306⟩
theorem pf1307 : PF "TransportPair$Side" 28 1 6 (.array (.boolean)) 103 := ⟨_, rfl, by decide, rfl, fun _ => rfl, by decide, rfl, rfl, q1307⟩
theorem ml494 : ML "TransportPair$Side" 34 y_cCrypto_init := Or.inr ⟨_, q494⟩
theorem pf1311 : PF "TransportPair$Side" 35 1 8 (.array (.object "TransportPair$Crypto")) 108 := ⟨_, rfl, by decide, rfl, fun _ => rfl, by decide, rfl, rfl, q1311⟩
theorem ml519 : ML "TransportPair$Side" 41 y_cBook_init := Or.inl q519
theorem pf1312 : PF "TransportPair$Side" 42 1 9 (.object "TransportPair$Book") 11 := ⟨_, rfl, by decide, rfl, fun _ => rfl, by decide, rfl, rfl, q1312⟩
theorem ml750 : ML "TransportPair$Side" 48 y_cCargo_init := Or.inr ⟨_, q750⟩
theorem pf1314 : PF "TransportPair$Side" 49 1 10 (.array (.object "TransportPair$Cargo")) 110 := ⟨_, rfl, by decide, rfl, fun _ => rfl, by decide, rfl, rfl, q1314⟩
theorem pf1318 : PF "TransportPair$Side" 53 1 12 (.array (.byte)) 102 := ⟨_, rfl, by decide, rfl, fun _ => rfl, by decide, rfl, rfl, q1318⟩
theorem pf1341 : PF "TransportPair$Side" 57 1 32 (.array (.int)) 101 := ⟨_, rfl, by decide, rfl, fun _ => rfl, by decide, rfl, rfl, q1341⟩
theorem pf1343 : PF "TransportPair$Side" 61 1 33 (.array (.int)) 101 := ⟨_, rfl, by decide, rfl, fun _ => rfl, by decide, rfl, rfl, q1343⟩
theorem ml790 : ML "TransportPair$Side" 66 y_cParameters_init := Or.inl q790
theorem pf1345 : PF "TransportPair$Side" 67 1 34 (.object "TransportPair$Parameters") 18 := ⟨_, rfl, by decide, rfl, fun _ => rfl, by decide, rfl, rfl, q1345⟩
theorem ml826 : ML "TransportPair$Side" 73 y_cBytes_init := Or.inr ⟨_, q826⟩
theorem pf1346 : PF "TransportPair$Side" 74 1 35 (.object "TransportPair$Bytes") 19 := ⟨_, rfl, by decide, rfl, fun _ => rfl, by decide, rfl, rfl, q1346⟩
theorem pf1347 : PF "TransportPair$Side" 78 1 36 (.object "TransportPair$Bytes") 19 := ⟨_, rfl, by decide, rfl, fun _ => rfl, by decide, rfl, rfl, q1347⟩
theorem ml857 : ML "TransportPair$Side" 83 y_cHeader_init := Or.inr ⟨_, q857⟩
theorem pf1348 : PF "TransportPair$Side" 84 1 37 (.object "TransportPair$Header") 20 := ⟨_, rfl, by decide, rfl, fun _ => rfl, by decide, rfl, rfl, q1348⟩
theorem ml911 : ML "TransportPair$Side" 90 y_cFrame_init := Or.inr ⟨_, q911⟩
theorem pf1349 : PF "TransportPair$Side" 91 1 38 (.object "TransportPair$Frame") 21 := ⟨_, rfl, by decide, rfl, fun _ => rfl, by decide, rfl, rfl, q1349⟩
theorem pf1350 : PF "TransportPair$Side" 95 1 39 (.array (.byte)) 102 := ⟨_, rfl, by decide, rfl, fun _ => rfl, by decide, rfl, rfl, q1350⟩
theorem pf1351 : PF "TransportPair$Side" 98 1 40 (.array (.byte)) 102 := ⟨_, rfl, by decide, rfl, fun _ => rfl, by decide, rfl, rfl, q1351⟩
theorem pf1355 : PF "TransportPair$Side" 103 1 42 (.array (.array (.byte))) 111 := ⟨_, rfl, by decide, rfl, fun _ => rfl, by decide, rfl, rfl, q1355⟩
theorem pf1356 : PF "TransportPair$Side" 106 1 43 (.array (.int)) 101 := ⟨_, rfl, by decide, rfl, fun _ => rfl, by decide, rfl, rfl, q1356⟩
theorem pf1357 : PF "TransportPair$Side" 109 1 44 (.array (.boolean)) 103 := ⟨_, rfl, by decide, rfl, fun _ => rfl, by decide, rfl, rfl, q1357⟩
theorem pf1358 : PF "TransportPair$Side" 112 1 45 (.array (.boolean)) 103 := ⟨_, rfl, by decide, rfl, fun _ => rfl, by decide, rfl, rfl, q1358⟩
theorem pf1359 : PF "TransportPair$Side" 115 1 46 (.array (.boolean)) 103 := ⟨_, rfl, by decide, rfl, fun _ => rfl, by decide, rfl, rfl, q1359⟩
theorem pf1299 : PF "TransportPair$Side" 118 1 0 (.int) 0 := ⟨_, rfl, by decide, rfl, fun z => absurd z (by decide), by decide, rfl, rfl, q1299⟩
theorem ml983 : ML "TransportPair$Side" 124 y_cGreeting_init := Or.inl q983
theorem pf1309 : PF "TransportPair$Side" 127 1 7 (.object "TransportPair$Greeting") 22 := ⟨_, rfl, by decide, rfl, fun _ => rfl, by decide, rfl, rfl, q1309⟩
theorem ml1096 : ML "TransportPair$Side" 133 y_cHall_init := Or.inl q1096
theorem pf1316 : PF "TransportPair$Side" 134 1 11 (.object "TransportPair$Hall") 24 := ⟨_, rfl, by decide, rfl, fun _ => rfl, by decide, rfl, rfl, q1316⟩
theorem ml1291 : ML "TransportPair$Side" 139 y_cSide_grants := Or.inl q1291
theorem pf1463 : PF "TransportPair$Line" 13 28 0 (.array (.array (.byte))) 111 := ⟨_, rfl, by decide, rfl, fun _ => rfl, by decide, rfl, rfl, q1463⟩
theorem pf1465 : PF "TransportPair$Line" 16 28 1 (.array (.int)) 101 := ⟨_, rfl, by decide, rfl, fun _ => rfl, by decide, rfl, rfl, q1465⟩
theorem pf1467 : PF "TransportPair$Line" 20 28 2 (.array (.int)) 101 := ⟨_, rfl, by decide, rfl, fun _ => rfl, by decide, rfl, rfl, q1467⟩
theorem pf1490 : PF "TransportPair" 16 0 0 (.array (.byte)) 102 := ⟨_, rfl, by decide, rfl, fun _ => rfl, by decide, rfl, rfl, q1490⟩
theorem pf1491 : PF "TransportPair" 20 0 1 (.array (.byte)) 102 := ⟨_, rfl, by decide, rfl, fun _ => rfl, by decide, rfl, rfl, q1491⟩
theorem pf1495 : PF "TransportPair" 23 0 5 (.array (.byte)) 102 := ⟨_, rfl, by decide, rfl, fun _ => rfl, by decide, rfl, rfl, q1495⟩
theorem ml317 : ML "TransportPair" 28 y_cSide_init := Or.inl q317
theorem pf1497 : PF "TransportPair" 31 0 7 (.array (.object "TransportPair$Side")) 106 := ⟨_, rfl, by decide, rfl, fun _ => rfl, by decide, rfl, rfl, q1497⟩
theorem ml1458 : ML "TransportPair" 37 y_cLine_init := Or.inr ⟨_, q1458⟩
theorem pf1498 : PF "TransportPair" 38 0 8 (.array (.object "TransportPair$Line")) 116 := ⟨_, rfl, by decide, rfl, fun _ => rfl, by decide, rfl, rfl, q1498⟩
theorem pf1499 : PF "TransportPair" 44 0 9 (.array (.array (.boolean))) 117 := ⟨_, rfl, by decide, rfl, fun _ => rfl, by decide, rfl, rfl, q1499⟩
theorem ml1603 : ML "TransportPair" 56 y_cP_in := Or.inl q1603
theorem ml1606 : ML "TransportPair" 60 y_cP_need := Or.inl q1606
theorem fl1497 : FL "TransportPair" 31 0 7 2 106 := ⟨_, rfl, by decide, rfl, fun _ => rfl, by decide, Or.inl q1497⟩
theorem fl1498 : FL "TransportPair" 38 0 8 2 116 := ⟨_, rfl, by decide, rfl, fun _ => rfl, by decide, Or.inl q1498⟩
theorem fl1470 : FL "TransportPair" 64 28 3 0 0 := ⟨_, rfl, by decide, rfl, fun z => absurd z (by decide), by decide, Or.inr ⟨_, q1470⟩⟩
theorem ml2176 : ML "TransportPair" 68 y_cP_there := Or.inl q2176
theorem fl1492 : FL "TransportPair" 71 0 2 0 0 := ⟨_, rfl, by decide, rfl, fun z => absurd z (by decide), by decide, Or.inl q1492⟩
theorem pl1492 : PL "TransportPair" 71 0 2 (.int) 0 := ⟨_, rfl, by decide, rfl, fun z => absurd z (by decide), by decide, Or.inl q1492, rfl⟩
theorem ml1529 : ML "TransportPair" 74 y_cP_ready := Or.inl q1529
theorem fl1490 : FL "TransportPair" 16 0 0 2 102 := ⟨_, rfl, by decide, rfl, fun _ => rfl, by decide, Or.inl q1490⟩
theorem ml1635 : ML "TransportPair" 77 y_cP_of := Or.inl q1635
theorem fl1301 : FL "TransportPair" 81 1 1 0 0 := ⟨_, rfl, by decide, rfl, fun z => absurd z (by decide), by decide, Or.inr ⟨_, q1301⟩⟩
theorem fl1310 : FL "TransportPair" 84 1 7 2 22 := ⟨_, rfl, by decide, rfl, fun _ => rfl, by decide, Or.inr ⟨_, q1310⟩⟩
theorem fl1015 : FL "TransportPair" 93 21 2 2 102 := ⟨_, rfl, by decide, rfl, fun _ => rfl, by decide, Or.inr ⟨_, q1015⟩⟩
theorem fl1012 : FL "TransportPair" 88 21 1 2 102 := ⟨_, rfl, by decide, rfl, fun _ => rfl, by decide, Or.inr ⟨_, q1012⟩⟩
theorem ml1639 : ML "TransportPair" 96 y_cP_used := Or.inl q1639
theorem fl1499 : FL "TransportPair" 44 0 9 2 117 := ⟨_, rfl, by decide, rfl, fun _ => rfl, by decide, Or.inl q1499⟩
theorem ml1631 : ML "TransportPair" 106 y_cP_told := Or.inl q1631
theorem fl1344 : FL "TransportPair" 118 1 33 2 101 := ⟨_, rfl, by decide, rfl, fun _ => rfl, by decide, Or.inr ⟨_, q1344⟩⟩
theorem ml1665 : ML "TransportPair" 122 y_cSide_grants := Or.inl q1665
theorem sl1698 : SL "TransportPair$Hash" 22 0 := Or.inl q1698
theorem fl345 : FL "TransportPair$Hash" 9 5 0 2 101 := ⟨_, rfl, by decide, rfl, fun _ => rfl, by decide, Or.inl q345⟩
theorem pl348 : PL "TransportPair$Hash" 31 5 3 (.int) 0 := ⟨_, rfl, by decide, rfl, fun z => absurd z (by decide), by decide, Or.inl q348, rfl⟩
theorem pl349 : PL "TransportPair$Hash" 35 5 4 (.long) 0 := ⟨_, rfl, by decide, rfl, fun z => absurd z (by decide), by decide, Or.inl q349, rfl⟩
theorem fl346 : FL "TransportPair$Hash" 15 5 1 2 101 := ⟨_, rfl, by decide, rfl, fun _ => rfl, by decide, Or.inl q346⟩
theorem fl347 : FL "TransportPair$Hash" 18 5 2 2 102 := ⟨_, rfl, by decide, rfl, fun _ => rfl, by decide, Or.inl q347⟩
theorem ml1717 : ML "TransportPair$Hash" 48 y_jInteger_rotateRight := Or.inl q1717
theorem ml1713 : ML "TransportPair$Hash" 54 y_cHash_spread := Or.inl q1713
theorem sl1720 : SL "TransportPair$Hash" 57 1 := Or.inl q1720
theorem fl348 : FL "TransportPair$Hash" 31 5 3 0 0 := ⟨_, rfl, by decide, rfl, fun z => absurd z (by decide), by decide, Or.inl q348⟩
theorem ml1709 : ML "TransportPair$Hash" 39 y_cHash_work := Or.inl q1709
theorem fl349 : FL "TransportPair$Hash" 35 5 4 1 0 := ⟨_, rfl, by decide, rfl, fun z => absurd z (by decide), by decide, Or.inl q349⟩
theorem ml1705 : ML "TransportPair$Hash" 42 y_cHash_addByte := Or.inl q1705
theorem fl365 : FL "TransportPair$Mac" 21 4 2 2 102 := ⟨_, rfl, by decide, rfl, fun _ => rfl, by decide, Or.inl q365⟩
theorem fl363 : FL "TransportPair$Mac" 12 4 0 2 6 := ⟨_, rfl, by decide, rfl, fun _ => rfl, by decide, Or.inl q363⟩
theorem ml1694 : ML "TransportPair$Mac" 28 y_cHash_begin := Or.inl q1694
theorem ml1701 : ML "TransportPair$Mac" 31 y_cHash_add := Or.inl q1701
theorem ml1722 : ML "TransportPair$Mac" 35 y_cHash_end := Or.inl q1722
theorem ml1727 : ML "TransportPair$Mac" 39 y_cMac_turn := Or.inl q1727
theorem fl364 : FL "TransportPair$Mac" 18 4 1 2 6 := ⟨_, rfl, by decide, rfl, fun _ => rfl, by decide, Or.inl q364⟩
theorem fl366 : FL "TransportPair$Mac" 25 4 3 2 102 := ⟨_, rfl, by decide, rfl, fun _ => rfl, by decide, Or.inl q366⟩
theorem fl1021 : FL "TransportPair$Greeting" 31 21 6 2 4 := ⟨_, rfl, by decide, rfl, fun _ => rfl, by decide, Or.inl q1021⟩
theorem fl377 : FL "TransportPair$Greeting" 100 3 0 2 5 := ⟨_, rfl, by decide, rfl, fun _ => rfl, by decide, Or.inr ⟨_, q377⟩⟩
theorem ml1690 : ML "TransportPair$Greeting" 104 y_cMac_begin := Or.inl q1690
theorem ml1731 : ML "TransportPair$Greeting" 108 y_cMac_add := Or.inl q1731
theorem ml1735 : ML "TransportPair$Greeting" 109 y_cMac_end := Or.inl q1735
theorem sl1760 : SL "java/lang/String" 38 13 := Or.inl q1760
theorem ml1756 : ML "java/lang/String" 335 y_jString_coder := Or.inl q1756
theorem sl1776 : SL "java/lang/String" 1053 12 := Or.inl q1776
theorem ml1778 : ML "java/lang/String" 1059 y_jPreconditions_checkIndex := Or.inl q1778
theorem ml1773 : ML "java/lang/StringLatin1" 9 y_jString_checkIndex := Or.inl q1773
theorem ml1766 : ML "java/lang/String" 492 y_jString_isLatin1 := Or.inl q1766
theorem ml1770 : ML "java/lang/String" 495 y_jStringLatin1_charAt := Or.inl q1770
theorem fl376 : FL "TransportPair$Stretch" 12 3 0 2 5 := ⟨_, rfl, by decide, rfl, fun _ => rfl, by decide, Or.inl q376⟩
theorem ml1805 : ML "TransportPair$Stretch" 28 y_cMac_begin := Or.inl q1805
theorem fl378 : FL "TransportPair$Stretch" 18 3 1 2 102 := ⟨_, rfl, by decide, rfl, fun _ => rfl, by decide, Or.inl q378⟩
theorem ml1806 : ML "TransportPair$Stretch" 32 y_cMac_add := Or.inl q1806
theorem fl380 : FL "TransportPair$Stretch" 25 3 3 2 102 := ⟨_, rfl, by decide, rfl, fun _ => rfl, by decide, Or.inl q380⟩
theorem ml1807 : ML "TransportPair$Stretch" 36 y_cMac_end := Or.inl q1807
theorem ml1752 : ML "TransportPair$Stretch" 57 y_jString_length := Or.inl q1752
theorem fl379 : FL "TransportPair$Stretch" 22 3 2 2 102 := ⟨_, rfl, by decide, rfl, fun _ => rfl, by decide, Or.inl q379⟩
theorem ml1801 : ML "TransportPair$Stretch" 67 y_cStretch_stretch := Or.inl q1801
theorem ml1762 : ML "TransportPair$Stretch" 63 y_jString_charAt := Or.inl q1762
theorem fl1026 : FL "TransportPair$Greeting" 51 21 10 2 111 := ⟨_, rfl, by decide, rfl, fun _ => rfl, by decide, Or.inl q1026⟩
theorem ml1748 : ML "TransportPair$Greeting" 110 y_cStretch_label := Or.inl q1748
theorem fl1028 : FL "TransportPair$Greeting" 54 21 11 2 103 := ⟨_, rfl, by decide, rfl, fun _ => rfl, by decide, Or.inl q1028⟩
theorem fl1034 : FL "TransportPair$Greeting" 67 21 15 2 102 := ⟨_, rfl, by decide, rfl, fun _ => rfl, by decide, Or.inl q1034⟩
theorem fl1033 : FL "TransportPair$Greeting" 64 21 14 2 102 := ⟨_, rfl, by decide, rfl, fun _ => rfl, by decide, Or.inl q1033⟩
theorem ml1686 : ML "TransportPair$Greeting" 114 y_cGreeting_mac := Or.inl q1686
theorem sl1740 : SL "TransportPair$Greeting" 123 5 := Or.inl q1740
theorem sl1742 : SL "TransportPair$Greeting" 129 6 := Or.inl q1742
theorem fl1035 : FL "TransportPair$Greeting" 70 21 16 2 102 := ⟨_, rfl, by decide, rfl, fun _ => rfl, by decide, Or.inl q1035⟩
theorem ml1744 : ML "TransportPair$Greeting" 132 y_cGreeting_secrets := Or.inl q1744
theorem fl437 : FL "TransportPair$Guard" 24 2 0 2 4 := ⟨_, rfl, by decide, rfl, fun _ => rfl, by decide, Or.inr ⟨_, q437⟩⟩
theorem fl472 : FL "TransportPair$Guard" 9 8 0 2 102 := ⟨_, rfl, by decide, rfl, fun _ => rfl, by decide, Or.inl q472⟩
theorem sl1824 : SL "TransportPair$Guard" 30 2 := Or.inl q1824
theorem fl443 : FL "TransportPair$Guard" 36 2 3 2 102 := ⟨_, rfl, by decide, rfl, fun _ => rfl, by decide, Or.inr ⟨_, q443⟩⟩
theorem fl473 : FL "TransportPair$Guard" 15 8 1 2 102 := ⟨_, rfl, by decide, rfl, fun _ => rfl, by decide, Or.inl q473⟩
theorem ml1826 : ML "TransportPair$Guard" 39 y_cStretch_label := Or.inl q1826
theorem sl1827 : SL "TransportPair$Guard" 45 3 := Or.inl q1827
theorem fl474 : FL "TransportPair$Guard" 18 8 2 2 102 := ⟨_, rfl, by decide, rfl, fun _ => rfl, by decide, Or.inl q474⟩
theorem ml1820 : ML "TransportPair$Guard" 54 y_cGuard_makeKeys := Or.inl q1820
theorem sl1829 : SL "TransportPair$Guard" 58 4 := Or.inl q1829
theorem fl475 : FL "TransportPair$Guard" 21 8 3 2 102 := ⟨_, rfl, by decide, rfl, fun _ => rfl, by decide, Or.inl q475⟩
theorem pl476 : PL "TransportPair$Guard" 61 8 4 (.boolean) 0 := ⟨_, rfl, by decide, rfl, fun z => absurd z (by decide), by decide, Or.inl q476, rfl⟩
theorem pl477 : PL "TransportPair$Guard" 65 8 5 (.int) 0 := ⟨_, rfl, by decide, rfl, fun z => absurd z (by decide), by decide, Or.inl q477, rfl⟩
theorem fl1305 : FL "TransportPair$Side" 21 1 4 2 107 := ⟨_, rfl, by decide, rfl, fun _ => rfl, by decide, Or.inl q1305⟩
theorem fl1309 : FL "TransportPair$Side" 127 1 7 2 22 := ⟨_, rfl, by decide, rfl, fun _ => rfl, by decide, Or.inl q1309⟩
theorem fl1027 : FL "TransportPair$Side" 202 21 10 2 111 := ⟨_, rfl, by decide, rfl, fun _ => rfl, by decide, Or.inr ⟨_, q1027⟩⟩
theorem fl1299 : FL "TransportPair$Side" 118 1 0 0 0 := ⟨_, rfl, by decide, rfl, fun z => absurd z (by decide), by decide, Or.inl q1299⟩
theorem fl1304 : FL "TransportPair$Side" 12 1 3 2 3 := ⟨_, rfl, by decide, rfl, fun _ => rfl, by decide, Or.inl q1304⟩
theorem ml1815 : ML "TransportPair$Side" 205 y_cGuard_arm := Or.inl q1815
theorem fl1306 : FL "TransportPair$Side" 25 1 5 2 107 := ⟨_, rfl, by decide, rfl, fun _ => rfl, by decide, Or.inl q1306⟩
theorem fl1307 : FL "TransportPair$Side" 28 1 6 2 103 := ⟨_, rfl, by decide, rfl, fun _ => rfl, by decide, Or.inl q1307⟩
theorem fl1318 : FL "TransportPair$Side" 53 1 12 2 102 := ⟨_, rfl, by decide, rfl, fun _ => rfl, by decide, Or.inl q1318⟩
theorem fl1014 : FL "TransportPair$Side" 190 21 2 2 102 := ⟨_, rfl, by decide, rfl, fun _ => rfl, by decide, Or.inr ⟨_, q1014⟩⟩
theorem ml1682 : ML "TransportPair$Side" 193 y_cGreeting_first := Or.inl q1682
theorem ml1811 : ML "TransportPair$Side" 196 y_cSide_arm := Or.inl q1811
theorem pl830 : PL "TransportPair$Bytes" 9 18 0 (.array (.byte)) 102 := ⟨_, rfl, by decide, rfl, fun _ => rfl, by decide, Or.inl q830, rfl⟩
theorem pl833 : PL "TransportPair$Bytes" 15 18 1 (.int) 0 := ⟨_, rfl, by decide, rfl, fun z => absurd z (by decide), by decide, Or.inl q833, rfl⟩
theorem pl838 : PL "TransportPair$Bytes" 19 18 2 (.int) 0 := ⟨_, rfl, by decide, rfl, fun z => absurd z (by decide), by decide, Or.inl q838, rfl⟩
theorem pl841 : PL "TransportPair$Bytes" 22 18 3 (.boolean) 0 := ⟨_, rfl, by decide, rfl, fun z => absurd z (by decide), by decide, Or.inl q841, rfl⟩
theorem fl841 : FL "TransportPair$Bytes" 22 18 3 0 0 := ⟨_, rfl, by decide, rfl, fun z => absurd z (by decide), by decide, Or.inl q841⟩
theorem fl838 : FL "TransportPair$Bytes" 19 18 2 0 0 := ⟨_, rfl, by decide, rfl, fun z => absurd z (by decide), by decide, Or.inl q838⟩
theorem fl833 : FL "TransportPair$Bytes" 15 18 1 0 0 := ⟨_, rfl, by decide, rfl, fun z => absurd z (by decide), by decide, Or.inl q833⟩
theorem ml1861 : ML "TransportPair$Bytes" 26 y_cBytes_step := Or.inl q1861
theorem fl830 : FL "TransportPair$Bytes" 9 18 0 2 102 := ⟨_, rfl, by decide, rfl, fun _ => rfl, by decide, Or.inl q830⟩
theorem ml1857 : ML "TransportPair$Bytes" 50 y_cBytes_putMany := Or.inl q1857
theorem ml1847 : ML "TransportPair$Bytes" 42 y_cBytes_sizeOf := Or.inl q1847
theorem ml1853 : ML "TransportPair$Bytes" 46 y_cBytes_putSized := Or.inl q1853
theorem fl1347 : FL "TransportPair$Side" 78 1 36 2 19 := ⟨_, rfl, by decide, rfl, fun _ => rfl, by decide, Or.inl q1347⟩
theorem ml1843 : ML "TransportPair$Side" 165 y_cBytes_putNumber := Or.inl q1843
theorem ml1866 : ML "TransportPair$Side" 181 y_cBytes_putRow := Or.inl q1866
theorem fl1017 : FL "TransportPair$Side" 148 21 3 2 102 := ⟨_, rfl, by decide, rfl, fun _ => rfl, by decide, Or.inr ⟨_, q1017⟩⟩
theorem ml1835 : ML "TransportPair$Side" 151 y_cBytes_over := Or.inl q1835
theorem ml1839 : ML "TransportPair$Side" 155 y_cSide_put_II := Or.inl q1839
theorem fl835 : FL "TransportPair$Side" 173 18 1 0 0 := ⟨_, rfl, by decide, rfl, fun z => absurd z (by decide), by decide, Or.inr ⟨_, q835⟩⟩
theorem pl1018 : PL "TransportPair$Side" 176 21 4 (.int) 0 := ⟨_, rfl, by decide, rfl, fun z => absurd z (by decide), by decide, Or.inr ⟨_, q1018⟩, rfl⟩
theorem ml1873 : ML "TransportPair$Side" 169 y_cBytes_sizeOf := Or.inl q1873
theorem fl997 : FL "TransportPair$Row" 9 22 0 2 102 := ⟨_, rfl, by decide, rfl, fun _ => rfl, by decide, Or.inl q997⟩
theorem fl1000 : FL "TransportPair$Row" 15 22 1 0 0 := ⟨_, rfl, by decide, rfl, fun z => absurd z (by decide), by decide, Or.inl q1000⟩
theorem pl1000 : PL "TransportPair$Row" 15 22 1 (.int) 0 := ⟨_, rfl, by decide, rfl, fun z => absurd z (by decide), by decide, Or.inl q1000, rfl⟩
theorem fl1023 : FL "TransportPair$Greeting" 42 21 8 2 112 := ⟨_, rfl, by decide, rfl, fun _ => rfl, by decide, Or.inl q1023⟩
theorem fl1001 : FL "TransportPair$Greeting" 89 22 1 0 0 := ⟨_, rfl, by decide, rfl, fun z => absurd z (by decide), by decide, Or.inr ⟨_, q1001⟩⟩
theorem ml1882 : ML "TransportPair$Greeting" 166 y_cRow_put := Or.inl q1882
theorem ml1886 : ML "TransportPair$Greeting" 170 y_cRow_add := Or.inl q1886
theorem fl1022 : FL "TransportPair$Greeting" 38 21 7 2 23 := ⟨_, rfl, by decide, rfl, fun _ => rfl, by decide, Or.inl q1022⟩
theorem fl998 : FL "TransportPair$Greeting" 86 22 0 2 102 := ⟨_, rfl, by decide, rfl, fun _ => rfl, by decide, Or.inr ⟨_, q998⟩⟩
theorem pl1044 : PL "TransportPair$Greeting" 152 21 21 (.boolean) 0 := ⟨_, rfl, by decide, rfl, fun z => absurd z (by decide), by decide, Or.inl q1044, rfl⟩
theorem fl1010 : FL "TransportPair$Greeting" 80 21 0 0 0 := ⟨_, rfl, by decide, rfl, fun z => absurd z (by decide), by decide, Or.inl q1010⟩
theorem pl1042 : PL "TransportPair$Greeting" 156 21 20 (.int) 0 := ⟨_, rfl, by decide, rfl, fun z => absurd z (by decide), by decide, Or.inl q1042, rfl⟩
theorem fl1013 : FL "TransportPair$Greeting" 15 21 2 2 102 := ⟨_, rfl, by decide, rfl, fun _ => rfl, by decide, Or.inl q1013⟩
theorem fl1016 : FL "TransportPair$Greeting" 18 21 3 2 102 := ⟨_, rfl, by decide, rfl, fun _ => rfl, by decide, Or.inl q1016⟩
theorem fl1019 : FL "TransportPair$Greeting" 159 21 4 0 0 := ⟨_, rfl, by decide, rfl, fun z => absurd z (by decide), by decide, Or.inl q1019⟩
theorem ml1878 : ML "TransportPair$Greeting" 162 y_cGreeting_sends := Or.inl q1878
theorem pl1300 : PL "TransportPair$Side" 145 1 1 (.int) 0 := ⟨_, rfl, by decide, rfl, fun z => absurd z (by decide), by decide, Or.inl q1300, rfl⟩
theorem ml1677 : ML "TransportPair$Side" 208 y_cSide_name := Or.inl q1677
theorem ml1831 : ML "TransportPair$Side" 212 y_cSide_tell := Or.inl q1831
theorem ml1874 : ML "TransportPair$Side" 215 y_cGreeting_begin := Or.inl q1874
theorem fl1312 : FL "TransportPair$Side" 42 1 9 2 11 := ⟨_, rfl, by decide, rfl, fun _ => rfl, by decide, Or.inl q1312⟩
theorem pl716 : PL "TransportPair$Side" 218 10 7 (.boolean) 0 := ⟨_, rfl, by decide, rfl, fun z => absurd z (by decide), by decide, Or.inr ⟨_, q716⟩, rfl⟩
theorem fl710 : FL "TransportPair$Side" 222 10 3 0 0 := ⟨_, rfl, by decide, rfl, fun z => absurd z (by decide), by decide, Or.inr ⟨_, q710⟩⟩
theorem pl1335 : PL "TransportPair$Side" 225 1 26 (.int) 0 := ⟨_, rfl, by decide, rfl, fun z => absurd z (by decide), by decide, Or.inl q1335, rfl⟩
theorem ml1673 : ML "TransportPair" 125 y_cSide_begin := Or.inl q1673
theorem fl1214 : FL "TransportPair$Hall" 73 23 0 0 0 := ⟨_, rfl, by decide, rfl, fun z => absurd z (by decide), by decide, Or.inl q1214⟩
theorem ml1906 : ML "TransportPair$Hall" 98 y_cHall_isOneWay := Or.inl q1906
theorem ml1910 : ML "TransportPair$Hall" 102 y_cHall_isOwn := Or.inl q1910
theorem pl1930 : PL "TransportPair$Sending" 9 32 4 (.int) 0 := ⟨_, rfl, by decide, rfl, fun z => absurd z (by decide), by decide, Or.inl q1930, rfl⟩
theorem pl1932 : PL "TransportPair$Sending" 15 32 5 (.int) 0 := ⟨_, rfl, by decide, rfl, fun z => absurd z (by decide), by decide, Or.inl q1932, rfl⟩
theorem pl1934 : PL "TransportPair$Sending" 18 32 6 (.int) 0 := ⟨_, rfl, by decide, rfl, fun z => absurd z (by decide), by decide, Or.inl q1934, rfl⟩
theorem pl1936 : PL "TransportPair$Sending" 21 32 7 (.int) 0 := ⟨_, rfl, by decide, rfl, fun z => absurd z (by decide), by decide, Or.inl q1936, rfl⟩
theorem pl1942 : PL "TransportPair$Sending" 26 32 10 (.long) 0 := ⟨_, rfl, by decide, rfl, fun z => absurd z (by decide), by decide, Or.inl q1942, rfl⟩
theorem pl1938 : PL "TransportPair$Sending" 30 32 8 (.long) 0 := ⟨_, rfl, by decide, rfl, fun z => absurd z (by decide), by decide, Or.inl q1938, rfl⟩
theorem pl1987 : PL "TransportPair$Receiving" 9 33 5 (.int) 0 := ⟨_, rfl, by decide, rfl, fun z => absurd z (by decide), by decide, Or.inl q1987, rfl⟩
theorem pl1991 : PL "TransportPair$Receiving" 15 33 7 (.int) 0 := ⟨_, rfl, by decide, rfl, fun z => absurd z (by decide), by decide, Or.inl q1991, rfl⟩
theorem pf1976 : PF "TransportPair$Receiving" 18 33 0 (.int) 0 := ⟨_, rfl, by decide, rfl, fun z => absurd z (by decide), by decide, rfl, rfl, q1976⟩
theorem pl1989 : PL "TransportPair$Receiving" 21 33 6 (.int) 0 := ⟨_, rfl, by decide, rfl, fun z => absurd z (by decide), by decide, Or.inl q1989, rfl⟩
theorem fl1215 : FL "TransportPair$Hall" 11 23 1 2 113 := ⟨_, rfl, by decide, rfl, fun _ => rfl, by decide, Or.inl q1215⟩
theorem fl1219 : FL "TransportPair$Hall" 34 23 5 2 105 := ⟨_, rfl, by decide, rfl, fun _ => rfl, by decide, Or.inl q1219⟩
theorem ml1915 : ML "TransportPair$Hall" 105 y_cHall_rule := Or.inl q1915
theorem ml1919 : ML "TransportPair$Hall" 109 y_cSending_init := Or.inl q1919
theorem fl1216 : FL "TransportPair$Hall" 19 23 2 2 114 := ⟨_, rfl, by decide, rfl, fun _ => rfl, by decide, Or.inl q1216⟩
theorem ml1972 : ML "TransportPair$Hall" 112 y_cReceiving_init := Or.inl q1972
theorem fl1112 : FL "TransportPair$Hall" 115 24 0 0 0 := ⟨_, rfl, by decide, rfl, fun z => absurd z (by decide), by decide, Or.inr ⟨_, q1112⟩⟩
theorem fl1115 : FL "TransportPair$Hall" 93 24 3 1 0 := ⟨_, rfl, by decide, rfl, fun z => absurd z (by decide), by decide, Or.inr ⟨_, q1115⟩⟩
theorem pl1117 : PL "TransportPair$Hall" 118 24 4 (.long) 0 := ⟨_, rfl, by decide, rfl, fun z => absurd z (by decide), by decide, Or.inr ⟨_, q1117⟩, rfl⟩
theorem pl1112 : PL "TransportPair$Hall" 115 24 0 (.int) 0 := ⟨_, rfl, by decide, rfl, fun z => absurd z (by decide), by decide, Or.inr ⟨_, q1112⟩, rfl⟩
theorem ml1902 : ML "TransportPair$Hall" 121 y_cHall_begin := Or.inl q1902
theorem fl1317 : FL "TransportPair" 128 1 11 2 24 := ⟨_, rfl, by decide, rfl, fun _ => rfl, by decide, Or.inr ⟨_, q1317⟩⟩
theorem ml1898 : ML "TransportPair" 132 y_cHall_open := Or.inl q1898
theorem fl1174 : FL "TransportPair$Store" 26 26 5 0 0 := ⟨_, rfl, by decide, rfl, fun z => absurd z (by decide), by decide, Or.inl q1174⟩
theorem fl1171 : FL "TransportPair$Store" 16 26 2 2 101 := ⟨_, rfl, by decide, rfl, fun _ => rfl, by decide, Or.inl q1171⟩
theorem ml2049 : ML "TransportPair$Store" 30 y_jArrays_copyOf_AII := Or.inl q2049
theorem fl1172 : FL "TransportPair$Store" 20 26 3 2 101 := ⟨_, rfl, by decide, rfl, fun _ => rfl, by decide, Or.inl q1172⟩
theorem fl1173 : FL "TransportPair$Store" 23 26 4 2 101 := ⟨_, rfl, by decide, rfl, fun _ => rfl, by decide, Or.inl q1173⟩
theorem fl1169 : FL "TransportPair$Store" 36 26 1 0 0 := ⟨_, rfl, by decide, rfl, fun z => absurd z (by decide), by decide, Or.inl q1169⟩
theorem pl1174 : PL "TransportPair$Store" 26 26 5 (.int) 0 := ⟨_, rfl, by decide, rfl, fun z => absurd z (by decide), by decide, Or.inl q1174, rfl⟩
theorem fl1933 : FL "TransportPair$Store" 45 32 5 0 0 := ⟨_, rfl, by decide, rfl, fun z => absurd z (by decide), by decide, Or.inr ⟨_, q1933⟩⟩
theorem ml2045 : ML "TransportPair$Store" 50 y_cStore_piece := Or.inl q2045
theorem pl1931 : PL "TransportPair$Store" 54 32 4 (.int) 0 := ⟨_, rfl, by decide, rfl, fun z => absurd z (by decide), by decide, Or.inr ⟨_, q1931⟩, rfl⟩
theorem pl1933 : PL "TransportPair$Store" 45 32 5 (.int) 0 := ⟨_, rfl, by decide, rfl, fun z => absurd z (by decide), by decide, Or.inr ⟨_, q1933⟩, rfl⟩
theorem fl1168 : FL "TransportPair$Store" 10 26 0 2 102 := ⟨_, rfl, by decide, rfl, fun _ => rfl, by decide, Or.inl q1168⟩
theorem pl1169 : PL "TransportPair$Store" 36 26 1 (.int) 0 := ⟨_, rfl, by decide, rfl, fun z => absurd z (by decide), by decide, Or.inl q1169, rfl⟩
theorem fl1926 : FL "TransportPair$Store" 63 32 1 0 0 := ⟨_, rfl, by decide, rfl, fun z => absurd z (by decide), by decide, Or.inr ⟨_, q1926⟩⟩
theorem pl1926 : PL "TransportPair$Store" 63 32 1 (.int) 0 := ⟨_, rfl, by decide, rfl, fun z => absurd z (by decide), by decide, Or.inr ⟨_, q1926⟩, rfl⟩
theorem ml2036 : ML "TransportPair$Hall" 146 y_cHall_sending := Or.inl q2036
theorem fl1925 : FL "TransportPair$Hall" 150 32 0 0 0 := ⟨_, rfl, by decide, rfl, fun z => absurd z (by decide), by decide, Or.inr ⟨_, q1925⟩⟩
theorem fl1221 : FL "TransportPair$Hall" 48 23 7 2 27 := ⟨_, rfl, by decide, rfl, fun _ => rfl, by decide, Or.inl q1221⟩
theorem ml2040 : ML "TransportPair$Hall" 153 y_cStore_add := Or.inl q2040
theorem ml2032 : ML "TransportPair" 138 y_cHall_write := Or.inl q2032
theorem pl1925 : PL "TransportPair$Hall" 150 32 0 (.int) 0 := ⟨_, rfl, by decide, rfl, fun z => absurd z (by decide), by decide, Or.inr ⟨_, q1925⟩, rfl⟩
theorem pl1929 : PL "TransportPair$Hall" 157 32 3 (.int) 0 := ⟨_, rfl, by decide, rfl, fun z => absurd z (by decide), by decide, Or.inr ⟨_, q1929⟩, rfl⟩
theorem ml2069 : ML "TransportPair" 142 y_cHall_finish := Or.inl q2069
theorem fl1924 : FL "TransportPair$Sending" 33 32 0 0 0 := ⟨_, rfl, by decide, rfl, fun z => absurd z (by decide), by decide, Or.inl q1924⟩
theorem pl1924 : PL "TransportPair$Sending" 33 32 0 (.int) 0 := ⟨_, rfl, by decide, rfl, fun z => absurd z (by decide), by decide, Or.inl q1924, rfl⟩
theorem pl1940 : PL "TransportPair$Sending" 36 32 9 (.long) 0 := ⟨_, rfl, by decide, rfl, fun z => absurd z (by decide), by decide, Or.inl q1940, rfl⟩
theorem pl1944 : PL "TransportPair$Sending" 39 32 11 (.boolean) 0 := ⟨_, rfl, by decide, rfl, fun z => absurd z (by decide), by decide, Or.inl q1944, rfl⟩
theorem ml2084 : ML "TransportPair$Hall" 160 y_cSending_isLive := Or.inl q2084
theorem ml2088 : ML "TransportPair$Hall" 163 y_cSending_reset := Or.inl q2088
theorem ml2080 : ML "TransportPair" 146 y_cHall_reset := Or.inl q2080
theorem fl1978 : FL "TransportPair$Receiving" 24 33 1 0 0 := ⟨_, rfl, by decide, rfl, fun z => absurd z (by decide), by decide, Or.inl q1978⟩
theorem ml2103 : ML "TransportPair$Hall" 166 y_cHall_receiving := Or.inl q2103
theorem ml2107 : ML "TransportPair$Hall" 170 y_cReceiving_isLive := Or.inl q2107
theorem fl1997 : FL "TransportPair$Hall" 171 33 12 0 0 := ⟨_, rfl, by decide, rfl, fun z => absurd z (by decide), by decide, Or.inr ⟨_, q1997⟩⟩
theorem pl1997 : PL "TransportPair$Hall" 171 33 12 (.boolean) 0 := ⟨_, rfl, by decide, rfl, fun z => absurd z (by decide), by decide, Or.inr ⟨_, q1997⟩, rfl⟩
theorem pl1996 : PL "TransportPair$Hall" 174 33 11 (.boolean) 0 := ⟨_, rfl, by decide, rfl, fun z => absurd z (by decide), by decide, Or.inr ⟨_, q1996⟩, rfl⟩
theorem pl1994 : PL "TransportPair$Hall" 177 33 9 (.long) 0 := ⟨_, rfl, by decide, rfl, fun z => absurd z (by decide), by decide, Or.inr ⟨_, q1994⟩, rfl⟩
theorem ml2099 : ML "TransportPair" 150 y_cHall_stop := Or.inl q2099
theorem fl1992 : FL "TransportPair$Blocks" 45 33 7 0 0 := ⟨_, rfl, by decide, rfl, fun z => absurd z (by decide), by decide, Or.inr ⟨_, q1992⟩⟩
theorem fl1197 : FL "TransportPair$Blocks" 23 27 3 2 101 := ⟨_, rfl, by decide, rfl, fun _ => rfl, by decide, Or.inl q1197⟩
theorem pl1992 : PL "TransportPair$Blocks" 45 33 7 (.int) 0 := ⟨_, rfl, by decide, rfl, fun z => absurd z (by decide), by decide, Or.inr ⟨_, q1992⟩, rfl⟩
theorem fl1199 : FL "TransportPair$Blocks" 26 27 5 0 0 := ⟨_, rfl, by decide, rfl, fun z => absurd z (by decide), by decide, Or.inl q1199⟩
theorem fl1194 : FL "TransportPair$Blocks" 9 27 0 2 102 := ⟨_, rfl, by decide, rfl, fun _ => rfl, by decide, Or.inl q1194⟩
theorem fl1980 : FL "TransportPair$Blocks" 66 33 2 0 0 := ⟨_, rfl, by decide, rfl, fun z => absurd z (by decide), by decide, Or.inr ⟨_, q1980⟩⟩
theorem pl1980 : PL "TransportPair$Blocks" 66 33 2 (.int) 0 := ⟨_, rfl, by decide, rfl, fun z => absurd z (by decide), by decide, Or.inr ⟨_, q1980⟩, rfl⟩
theorem ml2128 : ML "TransportPair$Blocks" 69 y_cBlocks_drop := Or.inl q2128
theorem fl1227 : FL "TransportPair$Hall" 191 23 13 0 0 := ⟨_, rfl, by decide, rfl, fun z => absurd z (by decide), by decide, Or.inl q1227⟩
theorem fl1228 : FL "TransportPair$Hall" 76 23 14 0 0 := ⟨_, rfl, by decide, rfl, fun z => absurd z (by decide), by decide, Or.inl q1228⟩
theorem pl1230 : PL "TransportPair$Hall" 208 23 16 (.boolean) 0 := ⟨_, rfl, by decide, rfl, fun z => absurd z (by decide), by decide, Or.inl q1230, rfl⟩
theorem fl1982 : FL "TransportPair$Hall" 184 33 2 0 0 := ⟨_, rfl, by decide, rfl, fun z => absurd z (by decide), by decide, Or.inr ⟨_, q1982⟩⟩
theorem fl1977 : FL "TransportPair$Hall" 211 33 0 0 0 := ⟨_, rfl, by decide, rfl, fun z => absurd z (by decide), by decide, Or.inr ⟨_, q1977⟩⟩
theorem fl1990 : FL "TransportPair$Hall" 214 33 6 0 0 := ⟨_, rfl, by decide, rfl, fun z => absurd z (by decide), by decide, Or.inr ⟨_, q1990⟩⟩
theorem pl1990 : PL "TransportPair$Hall" 214 33 6 (.int) 0 := ⟨_, rfl, by decide, rfl, fun z => absurd z (by decide), by decide, Or.inr ⟨_, q1990⟩, rfl⟩
theorem pl1995 : PL "TransportPair$Hall" 217 33 10 (.boolean) 0 := ⟨_, rfl, by decide, rfl, fun z => absurd z (by decide), by decide, Or.inr ⟨_, q1995⟩, rfl⟩
theorem ml2145 : ML "TransportPair$Hall" 142 y_cSending_isOver := Or.inl q2145
theorem ml2149 : ML "TransportPair$Hall" 145 y_cReceiving_isOver := Or.inl q2149
theorem fl1987 : FL "TransportPair$Receiving" 9 33 5 0 0 := ⟨_, rfl, by decide, rfl, fun z => absurd z (by decide), by decide, Or.inl q1987⟩
theorem pl1978 : PL "TransportPair$Receiving" 24 33 1 (.int) 0 := ⟨_, rfl, by decide, rfl, fun z => absurd z (by decide), by decide, Or.inl q1978, rfl⟩
theorem fl1984 : FL "TransportPair$Receiving" 30 33 3 0 0 := ⟨_, rfl, by decide, rfl, fun z => absurd z (by decide), by decide, Or.inl q1984⟩
theorem fl1981 : FL "TransportPair$Receiving" 27 33 2 0 0 := ⟨_, rfl, by decide, rfl, fun z => absurd z (by decide), by decide, Or.inl q1981⟩
theorem ml2141 : ML "TransportPair$Hall" 131 y_cHall_isOver := Or.inl q2141
theorem ml2161 : ML "TransportPair$Hall" 124 y_cHall_way := Or.inl q2161
theorem fl1120 : FL "TransportPair$Hall" 135 24 6 0 0 := ⟨_, rfl, by decide, rfl, fun z => absurd z (by decide), by decide, Or.inr ⟨_, q1120⟩⟩
theorem fl1114 : FL "TransportPair$Hall" 79 24 2 0 0 := ⟨_, rfl, by decide, rfl, fun z => absurd z (by decide), by decide, Or.inr ⟨_, q1114⟩⟩
theorem pl1120 : PL "TransportPair$Hall" 135 24 6 (.boolean) 0 := ⟨_, rfl, by decide, rfl, fun z => absurd z (by decide), by decide, Or.inr ⟨_, q1120⟩, rfl⟩
theorem fl1979 : FL "TransportPair$Hall" 180 33 1 0 0 := ⟨_, rfl, by decide, rfl, fun z => absurd z (by decide), by decide, Or.inr ⟨_, q1979⟩⟩
theorem fl1985 : FL "TransportPair$Hall" 181 33 3 0 0 := ⟨_, rfl, by decide, rfl, fun z => absurd z (by decide), by decide, Or.inr ⟨_, q1985⟩⟩
theorem fl1222 : FL "TransportPair$Hall" 55 23 8 2 28 := ⟨_, rfl, by decide, rfl, fun _ => rfl, by decide, Or.inl q1222⟩
theorem ml2124 : ML "TransportPair$Hall" 187 y_cBlocks_take := Or.inl q2124
theorem pl1227 : PL "TransportPair$Hall" 191 23 13 (.int) 0 := ⟨_, rfl, by decide, rfl, fun z => absurd z (by decide), by decide, Or.inl q1227, rfl⟩
theorem ml2132 : ML "TransportPair$Hall" 194 y_cHall_grow_ := Or.inl q2132
theorem ml2137 : ML "TransportPair$Hall" 197 y_cHall_grow_Receiving := Or.inl q2137
theorem ml2153 : ML "TransportPair$Hall" 200 y_cReceiving_settle := Or.inl q2153
theorem ml2157 : ML "TransportPair$Hall" 203 y_cHall_mayBeOver := Or.inl q2157
theorem fl1495 : FL "TransportPair" 23 0 5 2 102 := ⟨_, rfl, by decide, rfl, fun _ => rfl, by decide, Or.inl q1495⟩
theorem ml2119 : ML "TransportPair" 155 y_cHall_read := Or.inl q2119
theorem pl1496 : PL "TransportPair" 164 0 6 (.int) 0 := ⟨_, rfl, by decide, rfl, fun z => absurd z (by decide), by decide, Or.inl q1496, rfl⟩
theorem fl1496 : FL "TransportPair" 164 0 6 0 0 := ⟨_, rfl, by decide, rfl, fun z => absurd z (by decide), by decide, Or.inl q1496⟩
theorem fl1300 : FL "TransportPair$Side" 145 1 1 0 0 := ⟨_, rfl, by decide, rfl, fun z => absurd z (by decide), by decide, Or.inl q1300⟩
theorem fl531 : FL "TransportPair$Trip" 9 11 0 0 0 := ⟨_, rfl, by decide, rfl, fun z => absurd z (by decide), by decide, Or.inl q531⟩
theorem fl533 : FL "TransportPair$Trip" 15 11 1 0 0 := ⟨_, rfl, by decide, rfl, fun z => absurd z (by decide), by decide, Or.inl q533⟩
theorem fl706 : FL "TransportPair$Side" 291 10 1 2 12 := ⟨_, rfl, by decide, rfl, fun _ => rfl, by decide, Or.inr ⟨_, q706⟩⟩
theorem ml2217 : ML "TransportPair$Side" 295 y_cTrip_patience := Or.inl q2217
theorem ml2212 : ML "TransportPair$Side" 301 y_cSide_isLive := Or.inl q2212
theorem pl1302 : PL "TransportPair$Side" 304 1 2 (.int) 0 := ⟨_, rfl, by decide, rfl, fun z => absurd z (by decide), by decide, Or.inl q1302, rfl⟩
theorem pl1333 : PL "TransportPair$Side" 307 1 24 (.int) 0 := ⟨_, rfl, by decide, rfl, fun z => absurd z (by decide), by decide, Or.inl q1333, rfl⟩
theorem pl1332 : PL "TransportPair$Side" 310 1 23 (.int) 0 := ⟨_, rfl, by decide, rfl, fun z => absurd z (by decide), by decide, Or.inl q1332, rfl⟩
theorem pl1325 : PL "TransportPair$Side" 313 1 18 (.boolean) 0 := ⟨_, rfl, by decide, rfl, fun z => absurd z (by decide), by decide, Or.inl q1325, rfl⟩
theorem ml2213 : ML "TransportPair$Side" 316 y_cSide_patience := Or.inl q2213
theorem pl1331 : PL "TransportPair$Side" 319 1 22 (.int) 0 := ⟨_, rfl, by decide, rfl, fun z => absurd z (by decide), by decide, Or.inl q1331, rfl⟩
theorem ml2204 : ML "TransportPair" 174 y_cSide_isLive := Or.inl q2204
theorem ml2208 : ML "TransportPair" 178 y_cSide_close := Or.inl q2208
theorem fl1352 : FL "TransportPair" 184 1 40 2 102 := ⟨_, rfl, by decide, rfl, fun _ => rfl, by decide, Or.inr ⟨_, q1352⟩⟩
theorem pl1353 : PL "TransportPair" 187 1 41 (.int) 0 := ⟨_, rfl, by decide, rfl, fun z => absurd z (by decide), by decide, Or.inr ⟨_, q1353⟩, rfl⟩
theorem fl1463 : FL "TransportPair$Line" 13 28 0 2 111 := ⟨_, rfl, by decide, rfl, fun _ => rfl, by decide, Or.inl q1463⟩
theorem fl1469 : FL "TransportPair$Line" 27 28 3 0 0 := ⟨_, rfl, by decide, rfl, fun z => absurd z (by decide), by decide, Or.inl q1469⟩
theorem pl1469 : PL "TransportPair$Line" 27 28 3 (.int) 0 := ⟨_, rfl, by decide, rfl, fun z => absurd z (by decide), by decide, Or.inl q1469, rfl⟩
theorem fl1465 : FL "TransportPair$Line" 16 28 1 2 101 := ⟨_, rfl, by decide, rfl, fun _ => rfl, by decide, Or.inl q1465⟩
theorem fl1467 : FL "TransportPair$Line" 20 28 2 2 101 := ⟨_, rfl, by decide, rfl, fun _ => rfl, by decide, Or.inl q1467⟩
theorem pl864 : PL "TransportPair$Header" 9 19 2 (.int) 0 := ⟨_, rfl, by decide, rfl, fun z => absurd z (by decide), by decide, Or.inl q864, rfl⟩
theorem pl861 : PL "TransportPair$Header" 59 19 0 (.int) 0 := ⟨_, rfl, by decide, rfl, fun z => absurd z (by decide), by decide, Or.inl q861, rfl⟩
theorem pl863 : PL "TransportPair$Header" 62 19 1 (.int) 0 := ⟨_, rfl, by decide, rfl, fun z => absurd z (by decide), by decide, Or.inl q863, rfl⟩
theorem pl874 : PL "TransportPair$Header" 65 19 8 (.int) 0 := ⟨_, rfl, by decide, rfl, fun z => absurd z (by decide), by decide, Or.inl q874, rfl⟩
theorem ml2269 : ML "TransportPair$Header" 68 y_cBytes_pass := Or.inl q2269
theorem pl872 : PL "TransportPair$Header" 71 19 7 (.int) 0 := ⟨_, rfl, by decide, rfl, fun z => absurd z (by decide), by decide, Or.inl q872, rfl⟩
theorem fl834 : FL "TransportPair$Header" 31 18 1 0 0 := ⟨_, rfl, by decide, rfl, fun z => absurd z (by decide), by decide, Or.inr ⟨_, q834⟩⟩
theorem pl867 : PL "TransportPair$Header" 74 19 4 (.int) 0 := ⟨_, rfl, by decide, rfl, fun z => absurd z (by decide), by decide, Or.inl q867, rfl⟩
theorem fl839 : FL "TransportPair$Header" 77 18 2 0 0 := ⟨_, rfl, by decide, rfl, fun z => absurd z (by decide), by decide, Or.inr ⟨_, q839⟩⟩
theorem pl869 : PL "TransportPair$Header" 80 19 5 (.int) 0 := ⟨_, rfl, by decide, rfl, fun z => absurd z (by decide), by decide, Or.inl q869, rfl⟩
theorem fl842 : FL "TransportPair$Header" 43 18 3 0 0 := ⟨_, rfl, by decide, rfl, fun z => absurd z (by decide), by decide, Or.inr ⟨_, q842⟩⟩
theorem ml2273 : ML "TransportPair$Header" 81 y_cBytes_left := Or.inl q2273
theorem ml2261 : ML "TransportPair$Header" 47 y_cHeader_fails := Or.inl q2261
theorem ml2293 : ML "TransportPair$Bytes" 30 y_cBytes_many := Or.inl q2293
theorem fl861 : FL "TransportPair$Header" 59 19 0 0 0 := ⟨_, rfl, by decide, rfl, fun z => absurd z (by decide), by decide, Or.inl q861⟩
theorem ml2289 : ML "TransportPair$Header" 92 y_cBytes_number := Or.inl q2289
theorem pl842 : PL "TransportPair$Header" 43 18 3 (.boolean) 0 := ⟨_, rfl, by decide, rfl, fun z => absurd z (by decide), by decide, Or.inr ⟨_, q842⟩, rfl⟩
theorem pl881 : PL "TransportPair$Header" 28 19 12 (.int) 0 := ⟨_, rfl, by decide, rfl, fun z => absurd z (by decide), by decide, Or.inl q881, rfl⟩
theorem fl881 : FL "TransportPair$Header" 28 19 12 0 0 := ⟨_, rfl, by decide, rfl, fun z => absurd z (by decide), by decide, Or.inl q881⟩
theorem pl880 : PL "TransportPair$Header" 25 19 11 (.int) 0 := ⟨_, rfl, by decide, rfl, fun z => absurd z (by decide), by decide, Or.inl q880, rfl⟩
theorem fl867 : FL "TransportPair$Header" 74 19 4 0 0 := ⟨_, rfl, by decide, rfl, fun z => absurd z (by decide), by decide, Or.inl q867⟩
theorem ml2281 : ML "TransportPair$Header" 84 y_cBytes_many := Or.inl q2281
theorem pl871 : PL "TransportPair$Header" 15 19 6 (.long) 0 := ⟨_, rfl, by decide, rfl, fun z => absurd z (by decide), by decide, Or.inl q871, rfl⟩
theorem ml2257 : ML "TransportPair$Header" 39 y_cBytes_one := Or.inl q2257
theorem fl871 : FL "TransportPair$Header" 15 19 6 1 0 := ⟨_, rfl, by decide, rfl, fun z => absurd z (by decide), by decide, Or.inl q871⟩
theorem fl874 : FL "TransportPair$Header" 65 19 8 0 0 := ⟨_, rfl, by decide, rfl, fun z => absurd z (by decide), by decide, Or.inl q874⟩
theorem pl878 : PL "TransportPair$Header" 22 19 10 (.int) 0 := ⟨_, rfl, by decide, rfl, fun z => absurd z (by decide), by decide, Or.inl q878, rfl⟩
theorem fl878 : FL "TransportPair$Header" 22 19 10 0 0 := ⟨_, rfl, by decide, rfl, fun z => absurd z (by decide), by decide, Or.inl q878⟩
theorem pl876 : PL "TransportPair$Header" 19 19 9 (.int) 0 := ⟨_, rfl, by decide, rfl, fun z => absurd z (by decide), by decide, Or.inl q876, rfl⟩
theorem ml2285 : ML "TransportPair$Header" 88 y_cHeader_readRest := Or.inl q2285
theorem pl865 : PL "TransportPair$Header" 36 19 3 (.int) 0 := ⟨_, rfl, by decide, rfl, fun z => absurd z (by decide), by decide, Or.inl q865, rfl⟩
theorem ml2277 : ML "TransportPair$Header" 55 y_cHeader_readLong := Or.inl q2277
theorem ml2265 : ML "TransportPair$Header" 51 y_cHeader_readShort := Or.inl q2265
theorem fl1348 : FL "TransportPair$Side" 84 1 37 2 20 := ⟨_, rfl, by decide, rfl, fun _ => rfl, by decide, Or.inl q1348⟩
theorem fl875 : FL "TransportPair$Side" 358 19 8 0 0 := ⟨_, rfl, by decide, rfl, fun z => absurd z (by decide), by decide, Or.inr ⟨_, q875⟩⟩
theorem fl1337 : FL "TransportPair$Side" 361 1 28 0 0 := ⟨_, rfl, by decide, rfl, fun z => absurd z (by decide), by decide, Or.inl q1337⟩
theorem fl873 : FL "TransportPair$Side" 355 19 7 0 0 := ⟨_, rfl, by decide, rfl, fun z => absurd z (by decide), by decide, Or.inr ⟨_, q873⟩⟩
theorem fl1350 : FL "TransportPair$Side" 95 1 39 2 102 := ⟨_, rfl, by decide, rfl, fun _ => rfl, by decide, Or.inl q1350⟩
theorem fl396 : FL "TransportPair$Keystream" 9 6 0 2 101 := ⟨_, rfl, by decide, rfl, fun _ => rfl, by decide, Or.inl q396⟩
theorem ml2327 : ML "TransportPair$Keystream" 26 y_cP_word := Or.inr ⟨_, q2327⟩
theorem fl397 : FL "TransportPair$Keystream" 15 6 1 2 101 := ⟨_, rfl, by decide, rfl, fun _ => rfl, by decide, Or.inl q397⟩
theorem ml2337 : ML "TransportPair$Keystream" 30 y_jInteger_rotateLeft := Or.inl q2337
theorem ml2333 : ML "TransportPair$Keystream" 42 y_cKeystream_mix := Or.inl q2333
theorem fl398 : FL "TransportPair$Keystream" 18 6 2 2 102 := ⟨_, rfl, by decide, rfl, fun _ => rfl, by decide, Or.inl q398⟩
theorem fl439 : FL "TransportPair$Guard" 75 2 1 2 7 := ⟨_, rfl, by decide, rfl, fun _ => rfl, by decide, Or.inr ⟨_, q439⟩⟩
theorem ml2316 : ML "TransportPair$Guard" 127 y_cP_word := Or.inr ⟨_, q2316⟩
theorem ml2319 : ML "TransportPair$Guard" 79 y_cKeystream_begin := Or.inl q2319
theorem ml2328 : ML "TransportPair$Guard" 88 y_cKeystream_next := Or.inl q2328
theorem fl399 : FL "TransportPair$Guard" 95 6 2 2 102 := ⟨_, rfl, by decide, rfl, fun _ => rfl, by decide, Or.inr ⟨_, q399⟩⟩
theorem fl609 : FL "TransportPair$Ranges" 18 15 2 0 0 := ⟨_, rfl, by decide, rfl, fun z => absurd z (by decide), by decide, Or.inl q609⟩
theorem fl604 : FL "TransportPair$Ranges" 9 15 0 2 105 := ⟨_, rfl, by decide, rfl, fun _ => rfl, by decide, Or.inl q604⟩
theorem ml2350 : ML "TransportPair$Ranges" 26 y_cRanges_place := Or.inl q2350
theorem fl613 : FL "TransportPair$Ranges" 22 15 3 1 0 := ⟨_, rfl, by decide, rfl, fun z => absurd z (by decide), by decide, Or.inl q613⟩
theorem fl606 : FL "TransportPair$Ranges" 15 15 1 2 105 := ⟨_, rfl, by decide, rfl, fun _ => rfl, by decide, Or.inl q606⟩
theorem fl445 : FL "TransportPair$Guard" 72 2 4 2 102 := ⟨_, rfl, by decide, rfl, fun _ => rfl, by decide, Or.inr ⟨_, q445⟩⟩
theorem ml2373 : ML "TransportPair$Tally" 25 y_cP_word := Or.inr ⟨_, q2373⟩
theorem ml2370 : ML "TransportPair$Tally" 31 y_cTally_eight := Or.inl q2370
theorem fl414 : FL "TransportPair$Tally" 15 7 1 2 105 := ⟨_, rfl, by decide, rfl, fun _ => rfl, by decide, Or.inl q414⟩
theorem ml2377 : ML "TransportPair$Tally" 39 y_cTally_split := Or.inl q2377
theorem pl418 : PL "TransportPair$Tally" 43 7 5 (.long) 0 := ⟨_, rfl, by decide, rfl, fun z => absurd z (by decide), by decide, Or.inl q418, rfl⟩
theorem pl419 : PL "TransportPair$Tally" 47 7 6 (.long) 0 := ⟨_, rfl, by decide, rfl, fun z => absurd z (by decide), by decide, Or.inl q419, rfl⟩
theorem pl417 : PL "TransportPair$Tally" 50 7 4 (.int) 0 := ⟨_, rfl, by decide, rfl, fun z => absurd z (by decide), by decide, Or.inl q417, rfl⟩
theorem fl413 : FL "TransportPair$Tally" 9 7 0 2 105 := ⟨_, rfl, by decide, rfl, fun _ => rfl, by decide, Or.inl q413⟩
theorem fl416 : FL "TransportPair$Tally" 21 7 3 2 102 := ⟨_, rfl, by decide, rfl, fun _ => rfl, by decide, Or.inl q416⟩
theorem fl415 : FL "TransportPair$Tally" 18 7 2 2 105 := ⟨_, rfl, by decide, rfl, fun _ => rfl, by decide, Or.inl q415⟩
theorem ml2392 : ML "TransportPair$Tally" 74 y_cTally_carry := Or.inl q2392
theorem fl417 : FL "TransportPair$Tally" 50 7 4 0 0 := ⟨_, rfl, by decide, rfl, fun z => absurd z (by decide), by decide, Or.inl q417⟩
theorem ml2386 : ML "TransportPair$Tally" 58 y_cTally_take := Or.inl q2386
theorem ml2400 : ML "TransportPair$Tally" 62 y_cTally_finish := Or.inl q2400
theorem ml2417 : ML "java/lang/Long" 302 y_jLong_compare := Or.inl q2417
theorem ml2408 : ML "TransportPair$Tally" 79 y_cTally_isWhole := Or.inl q2408
theorem fl418 : FL "TransportPair$Tally" 43 7 5 1 0 := ⟨_, rfl, by decide, rfl, fun z => absurd z (by decide), by decide, Or.inl q418⟩
theorem fl419 : FL "TransportPair$Tally" 47 7 6 1 0 := ⟨_, rfl, by decide, rfl, fun z => absurd z (by decide), by decide, Or.inl q419⟩
theorem ml2413 : ML "TransportPair$Tally" 83 y_jLong_compareUnsigned := Or.inl q2413
theorem ml2362 : ML "TransportPair$Guard" 85 y_cGuard_begin := Or.inl q2362
theorem fl441 : FL "TransportPair$Guard" 91 2 2 2 8 := ⟨_, rfl, by decide, rfl, fun _ => rfl, by decide, Or.inr ⟨_, q441⟩⟩
theorem ml2366 : ML "TransportPair$Guard" 98 y_cTally_begin := Or.inl q2366
theorem ml2381 : ML "TransportPair$Guard" 103 y_cTally_add := Or.inl q2381
theorem ml2396 : ML "TransportPair$Guard" 107 y_cTally_fill := Or.inl q2396
theorem fl447 : FL "TransportPair$Guard" 110 2 5 2 102 := ⟨_, rfl, by decide, rfl, fun _ => rfl, by decide, Or.inr ⟨_, q447⟩⟩
theorem fl449 : FL "TransportPair$Guard" 113 2 6 2 102 := ⟨_, rfl, by decide, rfl, fun _ => rfl, by decide, Or.inr ⟨_, q449⟩⟩
theorem ml2404 : ML "TransportPair$Guard" 116 y_cTally_end := Or.inl q2404
theorem ml2424 : ML "TransportPair$Keystream" 46 y_cKeystream_next := Or.inl q2424
theorem ml2358 : ML "TransportPair$Guard" 123 y_cGuard_reckon := Or.inl q2358
theorem ml2420 : ML "TransportPair$Guard" 120 y_cKeystream_cover := Or.inl q2420
theorem fl866 : FL "TransportPair$Side" 391 19 3 0 0 := ⟨_, rfl, by decide, rfl, fun z => absurd z (by decide), by decide, Or.inr ⟨_, q866⟩⟩
theorem fl868 : FL "TransportPair$Side" 394 19 4 0 0 := ⟨_, rfl, by decide, rfl, fun z => absurd z (by decide), by decide, Or.inr ⟨_, q868⟩⟩
theorem ml2312 : ML "TransportPair$Side" 397 y_cGuard_shield := Or.inl q2312
theorem fl1346 : FL "TransportPair$Side" 74 1 35 2 19 := ⟨_, rfl, by decide, rfl, fun _ => rfl, by decide, Or.inl q1346⟩
theorem fl870 : FL "TransportPair$Side" 364 19 5 0 0 := ⟨_, rfl, by decide, rfl, fun z => absurd z (by decide), by decide, Or.inr ⟨_, q870⟩⟩
theorem ml2340 : ML "TransportPair$Side" 401 y_cBytes_many := Or.inl q2340
theorem fl704 : FL "TransportPair$Side" 228 10 0 2 109 := ⟨_, rfl, by decide, rfl, fun _ => rfl, by decide, Or.inr ⟨_, q704⟩⟩
theorem fl656 : FL "TransportPair$Side" 405 13 13 2 16 := ⟨_, rfl, by decide, rfl, fun _ => rfl, by decide, Or.inr ⟨_, q656⟩⟩
theorem fl612 : FL "TransportPair$Side" 408 15 2 0 0 := ⟨_, rfl, by decide, rfl, fun z => absurd z (by decide), by decide, Or.inr ⟨_, q612⟩⟩
theorem fl608 : FL "TransportPair$Side" 412 15 1 2 105 := ⟨_, rfl, by decide, rfl, fun _ => rfl, by decide, Or.inr ⟨_, q608⟩⟩
theorem ml2341 : ML "TransportPair$Side" 415 y_cCounting_grow := Or.inl q2341
theorem pl1339 : PL "TransportPair$Side" 421 1 30 (.long) 0 := ⟨_, rfl, by decide, rfl, fun z => absurd z (by decide), by decide, Or.inl q1339, rfl⟩
theorem fl1339 : FL "TransportPair$Side" 421 1 30 1 0 := ⟨_, rfl, by decide, rfl, fun z => absurd z (by decide), by decide, Or.inl q1339⟩
theorem ml2346 : ML "TransportPair$Side" 423 y_cRanges_has := Or.inl q2346
theorem ml2354 : ML "TransportPair$Side" 427 y_cGuard_open := Or.inl q2354
theorem pl1338 : PL "TransportPair$Side" 430 1 29 (.int) 0 := ⟨_, rfl, by decide, rfl, fun z => absurd z (by decide), by decide, Or.inl q1338, rfl⟩
theorem fl1029 : FL "TransportPair$Side" 199 21 11 2 103 := ⟨_, rfl, by decide, rfl, fun _ => rfl, by decide, Or.inr ⟨_, q1029⟩⟩
theorem fl627 : FL "TransportPair$Space" 19 13 2 2 102 := ⟨_, rfl, by decide, rfl, fun _ => rfl, by decide, Or.inl q627⟩
theorem fl643 : FL "TransportPair$Space" 76 13 9 0 0 := ⟨_, rfl, by decide, rfl, fun z => absurd z (by decide), by decide, Or.inl q643⟩
theorem fl629 : FL "TransportPair$Space" 54 13 3 0 0 := ⟨_, rfl, by decide, rfl, fun z => absurd z (by decide), by decide, Or.inl q629⟩
theorem ml2445 : ML "TransportPair$Space" 72 y_cSpace_is := Or.inl q2445
theorem fl626 : FL "TransportPair$Space" 15 13 1 2 104 := ⟨_, rfl, by decide, rfl, fun _ => rfl, by decide, Or.inl q626⟩
theorem pl588 : PL "TransportPair$Queue" 13 14 1 (.int) 0 := ⟨_, rfl, by decide, rfl, fun z => absurd z (by decide), by decide, Or.inl q588, rfl⟩
theorem pl589 : PL "TransportPair$Queue" 17 14 2 (.int) 0 := ⟨_, rfl, by decide, rfl, fun z => absurd z (by decide), by decide, Or.inl q589, rfl⟩
theorem pl609 : PL "TransportPair$Ranges" 18 15 2 (.int) 0 := ⟨_, rfl, by decide, rfl, fun z => absurd z (by decide), by decide, Or.inl q609, rfl⟩
theorem pl613 : PL "TransportPair$Ranges" 22 15 3 (.long) 0 := ⟨_, rfl, by decide, rfl, fun z => absurd z (by decide), by decide, Or.inl q613, rfl⟩
theorem pl645 : PL "TransportPair$Space" 50 13 10 (.boolean) 0 := ⟨_, rfl, by decide, rfl, fun z => absurd z (by decide), by decide, Or.inl q645, rfl⟩
theorem pl631 : PL "TransportPair$Space" 66 13 4 (.int) 0 := ⟨_, rfl, by decide, rfl, fun z => absurd z (by decide), by decide, Or.inl q631, rfl⟩
theorem pl633 : PL "TransportPair$Space" 69 13 5 (.int) 0 := ⟨_, rfl, by decide, rfl, fun z => absurd z (by decide), by decide, Or.inl q633, rfl⟩
theorem fl648 : FL "TransportPair$Space" 36 13 11 2 15 := ⟨_, rfl, by decide, rfl, fun _ => rfl, by decide, Or.inl q648⟩
theorem ml2453 : ML "TransportPair$Space" 79 y_cQueue_clear := Or.inl q2453
theorem fl651 : FL "TransportPair$Space" 40 13 12 2 15 := ⟨_, rfl, by decide, rfl, fun _ => rfl, by decide, Or.inl q651⟩
theorem fl654 : FL "TransportPair$Space" 46 13 13 2 16 := ⟨_, rfl, by decide, rfl, fun _ => rfl, by decide, Or.inl q654⟩
theorem ml2457 : ML "TransportPair$Space" 82 y_cRanges_clear := Or.inl q2457
theorem pl657 : PL "TransportPair$Space" 83 13 14 (.int) 0 := ⟨_, rfl, by decide, rfl, fun z => absurd z (by decide), by decide, Or.inl q657, rfl⟩
theorem pl664 : PL "TransportPair$Space" 86 13 17 (.boolean) 0 := ⟨_, rfl, by decide, rfl, fun z => absurd z (by decide), by decide, Or.inl q664, rfl⟩
theorem fl707 : FL "TransportPair$Book" 27 10 2 2 13 := ⟨_, rfl, by decide, rfl, fun _ => rfl, by decide, Or.inl q707⟩
theorem fl565 : FL "TransportPair$Book" 39 12 3 0 0 := ⟨_, rfl, by decide, rfl, fun z => absurd z (by decide), by decide, Or.inr ⟨_, q565⟩⟩
theorem ml2441 : ML "TransportPair$Book" 181 y_cSpace_inFlight := Or.inl q2441
theorem pl565 : PL "TransportPair$Book" 39 12 3 (.int) 0 := ⟨_, rfl, by decide, rfl, fun z => absurd z (by decide), by decide, Or.inr ⟨_, q565⟩, rfl⟩
theorem ml2449 : ML "TransportPair$Book" 183 y_cSpace_discard := Or.inl q2449
theorem pl711 : PL "TransportPair$Book" 104 10 4 (.int) 0 := ⟨_, rfl, by decide, rfl, fun z => absurd z (by decide), by decide, Or.inl q711, rfl⟩
theorem fl647 : FL "TransportPair$Side" 232 13 10 0 0 := ⟨_, rfl, by decide, rfl, fun z => absurd z (by decide), by decide, Or.inr ⟨_, q647⟩⟩
theorem ml2437 : ML "TransportPair$Side" 290 y_cBook_discard := Or.inl q2437
theorem fl1341 : FL "TransportPair$Side" 57 1 32 2 101 := ⟨_, rfl, by decide, rfl, fun _ => rfl, by decide, Or.inl q1341⟩
theorem fl1319 : FL "TransportPair$Side" 433 1 13 0 0 := ⟨_, rfl, by decide, rfl, fun z => absurd z (by decide), by decide, Or.inl q1319⟩
theorem pl1319 : PL "TransportPair$Side" 433 1 13 (.boolean) 0 := ⟨_, rfl, by decide, rfl, fun z => absurd z (by decide), by decide, Or.inl q1319, rfl⟩
theorem fl877 : FL "TransportPair$Side" 436 19 9 0 0 := ⟨_, rfl, by decide, rfl, fun z => absurd z (by decide), by decide, Or.inr ⟨_, q877⟩⟩
theorem pl1320 : PL "TransportPair$Side" 439 1 14 (.boolean) 0 := ⟨_, rfl, by decide, rfl, fun z => absurd z (by decide), by decide, Or.inl q1320, rfl⟩
theorem ml2433 : ML "TransportPair$Side" 287 y_cSide_discard := Or.inl q2433
theorem pl1340 : PL "TransportPair$Side" 442 1 31 (.boolean) 0 := ⟨_, rfl, by decide, rfl, fun z => absurd z (by decide), by decide, Or.inl q1340, rfl⟩
theorem pl915 : PL "TransportPair$Frame" 21 20 0 (.int) 0 := ⟨_, rfl, by decide, rfl, fun z => absurd z (by decide), by decide, Or.inl q915, rfl⟩
theorem pl919 : PL "TransportPair$Frame" 25 20 1 (.int) 0 := ⟨_, rfl, by decide, rfl, fun z => absurd z (by decide), by decide, Or.inl q919, rfl⟩
theorem pl920 : PL "TransportPair$Frame" 28 20 2 (.long) 0 := ⟨_, rfl, by decide, rfl, fun z => absurd z (by decide), by decide, Or.inl q920, rfl⟩
theorem pl923 : PL "TransportPair$Frame" 32 20 3 (.long) 0 := ⟨_, rfl, by decide, rfl, fun z => absurd z (by decide), by decide, Or.inl q923, rfl⟩
theorem pl927 : PL "TransportPair$Frame" 35 20 4 (.long) 0 := ⟨_, rfl, by decide, rfl, fun z => absurd z (by decide), by decide, Or.inl q927, rfl⟩
theorem pl930 : PL "TransportPair$Frame" 38 20 5 (.long) 0 := ⟨_, rfl, by decide, rfl, fun z => absurd z (by decide), by decide, Or.inl q930, rfl⟩
theorem pl936 : PL "TransportPair$Frame" 41 20 8 (.int) 0 := ⟨_, rfl, by decide, rfl, fun z => absurd z (by decide), by decide, Or.inl q936, rfl⟩
theorem pl939 : PL "TransportPair$Frame" 44 20 9 (.int) 0 := ⟨_, rfl, by decide, rfl, fun z => absurd z (by decide), by decide, Or.inl q939, rfl⟩
theorem pl943 : PL "TransportPair$Frame" 47 20 10 (.int) 0 := ⟨_, rfl, by decide, rfl, fun z => absurd z (by decide), by decide, Or.inl q943, rfl⟩
theorem pl944 : PL "TransportPair$Frame" 50 20 11 (.int) 0 := ⟨_, rfl, by decide, rfl, fun z => absurd z (by decide), by decide, Or.inl q944, rfl⟩
theorem fl932 : FL "TransportPair$Frame" 9 20 6 2 105 := ⟨_, rfl, by decide, rfl, fun _ => rfl, by decide, Or.inl q932⟩
theorem ml2493 : ML "TransportPair$Frame" 127 y_cBytes_left := Or.inl q2493
theorem fl832 : FL "TransportPair$Frame" 66 18 0 2 102 := ⟨_, rfl, by decide, rfl, fun _ => rfl, by decide, Or.inr ⟨_, q832⟩⟩
theorem fl837 : FL "TransportPair$Frame" 130 18 1 0 0 := ⟨_, rfl, by decide, rfl, fun z => absurd z (by decide), by decide, Or.inr ⟨_, q837⟩⟩
theorem ml2494 : ML "TransportPair$Frame" 133 y_cBytes_pass := Or.inl q2494
theorem fl920 : FL "TransportPair$Frame" 28 20 2 1 0 := ⟨_, rfl, by decide, rfl, fun z => absurd z (by decide), by decide, Or.inl q920⟩
theorem fl944 : FL "TransportPair$Frame" 50 20 11 0 0 := ⟨_, rfl, by decide, rfl, fun z => absurd z (by decide), by decide, Or.inl q944⟩
theorem fl946 : FL "TransportPair$Frame" 15 20 12 2 105 := ⟨_, rfl, by decide, rfl, fun _ => rfl, by decide, Or.inl q946⟩
theorem ml2504 : ML "TransportPair$Frame" 53 y_cFrame_twice := Or.inl q2504
theorem fl948 : FL "TransportPair$Frame" 18 20 13 2 105 := ⟨_, rfl, by decide, rfl, fun _ => rfl, by decide, Or.inl q948⟩
theorem ml2499 : ML "TransportPair$Frame" 112 y_cBytes_number := Or.inl q2499
theorem ml2500 : ML "TransportPair$Frame" 136 y_cFrame_span := Or.inl q2500
theorem fl844 : FL "TransportPair$Frame" 92 18 3 0 0 := ⟨_, rfl, by decide, rfl, fun z => absurd z (by decide), by decide, Or.inr ⟨_, q844⟩⟩
theorem fl915 : FL "TransportPair$Frame" 21 20 0 0 0 := ⟨_, rfl, by decide, rfl, fun z => absurd z (by decide), by decide, Or.inl q915⟩
theorem pl844 : PL "TransportPair$Frame" 92 18 3 (.boolean) 0 := ⟨_, rfl, by decide, rfl, fun z => absurd z (by decide), by decide, Or.inr ⟨_, q844⟩, rfl⟩
theorem fl939 : FL "TransportPair$Frame" 44 20 9 0 0 := ⟨_, rfl, by decide, rfl, fun z => absurd z (by decide), by decide, Or.inl q939⟩
theorem fl923 : FL "TransportPair$Frame" 32 20 3 1 0 := ⟨_, rfl, by decide, rfl, fun z => absurd z (by decide), by decide, Or.inl q923⟩
theorem fl930 : FL "TransportPair$Frame" 38 20 5 1 0 := ⟨_, rfl, by decide, rfl, fun z => absurd z (by decide), by decide, Or.inl q930⟩
theorem ml2513 : ML "TransportPair$Frame" 120 y_cFrame_slice := Or.inl q2513
theorem ml2517 : ML "TransportPair$Frame" 124 y_cFrame_allowed := Or.inl q2517
theorem ml2474 : ML "TransportPair$Frame" 73 y_cBytes_one := Or.inl q2474
theorem ml2489 : ML "TransportPair$Frame" 96 y_cFrame_paddings := Or.inl q2489
theorem ml2509 : ML "TransportPair$Frame" 103 y_cFrame_streams := Or.inl q2509
theorem ml2523 : ML "TransportPair$Frame" 106 y_cFrame_names := Or.inl q2523
theorem ml2527 : ML "TransportPair$Frame" 109 y_cBytes_many := Or.inl q2527
theorem ml2528 : ML "TransportPair$Frame" 116 y_cFrame_carries := Or.inl q2528
theorem ml2495 : ML "TransportPair$Frame" 100 y_cFrame_acknowledges := Or.inl q2495
theorem ml2470 : ML "TransportPair$Frame" 63 y_cFrame_clear := Or.inl q2470
theorem pl934 : PL "TransportPair$Frame" 72 20 7 (.array (.byte)) 102 := ⟨_, rfl, by decide, rfl, fun _ => rfl, by decide, Or.inl q934, rfl⟩
theorem ml2475 : ML "TransportPair$Frame" 77 y_cFrame_isKind := Or.inl q2475
theorem ml2478 : ML "TransportPair$Frame" 81 y_cFrame_fails := Or.inl q2478
theorem ml2482 : ML "TransportPair$Frame" 85 y_cFrame_isEarly := Or.inl q2482
theorem ml2485 : ML "TransportPair$Frame" 88 y_cFrame_fields := Or.inl q2485
theorem fl720 : FL "TransportPair$Book" 35 10 9 2 105 := ⟨_, rfl, by decide, rfl, fun _ => rfl, by decide, Or.inl q720⟩
theorem fl628 : FL "TransportPair$Book" 56 13 3 0 0 := ⟨_, rfl, by decide, rfl, fun z => absurd z (by decide), by decide, Or.inr ⟨_, q628⟩⟩
theorem fl645 : FL "TransportPair$Space" 50 13 10 0 0 := ⟨_, rfl, by decide, rfl, fun z => absurd z (by decide), by decide, Or.inl q645⟩
theorem pl535 : PL "TransportPair$Trip" 24 11 2 (.int) 0 := ⟨_, rfl, by decide, rfl, fun z => absurd z (by decide), by decide, Or.inl q535, rfl⟩
theorem fl537 : FL "TransportPair$Trip" 18 11 3 0 0 := ⟨_, rfl, by decide, rfl, fun z => absurd z (by decide), by decide, Or.inl q537⟩
theorem fl539 : FL "TransportPair$Trip" 21 11 4 0 0 := ⟨_, rfl, by decide, rfl, fun z => absurd z (by decide), by decide, Or.inl q539⟩
theorem fl631 : FL "TransportPair$Space" 66 13 4 0 0 := ⟨_, rfl, by decide, rfl, fun z => absurd z (by decide), by decide, Or.inl q631⟩
theorem fl633 : FL "TransportPair$Space" 69 13 5 0 0 := ⟨_, rfl, by decide, rfl, fun z => absurd z (by decide), by decide, Or.inl q633⟩
theorem pl643 : PL "TransportPair$Space" 76 13 9 (.int) 0 := ⟨_, rfl, by decide, rfl, fun z => absurd z (by decide), by decide, Or.inl q643, rfl⟩
theorem fl563 : FL "TransportPair$Window" 18 12 2 0 0 := ⟨_, rfl, by decide, rfl, fun z => absurd z (by decide), by decide, Or.inl q563⟩
theorem fl558 : FL "TransportPair$Window" 9 12 0 0 0 := ⟨_, rfl, by decide, rfl, fun z => absurd z (by decide), by decide, Or.inl q558⟩
theorem fl561 : FL "TransportPair$Window" 15 12 1 0 0 := ⟨_, rfl, by decide, rfl, fun z => absurd z (by decide), by decide, Or.inl q561⟩
theorem fl589 : FL "TransportPair$Queue" 17 14 2 0 0 := ⟨_, rfl, by decide, rfl, fun z => absurd z (by decide), by decide, Or.inl q589⟩
theorem fl587 : FL "TransportPair$Queue" 7 14 0 2 101 := ⟨_, rfl, by decide, rfl, fun _ => rfl, by decide, Or.inl q587⟩
theorem ml2575 : ML "TransportPair$Book" 107 y_cSpace_settle := Or.inl q2575
theorem fl625 : FL "TransportPair$Book" 85 13 0 2 101 := ⟨_, rfl, by decide, rfl, fun _ => rfl, by decide, Or.inr ⟨_, q625⟩⟩
theorem ml2561 : ML "TransportPair$Book" 81 y_cSpace_is := Or.inl q2561
theorem ml2579 : ML "TransportPair$Book" 110 y_cWindow_grow := Or.inl q2579
theorem fl649 : FL "TransportPair$Book" 114 13 11 2 15 := ⟨_, rfl, by decide, rfl, fun _ => rfl, by decide, Or.inr ⟨_, q649⟩⟩
theorem ml2583 : ML "TransportPair$Book" 117 y_cQueue_add := Or.inl q2583
theorem fl535 : FL "TransportPair$Trip" 24 11 2 0 0 := ⟨_, rfl, by decide, rfl, fun z => absurd z (by decide), by decide, Or.inl q535⟩
theorem fl705 : FL "TransportPair$Book" 20 10 1 2 12 := ⟨_, rfl, by decide, rfl, fun _ => rfl, by decide, Or.inl q705⟩
theorem ml2605 : ML "TransportPair$Book" 146 y_cTrip_patience := Or.inl q2605
theorem ml2554 : ML "TransportPair$Book" 68 y_cSpace_state := Or.inl q2554
theorem ml2592 : ML "TransportPair$Book" 122 y_cTrip_limit := Or.inl q2592
theorem pl641 : PL "TransportPair$Book" 126 13 8 (.int) 0 := ⟨_, rfl, by decide, rfl, fun z => absurd z (by decide), by decide, Or.inr ⟨_, q641⟩, rfl⟩
theorem fl642 : FL "TransportPair$Book" 75 13 9 0 0 := ⟨_, rfl, by decide, rfl, fun z => absurd z (by decide), by decide, Or.inr ⟨_, q642⟩⟩
theorem fl636 : FL "TransportPair$Book" 59 13 6 0 0 := ⟨_, rfl, by decide, rfl, fun z => absurd z (by decide), by decide, Or.inr ⟨_, q636⟩⟩
theorem fl709 : FL "TransportPair$Book" 46 10 3 0 0 := ⟨_, rfl, by decide, rfl, fun z => absurd z (by decide), by decide, Or.inl q709⟩
theorem ml2596 : ML "TransportPair$Book" 135 y_cWindow_shrink := Or.inl q2596
theorem fl641 : FL "TransportPair$Book" 126 13 8 0 0 := ⟨_, rfl, by decide, rfl, fun z => absurd z (by decide), by decide, Or.inr ⟨_, q641⟩⟩
theorem fl652 : FL "TransportPair$Book" 129 13 12 2 15 := ⟨_, rfl, by decide, rfl, fun _ => rfl, by decide, Or.inr ⟨_, q652⟩⟩
theorem fl540 : FL "TransportPair$Book" 132 11 4 0 0 := ⟨_, rfl, by decide, rfl, fun z => absurd z (by decide), by decide, Or.inr ⟨_, q540⟩⟩
theorem ml2601 : ML "TransportPair$Book" 139 y_cBook_persists := Or.inl q2601
theorem ml2606 : ML "TransportPair$Book" 143 y_cWindow_collapse := Or.inl q2606
theorem pl636 : PL "TransportPair$Book" 59 13 6 (.int) 0 := ⟨_, rfl, by decide, rfl, fun z => absurd z (by decide), by decide, Or.inr ⟨_, q636⟩, rfl⟩
theorem fl722 : FL "TransportPair$Book" 72 10 10 0 0 := ⟨_, rfl, by decide, rfl, fun z => absurd z (by decide), by decide, Or.inl q722⟩
theorem fl718 : FL "TransportPair$Book" 31 10 8 2 105 := ⟨_, rfl, by decide, rfl, fun _ => rfl, by decide, Or.inl q718⟩
theorem ml2588 : ML "TransportPair$Book" 100 y_cBook_losses := Or.inl q2588
theorem ml2571 : ML "TransportPair$Book" 96 y_cBook_done := Or.inl q2571
theorem ml2563 : ML "TransportPair$Book" 92 y_cTrip_sample := Or.inl q2563
theorem fl588 : FL "TransportPair$Queue" 13 14 1 0 0 := ⟨_, rfl, by decide, rfl, fun z => absurd z (by decide), by decide, Or.inl q588⟩
theorem fl766 : FL "TransportPair$Cargo" 30 16 6 0 0 := ⟨_, rfl, by decide, rfl, fun z => absurd z (by decide), by decide, Or.inl q766⟩
theorem fl768 : FL "TransportPair$Cargo" 38 16 7 0 0 := ⟨_, rfl, by decide, rfl, fun z => absurd z (by decide), by decide, Or.inl q768⟩
theorem fl754 : FL "TransportPair$Cargo" 7 16 0 2 101 := ⟨_, rfl, by decide, rfl, fun _ => rfl, by decide, Or.inl q754⟩
theorem fl498 : FL "TransportPair$Crypto" 9 9 0 2 102 := ⟨_, rfl, by decide, rfl, fun _ => rfl, by decide, Or.inl q498⟩
theorem fl1146 : FL "TransportPair$Spans" 18 25 2 2 101 := ⟨_, rfl, by decide, rfl, fun _ => rfl, by decide, Or.inl q1146⟩
theorem fl1149 : FL "TransportPair$Spans" 21 25 4 0 0 := ⟨_, rfl, by decide, rfl, fun z => absurd z (by decide), by decide, Or.inl q1149⟩
theorem fl1148 : FL "TransportPair$Spans" 25 25 3 0 0 := ⟨_, rfl, by decide, rfl, fun z => absurd z (by decide), by decide, Or.inl q1148⟩
theorem fl1142 : FL "TransportPair$Spans" 9 25 0 2 101 := ⟨_, rfl, by decide, rfl, fun _ => rfl, by decide, Or.inl q1142⟩
theorem ml2653 : ML "TransportPair$Spans" 28 y_jArrays_copyOf_AII := Or.inl q2653
theorem fl1144 : FL "TransportPair$Spans" 15 25 1 2 101 := ⟨_, rfl, by decide, rfl, fun _ => rfl, by decide, Or.inl q1144⟩
theorem pl1148 : PL "TransportPair$Spans" 25 25 3 (.int) 0 := ⟨_, rfl, by decide, rfl, fun z => absurd z (by decide), by decide, Or.inl q1148, rfl⟩
theorem ml2645 : ML "TransportPair$Spans" 43 y_cSpans_release := Or.inl q2645
theorem ml2649 : ML "TransportPair$Spans" 47 y_cSpans_make := Or.inl q2649
theorem ml2658 : ML "TransportPair$Spans" 51 y_cSpans_trim := Or.inl q2658
theorem fl1220 : FL "TransportPair$Hall" 41 23 6 2 26 := ⟨_, rfl, by decide, rfl, fun _ => rfl, by decide, Or.inl q1220⟩
theorem fl1935 : FL "TransportPair$Hall" 325 32 6 0 0 := ⟨_, rfl, by decide, rfl, fun z => absurd z (by decide), by decide, Or.inr ⟨_, q1935⟩⟩
theorem ml2639 : ML "TransportPair$Hall" 355 y_cSpans_add := Or.inl q2639
theorem pl1935 : PL "TransportPair$Hall" 325 32 6 (.int) 0 := ⟨_, rfl, by decide, rfl, fun z => absurd z (by decide), by decide, Or.inr ⟨_, q1935⟩, rfl⟩
theorem fl1937 : FL "TransportPair$Hall" 352 32 7 0 0 := ⟨_, rfl, by decide, rfl, fun z => absurd z (by decide), by decide, Or.inr ⟨_, q1937⟩⟩
theorem pl1937 : PL "TransportPair$Hall" 352 32 7 (.int) 0 := ⟨_, rfl, by decide, rfl, fun z => absurd z (by decide), by decide, Or.inr ⟨_, q1937⟩, rfl⟩
theorem ml2654 : ML "TransportPair$Hall" 338 y_cSpans_cut := Or.inl q2654
theorem fl1929 : FL "TransportPair$Hall" 157 32 3 0 0 := ⟨_, rfl, by decide, rfl, fun z => absurd z (by decide), by decide, Or.inr ⟨_, q1929⟩⟩
theorem ml2662 : ML "TransportPair$Hall" 357 y_cSpans_count := Or.inl q2662
theorem fl1927 : FL "TransportPair$Hall" 307 32 1 0 0 := ⟨_, rfl, by decide, rfl, fun z => absurd z (by decide), by decide, Or.inr ⟨_, q1927⟩⟩
theorem fl1143 : FL "TransportPair$Hall" 328 25 0 2 101 := ⟨_, rfl, by decide, rfl, fun _ => rfl, by decide, Or.inr ⟨_, q1143⟩⟩
theorem fl1145 : FL "TransportPair$Hall" 331 25 1 2 101 := ⟨_, rfl, by decide, rfl, fun _ => rfl, by decide, Or.inr ⟨_, q1145⟩⟩
theorem fl1147 : FL "TransportPair$Hall" 361 25 2 2 101 := ⟨_, rfl, by decide, rfl, fun _ => rfl, by decide, Or.inr ⟨_, q1147⟩⟩
theorem fl1224 : FL "TransportPair$Hall" 61 23 10 1 0 := ⟨_, rfl, by decide, rfl, fun z => absurd z (by decide), by decide, Or.inl q1224⟩
theorem fl1943 : FL "TransportPair$Hall" 317 32 10 1 0 := ⟨_, rfl, by decide, rfl, fun z => absurd z (by decide), by decide, Or.inr ⟨_, q1943⟩⟩
theorem pl1943 : PL "TransportPair$Hall" 317 32 10 (.long) 0 := ⟨_, rfl, by decide, rfl, fun z => absurd z (by decide), by decide, Or.inr ⟨_, q1943⟩, rfl⟩
theorem fl1119 : FL "TransportPair$Hall" 318 24 5 1 0 := ⟨_, rfl, by decide, rfl, fun z => absurd z (by decide), by decide, Or.inr ⟨_, q1119⟩⟩
theorem pl1119 : PL "TransportPair$Hall" 318 24 5 (.long) 0 := ⟨_, rfl, by decide, rfl, fun z => absurd z (by decide), by decide, Or.inr ⟨_, q1119⟩, rfl⟩
theorem ml2666 : ML "TransportPair$Hall" 348 y_cHall_isLost := Or.inl q2666
theorem pl1945 : PL "TransportPair$Hall" 296 32 11 (.boolean) 0 := ⟨_, rfl, by decide, rfl, fun z => absurd z (by decide), by decide, Or.inr ⟨_, q1945⟩, rfl⟩
theorem ml2635 : ML "TransportPair$Hall" 344 y_cHall_isGone := Or.inl q2635
theorem fl1314 : FL "TransportPair$Side" 49 1 10 2 110 := ⟨_, rfl, by decide, rfl, fun _ => rfl, by decide, Or.inl q1314⟩
theorem fl755 : FL "TransportPair$Side" 543 16 0 2 101 := ⟨_, rfl, by decide, rfl, fun _ => rfl, by decide, Or.inr ⟨_, q755⟩⟩
theorem ml2622 : ML "TransportPair$Side" 546 y_cCargo_end := Or.inl q2622
theorem fl759 : FL "TransportPair$Side" 548 16 2 2 102 := ⟨_, rfl, by decide, rfl, fun _ => rfl, by decide, Or.inr ⟨_, q759⟩⟩
theorem fl761 : FL "TransportPair$Side" 561 16 3 2 105 := ⟨_, rfl, by decide, rfl, fun _ => rfl, by decide, Or.inr ⟨_, q761⟩⟩
theorem fl763 : FL "TransportPair$Side" 551 16 4 2 105 := ⟨_, rfl, by decide, rfl, fun _ => rfl, by decide, Or.inr ⟨_, q763⟩⟩
theorem fl757 : FL "TransportPair$Side" 554 16 1 2 101 := ⟨_, rfl, by decide, rfl, fun _ => rfl, by decide, Or.inr ⟨_, q757⟩⟩
theorem fl765 : FL "TransportPair$Side" 564 16 5 2 105 := ⟨_, rfl, by decide, rfl, fun _ => rfl, by decide, Or.inr ⟨_, q765⟩⟩
theorem ml2630 : ML "TransportPair$Side" 567 y_cHall_gone := Or.inl q2630
theorem fl1323 : FL "TransportPair$Side" 558 1 16 0 0 := ⟨_, rfl, by decide, rfl, fun z => absurd z (by decide), by decide, Or.inl q1323⟩
theorem fl1311 : FL "TransportPair$Side" 35 1 8 2 108 := ⟨_, rfl, by decide, rfl, fun _ => rfl, by decide, Or.inl q1311⟩
theorem ml2626 : ML "TransportPair$Side" 555 y_cCrypto_gone := Or.inl q2626
theorem pl1323 : PL "TransportPair$Side" 558 1 16 (.boolean) 0 := ⟨_, rfl, by decide, rfl, fun z => absurd z (by decide), by decide, Or.inl q1323, rfl⟩
theorem fl1322 : FL "TransportPair$Side" 257 1 15 0 0 := ⟨_, rfl, by decide, rfl, fun z => absurd z (by decide), by decide, Or.inl q1322⟩
theorem pl1322 : PL "TransportPair$Side" 257 1 15 (.boolean) 0 := ⟨_, rfl, by decide, rfl, fun z => absurd z (by decide), by decide, Or.inl q1322, rfl⟩
theorem fl650 : FL "TransportPair$Side" 527 13 11 2 15 := ⟨_, rfl, by decide, rfl, fun _ => rfl, by decide, Or.inr ⟨_, q650⟩⟩
theorem ml2614 : ML "TransportPair$Side" 531 y_cQueue_next := Or.inl q2614
theorem fl653 : FL "TransportPair$Side" 540 13 12 2 15 := ⟨_, rfl, by decide, rfl, fun _ => rfl, by decide, Or.inr ⟨_, q653⟩⟩
theorem ml2618 : ML "TransportPair$Side" 536 y_cSide_gone := Or.inl q2618
theorem fl1349 : FL "TransportPair$Side" 91 1 38 2 21 := ⟨_, rfl, by decide, rfl, fun _ => rfl, by decide, Or.inl q1349⟩
theorem fl945 : FL "TransportPair$Side" 486 20 11 0 0 := ⟨_, rfl, by decide, rfl, fun z => absurd z (by decide), by decide, Or.inr ⟨_, q945⟩⟩
theorem fl947 : FL "TransportPair$Side" 490 20 12 2 105 := ⟨_, rfl, by decide, rfl, fun _ => rfl, by decide, Or.inr ⟨_, q947⟩⟩
theorem fl719 : FL "TransportPair$Side" 493 10 8 2 105 := ⟨_, rfl, by decide, rfl, fun _ => rfl, by decide, Or.inr ⟨_, q719⟩⟩
theorem fl949 : FL "TransportPair$Side" 494 20 13 2 105 := ⟨_, rfl, by decide, rfl, fun _ => rfl, by decide, Or.inr ⟨_, q949⟩⟩
theorem fl721 : FL "TransportPair$Side" 495 10 9 2 105 := ⟨_, rfl, by decide, rfl, fun _ => rfl, by decide, Or.inr ⟨_, q721⟩⟩
theorem pl723 : PL "TransportPair$Side" 496 10 10 (.int) 0 := ⟨_, rfl, by decide, rfl, fun z => absurd z (by decide), by decide, Or.inr ⟨_, q723⟩, rfl⟩
theorem ml2541 : ML "TransportPair$Side" 499 y_cBook_isSent := Or.inl q2541
theorem fl926 : FL "TransportPair$Side" 469 20 3 1 0 := ⟨_, rfl, by decide, rfl, fun z => absurd z (by decide), by decide, Or.inr ⟨_, q926⟩⟩
theorem ml2549 : ML "TransportPair$Side" 505 y_cBook_acknowledge := Or.inl q2549
theorem ml2610 : ML "TransportPair$Side" 508 y_cSide_settle := Or.inl q2610
theorem fl924 : FL "TransportPair$Crypto" 47 20 3 1 0 := ⟨_, rfl, by decide, rfl, fun z => absurd z (by decide), by decide, Or.inr ⟨_, q924⟩⟩
theorem fl940 : FL "TransportPair$Crypto" 60 20 9 0 0 := ⟨_, rfl, by decide, rfl, fun z => absurd z (by decide), by decide, Or.inr ⟨_, q940⟩⟩
theorem fl500 : FL "TransportPair$Crypto" 13 9 2 2 102 := ⟨_, rfl, by decide, rfl, fun _ => rfl, by decide, Or.inl q500⟩
theorem fl933 : FL "TransportPair$Crypto" 54 20 7 2 102 := ⟨_, rfl, by decide, rfl, fun _ => rfl, by decide, Or.inr ⟨_, q933⟩⟩
theorem fl937 : FL "TransportPair$Crypto" 57 20 8 0 0 := ⟨_, rfl, by decide, rfl, fun z => absurd z (by decide), by decide, Or.inr ⟨_, q937⟩⟩
theorem fl502 : FL "TransportPair$Crypto" 16 9 3 2 103 := ⟨_, rfl, by decide, rfl, fun _ => rfl, by decide, Or.inl q502⟩
theorem fl503 : FL "TransportPair$Crypto" 69 9 4 0 0 := ⟨_, rfl, by decide, rfl, fun z => absurd z (by decide), by decide, Or.inl q503⟩
theorem pl1041 : PL "TransportPair$Greeting" 171 21 19 (.int) 0 := ⟨_, rfl, by decide, rfl, fun z => absurd z (by decide), by decide, Or.inl q1041, rfl⟩
theorem fl1025 : FL "TransportPair$Greeting" 46 21 9 2 112 := ⟨_, rfl, by decide, rfl, fun _ => rfl, by decide, Or.inl q1025⟩
theorem ml2694 : ML "TransportPair$Greeting" 174 y_cRow_clear := Or.inl q2694
theorem fl1036 : FL "TransportPair$Greeting" 73 21 17 2 102 := ⟨_, rfl, by decide, rfl, fun _ => rfl, by decide, Or.inl q1036⟩
theorem fl1020 : FL "TransportPair$Greeting" 24 21 5 2 6 := ⟨_, rfl, by decide, rfl, fun _ => rfl, by decide, Or.inl q1020⟩
theorem ml2721 : ML "TransportPair$Greeting" 83 y_cHash_begin := Or.inl q2721
theorem ml2722 : ML "TransportPair$Greeting" 92 y_cHash_add := Or.inl q2722
theorem ml2723 : ML "TransportPair$Greeting" 96 y_cHash_end := Or.inl q2723
theorem ml2717 : ML "TransportPair$Greeting" 135 y_cGreeting_digest := Or.inl q2717
theorem fl1011 : FL "TransportPair$Greeting" 9 21 1 2 102 := ⟨_, rfl, by decide, rfl, fun _ => rfl, by decide, Or.inl q1011⟩
theorem fl1031 : FL "TransportPair$Greeting" 58 21 12 2 102 := ⟨_, rfl, by decide, rfl, fun _ => rfl, by decide, Or.inl q1031⟩
theorem sl2724 : SL "TransportPair$Greeting" 137 7 := Or.inl q2724
theorem sl2726 : SL "TransportPair$Greeting" 140 8 := Or.inl q2726
theorem sl2732 : SL "TransportPair$Greeting" 149 11 := Or.inl q2732
theorem fl1032 : FL "TransportPair$Greeting" 61 21 13 2 102 := ⟨_, rfl, by decide, rfl, fun _ => rfl, by decide, Or.inl q1032⟩
theorem sl2738 : SL "TransportPair$Greeting" 143 9 := Or.inl q2738
theorem sl2740 : SL "TransportPair$Greeting" 146 10 := Or.inl q2740
theorem ml2709 : ML "TransportPair$Greeting" 198 y_cGreeting_keep := Or.inl q2709
theorem ml2713 : ML "TransportPair$Greeting" 195 y_cGreeting_greetSecrets := Or.inl q2713
theorem ml2728 : ML "TransportPair$Greeting" 206 y_cGreeting_prove := Or.inl q2728
theorem ml2734 : ML "TransportPair$Greeting" 209 y_cGreeting_talkSecrets := Or.inl q2734
theorem pl1046 : PL "TransportPair$Greeting" 212 21 22 (.boolean) 0 := ⟨_, rfl, by decide, rfl, fun z => absurd z (by decide), by decide, Or.inl q1046, rfl⟩
theorem ml2690 : ML "TransportPair$Greeting" 181 y_cGreeting_fails := Or.inl q2690
theorem fl1042 : FL "TransportPair$Greeting" 156 21 20 0 0 := ⟨_, rfl, by decide, rfl, fun z => absurd z (by decide), by decide, Or.inl q1042⟩
theorem ml2705 : ML "TransportPair$Greeting" 192 y_cGreeting_hello := Or.inl q2705
theorem ml2742 : ML "TransportPair$Greeting" 202 y_cGreeting_done := Or.inl q2742
theorem fl1041 : FL "TransportPair$Greeting" 171 21 19 0 0 := ⟨_, rfl, by decide, rfl, fun z => absurd z (by decide), by decide, Or.inl q1041⟩
theorem ml2687 : ML "TransportPair$Greeting" 177 y_cGreeting_levelOf := Or.inl q2687
theorem ml2698 : ML "TransportPair$Greeting" 184 y_cGreeting_fits := Or.inl q2698
theorem ml2701 : ML "TransportPair$Greeting" 188 y_cGreeting_comes := Or.inl q2701
theorem ml2765 : ML "TransportPair$Parameters" 74 y_cParameters_isAnswer := Or.inl q2765
theorem fl836 : FL "TransportPair$Parameters" 53 18 1 0 0 := ⟨_, rfl, by decide, rfl, fun z => absurd z (by decide), by decide, Or.inr ⟨_, q836⟩⟩
theorem fl831 : FL "TransportPair$Parameters" 77 18 0 2 102 := ⟨_, rfl, by decide, rfl, fun _ => rfl, by decide, Or.inr ⟨_, q831⟩⟩
theorem ml2759 : ML "TransportPair$Parameters" 56 y_cBytes_number := Or.inl q2759
theorem ml2769 : ML "TransportPair$Parameters" 81 y_cParameters_fits := Or.inl q2769
theorem pl836 : PL "TransportPair$Parameters" 53 18 1 (.int) 0 := ⟨_, rfl, by decide, rfl, fun z => absurd z (by decide), by decide, Or.inr ⟨_, q836⟩, rfl⟩
theorem ml2768 : ML "TransportPair$Parameters" 70 y_cBytes_pass := Or.inl q2768
theorem pl811 : PL "TransportPair$Parameters" 40 17 3 (.int) 0 := ⟨_, rfl, by decide, rfl, fun z => absurd z (by decide), by decide, Or.inl q811, rfl⟩
theorem pl812 : PL "TransportPair$Parameters" 44 17 4 (.int) 0 := ⟨_, rfl, by decide, rfl, fun z => absurd z (by decide), by decide, Or.inl q812, rfl⟩
theorem ml2758 : ML "TransportPair$Parameters" 47 y_cBytes_left := Or.inl q2758
theorem fl843 : FL "TransportPair$Parameters" 60 18 3 0 0 := ⟨_, rfl, by decide, rfl, fun z => absurd z (by decide), by decide, Or.inr ⟨_, q843⟩⟩
theorem ml2761 : ML "TransportPair$Parameters" 66 y_cParameters_one := Or.inl q2761
theorem fl811 : FL "TransportPair$Parameters" 40 17 3 0 0 := ⟨_, rfl, by decide, rfl, fun z => absurd z (by decide), by decide, Or.inl q811⟩
theorem fl1345 : FL "TransportPair$Side" 67 1 34 2 18 := ⟨_, rfl, by decide, rfl, fun _ => rfl, by decide, Or.inl q1345⟩
theorem fl807 : FL "TransportPair$Side" 273 17 0 2 105 := ⟨_, rfl, by decide, rfl, fun _ => rfl, by decide, Or.inr ⟨_, q807⟩⟩
theorem fl1037 : FL "TransportPair$Side" 263 21 17 2 102 := ⟨_, rfl, by decide, rfl, fun _ => rfl, by decide, Or.inr ⟨_, q1037⟩⟩
theorem fl810 : FL "TransportPair$Side" 281 17 2 2 101 := ⟨_, rfl, by decide, rfl, fun _ => rfl, by decide, Or.inr ⟨_, q810⟩⟩
theorem pl1223 : PL "TransportPair$Hall" 82 23 9 (.long) 0 := ⟨_, rfl, by decide, rfl, fun z => absurd z (by decide), by decide, Or.inl q1223, rfl⟩
theorem pl1115 : PL "TransportPair$Hall" 93 24 3 (.long) 0 := ⟨_, rfl, by decide, rfl, fun z => absurd z (by decide), by decide, Or.inr ⟨_, q1115⟩, rfl⟩
theorem pl1336 : PL "TransportPair$Side" 244 1 27 (.int) 0 := ⟨_, rfl, by decide, rfl, fun z => absurd z (by decide), by decide, Or.inl q1336, rfl⟩
theorem fl1039 : FL "TransportPair$Side" 247 21 18 0 0 := ⟨_, rfl, by decide, rfl, fun z => absurd z (by decide), by decide, Or.inr ⟨_, q1039⟩⟩
theorem ml2754 : ML "TransportPair$Side" 265 y_cParameters_read := Or.inl q2754
theorem ml2776 : ML "TransportPair$Side" 269 y_cSide_isName := Or.inl q2776
theorem ml2780 : ML "TransportPair$Side" 277 y_cHall_limits := Or.inl q2780
theorem pl714 : PL "TransportPair$Side" 284 10 6 (.boolean) 0 := ⟨_, rfl, by decide, rfl, fun z => absurd z (by decide), by decide, Or.inr ⟨_, q714⟩, rfl⟩
theorem fl1040 : FL "TransportPair$Side" 237 21 19 0 0 := ⟨_, rfl, by decide, rfl, fun z => absurd z (by decide), by decide, Or.inr ⟨_, q1040⟩⟩
theorem fl1336 : FL "TransportPair$Side" 244 1 27 0 0 := ⟨_, rfl, by decide, rfl, fun z => absurd z (by decide), by decide, Or.inl q1336⟩
theorem ml2750 : ML "TransportPair$Side" 250 y_cSide_learn := Or.inl q2750
theorem ml2465 : ML "TransportPair$Side" 240 y_cSide_close := Or.inl q2465
theorem fl1045 : FL "TransportPair$Side" 254 21 22 0 0 := ⟨_, rfl, by decide, rfl, fun z => absurd z (by decide), by decide, Or.inr ⟨_, q1045⟩⟩
theorem ml2786 : ML "TransportPair$Side" 260 y_cSide_confirm := Or.inl q2786
theorem ml2674 : ML "TransportPair$Side" 511 y_cCrypto_take := Or.inl q2674
theorem ml2679 : ML "TransportPair$Side" 514 y_cCrypto_more := Or.inl q2679
theorem fl504 : FL "TransportPair$Side" 517 9 4 0 0 := ⟨_, rfl, by decide, rfl, fun z => absurd z (by decide), by decide, Or.inr ⟨_, q504⟩⟩
theorem pl504 : PL "TransportPair$Side" 517 9 4 (.int) 0 := ⟨_, rfl, by decide, rfl, fun z => absurd z (by decide), by decide, Or.inr ⟨_, q504⟩, rfl⟩
theorem fl501 : FL "TransportPair$Side" 519 9 2 2 102 := ⟨_, rfl, by decide, rfl, fun _ => rfl, by decide, Or.inr ⟨_, q501⟩⟩
theorem ml2683 : ML "TransportPair$Side" 521 y_cGreeting_take := Or.inl q2683
theorem ml2746 : ML "TransportPair$Side" 524 y_cSide_follow := Or.inl q2746
theorem fl942 : FL "TransportPair$Side" 479 20 9 0 0 := ⟨_, rfl, by decide, rfl, fun z => absurd z (by decide), by decide, Or.inr ⟨_, q942⟩⟩
theorem fl918 : FL "TransportPair$Side" 322 20 0 0 0 := ⟨_, rfl, by decide, rfl, fun z => absurd z (by decide), by decide, Or.inr ⟨_, q918⟩⟩
theorem fl922 : FL "TransportPair$Side" 325 20 2 1 0 := ⟨_, rfl, by decide, rfl, fun z => absurd z (by decide), by decide, Or.inr ⟨_, q922⟩⟩
theorem fl1986 : FL "TransportPair$Hall" 220 33 4 0 0 := ⟨_, rfl, by decide, rfl, fun z => absurd z (by decide), by decide, Or.inr ⟨_, q1986⟩⟩
theorem fl1988 : FL "TransportPair$Hall" 223 33 5 0 0 := ⟨_, rfl, by decide, rfl, fun z => absurd z (by decide), by decide, Or.inr ⟨_, q1988⟩⟩
theorem fl1226 : FL "TransportPair$Hall" 226 23 12 0 0 := ⟨_, rfl, by decide, rfl, fun z => absurd z (by decide), by decide, Or.inl q1226⟩
theorem fl1113 : FL "TransportPair$Hall" 128 24 1 0 0 := ⟨_, rfl, by decide, rfl, fun z => absurd z (by decide), by decide, Or.inr ⟨_, q1113⟩⟩
theorem pl1113 : PL "TransportPair$Hall" 128 24 1 (.int) 0 := ⟨_, rfl, by decide, rfl, fun z => absurd z (by decide), by decide, Or.inr ⟨_, q1113⟩, rfl⟩
theorem pl1226 : PL "TransportPair$Hall" 226 23 12 (.int) 0 := ⟨_, rfl, by decide, rfl, fun z => absurd z (by decide), by decide, Or.inl q1226, rfl⟩
theorem pl1986 : PL "TransportPair$Hall" 220 33 4 (.int) 0 := ⟨_, rfl, by decide, rfl, fun z => absurd z (by decide), by decide, Or.inr ⟨_, q1986⟩, rfl⟩
theorem fl1198 : FL "TransportPair$Blocks" 30 27 4 0 0 := ⟨_, rfl, by decide, rfl, fun z => absurd z (by decide), by decide, Or.inl q1198⟩
theorem fl1195 : FL "TransportPair$Blocks" 15 27 1 2 105 := ⟨_, rfl, by decide, rfl, fun _ => rfl, by decide, Or.inl q1195⟩
theorem ml2835 : ML "TransportPair$Blocks" 33 y_jArrays_copyOf_ABI := Or.inl q2835
theorem ml2843 : ML "TransportPair$Blocks" 39 y_jArrays_copyOf_AJI := Or.inl q2843
theorem fl1196 : FL "TransportPair$Blocks" 19 27 2 2 101 := ⟨_, rfl, by decide, rfl, fun _ => rfl, by decide, Or.inl q1196⟩
theorem ml2851 : ML "TransportPair$Blocks" 42 y_jArrays_copyOf_AII := Or.inl q2851
theorem pl1198 : PL "TransportPair$Blocks" 30 27 4 (.int) 0 := ⟨_, rfl, by decide, rfl, fun z => absurd z (by decide), by decide, Or.inl q1198, rfl⟩
theorem ml2831 : ML "TransportPair$Blocks" 50 y_cBlocks_make := Or.inl q2831
theorem fl1983 : FL "TransportPair$Blocks" 54 33 3 0 0 := ⟨_, rfl, by decide, rfl, fun z => absurd z (by decide), by decide, Or.inr ⟨_, q1983⟩⟩
theorem ml2827 : ML "TransportPair$Blocks" 62 y_cBlocks_block := Or.inl q2827
theorem pl1983 : PL "TransportPair$Blocks" 54 33 3 (.int) 0 := ⟨_, rfl, by decide, rfl, fun z => absurd z (by decide), by decide, Or.inr ⟨_, q1983⟩, rfl⟩
theorem ml2817 : ML "TransportPair$Hall" 253 y_cHall_reach := Or.inl q2817
theorem pl1988 : PL "TransportPair$Hall" 223 33 5 (.int) 0 := ⟨_, rfl, by decide, rfl, fun z => absurd z (by decide), by decide, Or.inr ⟨_, q1988⟩, rfl⟩
theorem ml2822 : ML "TransportPair$Hall" 257 y_cBlocks_put := Or.inl q2822
theorem pl1979 : PL "TransportPair$Hall" 180 33 1 (.int) 0 := ⟨_, rfl, by decide, rfl, fun z => absurd z (by decide), by decide, Or.inr ⟨_, q1979⟩, rfl⟩
theorem pl1993 : PL "TransportPair$Hall" 261 33 8 (.long) 0 := ⟨_, rfl, by decide, rfl, fun z => absurd z (by decide), by decide, Or.inr ⟨_, q1993⟩, rfl⟩
theorem ml2856 : ML "TransportPair$Hall" 264 y_cBlocks_clear := Or.inl q2856
theorem fl1223 : FL "TransportPair$Hall" 82 23 9 1 0 := ⟨_, rfl, by decide, rfl, fun z => absurd z (by decide), by decide, Or.inl q1223⟩
theorem ml2800 : ML "TransportPair$Hall" 234 y_cHall_allowed := Or.inl q2800
theorem ml2805 : ML "TransportPair$Hall" 237 y_cHall_fits := Or.inl q2805
theorem ml2809 : ML "TransportPair$Hall" 241 y_cHall_come := Or.inl q2809
theorem fl1939 : FL "TransportPair$Hall" 244 32 8 1 0 := ⟨_, rfl, by decide, rfl, fun z => absurd z (by decide), by decide, Or.inr ⟨_, q1939⟩⟩
theorem pl1939 : PL "TransportPair$Hall" 244 32 8 (.long) 0 := ⟨_, rfl, by decide, rfl, fun z => absurd z (by decide), by decide, Or.inr ⟨_, q1939⟩, rfl⟩
theorem ml2852 : ML "TransportPair$Hall" 249 y_cHall_isReset := Or.inl q2852
theorem ml2813 : ML "TransportPair$Hall" 245 y_cHall_comes := Or.inl q2813
theorem ml2670 : ML "TransportPair$Side" 456 y_cSide_greets := Or.inl q2670
theorem pl1324 : PL "TransportPair$Side" 459 1 17 (.boolean) 0 := ⟨_, rfl, by decide, rfl, fun z => absurd z (by decide), by decide, Or.inl q1324, rfl⟩
theorem pl1326 : PL "TransportPair$Side" 462 1 19 (.long) 0 := ⟨_, rfl, by decide, rfl, fun z => absurd z (by decide), by decide, Or.inl q1326, rfl⟩
theorem fl714 : FL "TransportPair$Side" 284 10 6 0 0 := ⟨_, rfl, by decide, rfl, fun z => absurd z (by decide), by decide, Or.inr ⟨_, q714⟩⟩
theorem ml2536 : ML "TransportPair$Side" 453 y_cSide_acknowledged := Or.inl q2536
theorem ml2790 : ML "TransportPair$Side" 465 y_cSide_drains := Or.inl q2790
theorem fl929 : FL "TransportPair$Side" 472 20 4 1 0 := ⟨_, rfl, by decide, rfl, fun z => absurd z (by decide), by decide, Or.inr ⟨_, q929⟩⟩
theorem fl935 : FL "TransportPair$Side" 475 20 7 2 102 := ⟨_, rfl, by decide, rfl, fun _ => rfl, by decide, Or.inr ⟨_, q935⟩⟩
theorem fl938 : FL "TransportPair$Side" 478 20 8 0 0 := ⟨_, rfl, by decide, rfl, fun z => absurd z (by decide), by decide, Or.inr ⟨_, q938⟩⟩
theorem ml2795 : ML "TransportPair$Side" 482 y_cHall_take := Or.inl q2795
theorem ml2869 : ML "TransportPair$Ranges" 30 y_cRanges_remove := Or.inl q2869
theorem ml2873 : ML "TransportPair$Ranges" 34 y_cRanges_insert := Or.inl q2873
theorem ml2864 : ML "TransportPair$Space" 89 y_cRanges_has := Or.inl q2864
theorem fl610 : FL "TransportPair$Space" 93 15 2 0 0 := ⟨_, rfl, by decide, rfl, fun z => absurd z (by decide), by decide, Or.inr ⟨_, q610⟩⟩
theorem fl607 : FL "TransportPair$Space" 96 15 1 2 105 := ⟨_, rfl, by decide, rfl, fun _ => rfl, by decide, Or.inr ⟨_, q607⟩⟩
theorem pl662 : PL "TransportPair$Space" 100 13 16 (.int) 0 := ⟨_, rfl, by decide, rfl, fun z => absurd z (by decide), by decide, Or.inl q662, rfl⟩
theorem fl664 : FL "TransportPair$Space" 86 13 17 0 0 := ⟨_, rfl, by decide, rfl, fun z => absurd z (by decide), by decide, Or.inl q664⟩
theorem ml2865 : ML "TransportPair$Space" 106 y_cRanges_add := Or.inl q2865
theorem fl657 : FL "TransportPair$Space" 83 13 14 0 0 := ⟨_, rfl, by decide, rfl, fun z => absurd z (by decide), by decide, Or.inl q657⟩
theorem pl660 : PL "TransportPair$Space" 103 13 15 (.int) 0 := ⟨_, rfl, by decide, rfl, fun z => absurd z (by decide), by decide, Or.inl q660, rfl⟩
theorem fl862 : FL "TransportPair$Side" 370 19 0 0 0 := ⟨_, rfl, by decide, rfl, fun z => absurd z (by decide), by decide, Or.inr ⟨_, q862⟩⟩
theorem fl1338 : FL "TransportPair$Side" 430 1 29 0 0 := ⟨_, rfl, by decide, rfl, fun z => absurd z (by decide), by decide, Or.inl q1338⟩
theorem ml2860 : ML "TransportPair$Side" 449 y_cSpace_takes := Or.inl q2860
theorem ml2466 : ML "TransportPair$Side" 445 y_cFrame_read := Or.inl q2466
theorem ml2532 : ML "TransportPair$Side" 446 y_cSide_frame := Or.inl q2532
theorem fl879 : FL "TransportPair$Side" 371 19 10 0 0 := ⟨_, rfl, by decide, rfl, fun z => absurd z (by decide), by decide, Or.inr ⟨_, q879⟩⟩
theorem ml2304 : ML "TransportPair$Side" 374 y_cSide_isTo := Or.inl q2304
theorem ml2308 : ML "TransportPair$Side" 378 y_cSide_open := Or.inl q2308
theorem ml2429 : ML "TransportPair$Side" 385 y_cSide_opened := Or.inl q2429
theorem ml2461 : ML "TransportPair$Side" 388 y_cSide_frames := Or.inl q2461
theorem ml2425 : ML "TransportPair$Side" 382 y_cSide_forget := Or.inl q2425
theorem fl1327 : FL "TransportPair$Side" 342 1 20 0 0 := ⟨_, rfl, by decide, rfl, fun z => absurd z (by decide), by decide, Or.inl q1327⟩
theorem pl1327 : PL "TransportPair$Side" 342 1 20 (.int) 0 := ⟨_, rfl, by decide, rfl, fun z => absurd z (by decide), by decide, Or.inl q1327, rfl⟩
theorem fl1334 : FL "TransportPair$Side" 345 1 25 0 0 := ⟨_, rfl, by decide, rfl, fun z => absurd z (by decide), by decide, Or.inl q1334⟩
theorem pl1334 : PL "TransportPair$Side" 345 1 25 (.int) 0 := ⟨_, rfl, by decide, rfl, fun z => absurd z (by decide), by decide, Or.inl q1334, rfl⟩
theorem fl1325 : FL "TransportPair$Side" 313 1 18 0 0 := ⟨_, rfl, by decide, rfl, fun z => absurd z (by decide), by decide, Or.inl q1325⟩
theorem ml2253 : ML "TransportPair$Side" 348 y_cHeader_read := Or.inl q2253
theorem ml2296 : ML "TransportPair$Side" 351 y_cSide_sameTo := Or.inl q2296
theorem pl1337 : PL "TransportPair$Side" 361 1 28 (.int) 0 := ⟨_, rfl, by decide, rfl, fun z => absurd z (by decide), by decide, Or.inl q1337, rfl⟩
theorem ml2300 : ML "TransportPair$Side" 367 y_cSide_packet := Or.inl q2300
theorem fl1466 : FL "TransportPair" 190 28 1 2 101 := ⟨_, rfl, by decide, rfl, fun _ => rfl, by decide, Or.inr ⟨_, q1466⟩⟩
theorem fl1464 : FL "TransportPair" 193 28 0 2 111 := ⟨_, rfl, by decide, rfl, fun _ => rfl, by decide, Or.inr ⟨_, q1464⟩⟩
theorem fl1491 : FL "TransportPair" 20 0 1 2 102 := ⟨_, rfl, by decide, rfl, fun _ => rfl, by decide, Or.inl q1491⟩
theorem ml2245 : ML "TransportPair" 197 y_cLine_remove := Or.inl q2245
theorem ml2249 : ML "TransportPair" 200 y_cSide_comes := Or.inl q2249
theorem ml2237 : ML "TransportPair" 204 y_cP_on := Or.inl q2237
theorem ml2241 : ML "TransportPair" 208 y_cP_comes := Or.inl q2241
theorem fl1471 : FL "TransportPair$Line" 23 28 4 0 0 := ⟨_, rfl, by decide, rfl, fun z => absurd z (by decide), by decide, Or.inl q1471⟩
theorem pl1471 : PL "TransportPair$Line" 23 28 4 (.int) 0 := ⟨_, rfl, by decide, rfl, fun z => absurd z (by decide), by decide, Or.inl q1471, rfl⟩
theorem fl1473 : FL "TransportPair$Line" 30 28 5 0 0 := ⟨_, rfl, by decide, rfl, fun z => absurd z (by decide), by decide, Or.inl q1473⟩
theorem pl1473 : PL "TransportPair$Line" 30 28 5 (.int) 0 := ⟨_, rfl, by decide, rfl, fun z => absurd z (by decide), by decide, Or.inl q1473, rfl⟩
theorem fl1468 : FL "TransportPair" 210 28 2 2 101 := ⟨_, rfl, by decide, rfl, fun _ => rfl, by decide, Or.inr ⟨_, q1468⟩⟩
theorem ml2891 : ML "TransportPair" 213 y_cLine_add := Or.inl q2891
theorem pl1494 : PL "TransportPair" 217 0 4 (.int) 0 := ⟨_, rfl, by decide, rfl, fun z => absurd z (by decide), by decide, Or.inl q1494, rfl⟩
theorem fl713 : FL "TransportPair$Book" 150 10 6 0 0 := ⟨_, rfl, by decide, rfl, fun z => absurd z (by decide), by decide, Or.inl q713⟩
theorem fl646 : FL "TransportPair$Book" 157 13 10 0 0 := ⟨_, rfl, by decide, rfl, fun z => absurd z (by decide), by decide, Or.inr ⟨_, q646⟩⟩
theorem fl634 : FL "TransportPair$Book" 154 13 5 0 0 := ⟨_, rfl, by decide, rfl, fun z => absurd z (by decide), by decide, Or.inr ⟨_, q634⟩⟩
theorem ml2938 : ML "TransportPair$Book" 160 y_cBook_patience := Or.inl q2938
theorem fl711 : FL "TransportPair$Book" 104 10 4 0 0 := ⟨_, rfl, by decide, rfl, fun z => absurd z (by decide), by decide, Or.inl q711⟩
theorem fl717 : FL "TransportPair$Book" 165 10 7 0 0 := ⟨_, rfl, by decide, rfl, fun z => absurd z (by decide), by decide, Or.inl q717⟩
theorem ml2942 : ML "TransportPair$Book" 168 y_cBook_firstSpace := Or.inl q2942
theorem ml2946 : ML "TransportPair$Book" 171 y_cBook_isQuiet := Or.inl q2946
theorem fl712 : FL "TransportPair$Book" 49 10 5 0 0 := ⟨_, rfl, by decide, rfl, fun z => absurd z (by decide), by decide, Or.inl q712⟩
theorem fl639 : FL "TransportPair$Book" 162 13 7 0 0 := ⟨_, rfl, by decide, rfl, fun z => absurd z (by decide), by decide, Or.inr ⟨_, q639⟩⟩
theorem ml2934 : ML "TransportPair$Book" 175 y_cBook_probeTime := Or.inl q2934
theorem pl709 : PL "TransportPair$Book" 46 10 3 (.int) 0 := ⟨_, rfl, by decide, rfl, fun z => absurd z (by decide), by decide, Or.inl q709, rfl⟩
theorem ml2930 : ML "TransportPair$Book" 178 y_cBook_earliest := Or.inl q2930
theorem fl1302 : FL "TransportPair$Side" 304 1 2 0 0 := ⟨_, rfl, by decide, rfl, fun z => absurd z (by decide), by decide, Or.inl q1302⟩
theorem fl644 : FL "TransportPair$Side" 586 13 9 0 0 := ⟨_, rfl, by decide, rfl, fun z => absurd z (by decide), by decide, Or.inr ⟨_, q644⟩⟩
theorem fl630 : FL "TransportPair$Side" 589 13 3 0 0 := ⟨_, rfl, by decide, rfl, fun z => absurd z (by decide), by decide, Or.inr ⟨_, q630⟩⟩
theorem ml2958 : ML "TransportPair$Side" 592 y_cSpace_state := Or.inl q2958
theorem ml2959 : ML "TransportPair$Side" 594 y_cSpace_is := Or.inl q2959
theorem fl769 : FL "TransportPair$Side" 628 16 7 0 0 := ⟨_, rfl, by decide, rfl, fun z => absurd z (by decide), by decide, Or.inr ⟨_, q769⟩⟩
theorem ml3005 : ML "TransportPair$Frame" 163 y_cBytes_putNumber := Or.inl q3005
theorem fl927 : FL "TransportPair$Frame" 35 20 4 1 0 := ⟨_, rfl, by decide, rfl, fun z => absurd z (by decide), by decide, Or.inl q927⟩
theorem ml2997 : ML "TransportPair$Frame" 152 y_cBytes_put := Or.inl q2997
theorem ml3001 : ML "TransportPair$Frame" 156 y_cFrame_writeRanges := Or.inl q3001
theorem ml3006 : ML "TransportPair$Frame" 159 y_cBytes_putMany := Or.inl q3006
theorem fl934 : FL "TransportPair$Frame" 72 20 7 2 102 := ⟨_, rfl, by decide, rfl, fun _ => rfl, by decide, Or.inl q934⟩
theorem fl936 : FL "TransportPair$Frame" 41 20 8 0 0 := ⟨_, rfl, by decide, rfl, fun z => absurd z (by decide), by decide, Or.inl q936⟩
theorem ml3007 : ML "TransportPair$Frame" 167 y_cBytes_putRow := Or.inl q3007
theorem fl943 : FL "TransportPair$Frame" 47 20 10 0 0 := ⟨_, rfl, by decide, rfl, fun z => absurd z (by decide), by decide, Or.inl q943⟩
theorem ml2991 : ML "TransportPair$Side" 677 y_cFrame_clear := Or.inl q2991
theorem fl1333 : FL "TransportPair$Side" 307 1 24 0 0 := ⟨_, rfl, by decide, rfl, fun z => absurd z (by decide), by decide, Or.inl q1333⟩
theorem pl918 : PL "TransportPair$Side" 322 20 0 (.int) 0 := ⟨_, rfl, by decide, rfl, fun z => absurd z (by decide), by decide, Or.inr ⟨_, q918⟩, rfl⟩
theorem fl1332 : FL "TransportPair$Side" 310 1 23 0 0 := ⟨_, rfl, by decide, rfl, fun z => absurd z (by decide), by decide, Or.inl q1332⟩
theorem pl922 : PL "TransportPair$Side" 325 20 2 (.long) 0 := ⟨_, rfl, by decide, rfl, fun z => absurd z (by decide), by decide, Or.inr ⟨_, q922⟩, rfl⟩
theorem fl1351 : FL "TransportPair$Side" 98 1 40 2 102 := ⟨_, rfl, by decide, rfl, fun _ => rfl, by decide, Or.inl q1351⟩
theorem pl935 : PL "TransportPair$Side" 475 20 7 (.array (.byte)) 102 := ⟨_, rfl, by decide, rfl, fun _ => rfl, by decide, Or.inr ⟨_, q935⟩, rfl⟩
theorem ml2993 : ML "TransportPair$Side" 682 y_cFrame_write := Or.inl q2993
theorem fl845 : FL "TransportPair$Side" 686 18 3 0 0 := ⟨_, rfl, by decide, rfl, fun z => absurd z (by decide), by decide, Or.inr ⟨_, q845⟩⟩
theorem fl1355 : FL "TransportPair$Side" 103 1 42 2 111 := ⟨_, rfl, by decide, rfl, fun _ => rfl, by decide, Or.inl q1355⟩
theorem fl840 : FL "TransportPair$Side" 689 18 2 0 0 := ⟨_, rfl, by decide, rfl, fun z => absurd z (by decide), by decide, Or.inr ⟨_, q840⟩⟩
theorem fl658 : FL "TransportPair$Book" 186 13 14 0 0 := ⟨_, rfl, by decide, rfl, fun z => absurd z (by decide), by decide, Or.inr ⟨_, q658⟩⟩
theorem fl665 : FL "TransportPair$Book" 189 13 17 0 0 := ⟨_, rfl, by decide, rfl, fun z => absurd z (by decide), by decide, Or.inr ⟨_, q665⟩⟩
theorem fl661 : FL "TransportPair$Book" 192 13 15 0 0 := ⟨_, rfl, by decide, rfl, fun z => absurd z (by decide), by decide, Or.inr ⟨_, q661⟩⟩
theorem fl655 : FL "TransportPair$Book" 195 13 13 2 16 := ⟨_, rfl, by decide, rfl, fun _ => rfl, by decide, Or.inr ⟨_, q655⟩⟩
theorem fl611 : FL "TransportPair$Book" 199 15 2 0 0 := ⟨_, rfl, by decide, rfl, fun z => absurd z (by decide), by decide, Or.inr ⟨_, q611⟩⟩
theorem fl663 : FL "TransportPair$Book" 204 13 16 0 0 := ⟨_, rfl, by decide, rfl, fun z => absurd z (by decide), by decide, Or.inr ⟨_, q663⟩⟩
theorem ml3016 : ML "TransportPair$Side" 690 y_cBook_delay := Or.inl q3016
theorem pl926 : PL "TransportPair$Side" 469 20 3 (.long) 0 := ⟨_, rfl, by decide, rfl, fun z => absurd z (by decide), by decide, Or.inr ⟨_, q926⟩, rfl⟩
theorem fl605 : FL "TransportPair$Side" 693 15 0 2 105 := ⟨_, rfl, by decide, rfl, fun _ => rfl, by decide, Or.inr ⟨_, q605⟩⟩
theorem ml3020 : ML "TransportPair$Side" 694 y_cFrame_span := Or.inl q3020
theorem fl499 : FL "TransportPair$Crypto" 20 9 1 0 0 := ⟨_, rfl, by decide, rfl, fun z => absurd z (by decide), by decide, Or.inl q499⟩
theorem fl1002 : FL "TransportPair$Crypto" 24 22 1 0 0 := ⟨_, rfl, by decide, rfl, fun z => absurd z (by decide), by decide, Or.inr ⟨_, q1002⟩⟩
theorem ml3030 : ML "TransportPair$Crypto" 29 y_cCrypto_next := Or.inl q3030
theorem ml3034 : ML "TransportPair$Crypto" 33 y_cBytes_sizeOf := Or.inl q3034
theorem ml3035 : ML "TransportPair$Crypto" 39 y_cFrame_clear := Or.inl q3035
theorem pl916 : PL "TransportPair$Crypto" 44 20 0 (.int) 0 := ⟨_, rfl, by decide, rfl, fun z => absurd z (by decide), by decide, Or.inr ⟨_, q916⟩, rfl⟩
theorem pl924 : PL "TransportPair$Crypto" 47 20 3 (.long) 0 := ⟨_, rfl, by decide, rfl, fun z => absurd z (by decide), by decide, Or.inr ⟨_, q924⟩, rfl⟩
theorem fl999 : FL "TransportPair$Crypto" 51 22 0 2 102 := ⟨_, rfl, by decide, rfl, fun _ => rfl, by decide, Or.inr ⟨_, q999⟩⟩
theorem pl933 : PL "TransportPair$Crypto" 54 20 7 (.array (.byte)) 102 := ⟨_, rfl, by decide, rfl, fun _ => rfl, by decide, Or.inr ⟨_, q933⟩, rfl⟩
theorem pl937 : PL "TransportPair$Crypto" 57 20 8 (.int) 0 := ⟨_, rfl, by decide, rfl, fun z => absurd z (by decide), by decide, Or.inr ⟨_, q937⟩, rfl⟩
theorem pl940 : PL "TransportPair$Crypto" 60 20 9 (.int) 0 := ⟨_, rfl, by decide, rfl, fun z => absurd z (by decide), by decide, Or.inr ⟨_, q940⟩, rfl⟩
theorem pl499 : PL "TransportPair$Crypto" 20 9 1 (.int) 0 := ⟨_, rfl, by decide, rfl, fun z => absurd z (by decide), by decide, Or.inl q499, rfl⟩
theorem fl758 : FL "TransportPair$Cargo" 16 16 2 2 102 := ⟨_, rfl, by decide, rfl, fun _ => rfl, by decide, Or.inl q758⟩
theorem fl756 : FL "TransportPair$Cargo" 13 16 1 2 101 := ⟨_, rfl, by decide, rfl, fun _ => rfl, by decide, Or.inl q756⟩
theorem ml3045 : ML "TransportPair$Cargo" 34 y_cCargo_twice_AI := Or.inl q3045
theorem ml3049 : ML "TransportPair$Cargo" 47 y_cCargo_twice_AB := Or.inl q3049
theorem fl760 : FL "TransportPair$Cargo" 20 16 3 2 105 := ⟨_, rfl, by decide, rfl, fun _ => rfl, by decide, Or.inl q760⟩
theorem ml3052 : ML "TransportPair$Cargo" 50 y_cFrame_twice := Or.inr ⟨_, q3052⟩
theorem fl762 : FL "TransportPair$Cargo" 24 16 4 2 105 := ⟨_, rfl, by decide, rfl, fun _ => rfl, by decide, Or.inl q762⟩
theorem fl764 : FL "TransportPair$Cargo" 27 16 5 2 105 := ⟨_, rfl, by decide, rfl, fun _ => rfl, by decide, Or.inl q764⟩
theorem fl917 : FL "TransportPair$Cargo" 55 20 0 0 0 := ⟨_, rfl, by decide, rfl, fun z => absurd z (by decide), by decide, Or.inr ⟨_, q917⟩⟩
theorem fl921 : FL "TransportPair$Cargo" 58 20 2 1 0 := ⟨_, rfl, by decide, rfl, fun z => absurd z (by decide), by decide, Or.inr ⟨_, q921⟩⟩
theorem fl925 : FL "TransportPair$Cargo" 62 20 3 1 0 := ⟨_, rfl, by decide, rfl, fun z => absurd z (by decide), by decide, Or.inr ⟨_, q925⟩⟩
theorem fl941 : FL "TransportPair$Cargo" 65 20 9 0 0 := ⟨_, rfl, by decide, rfl, fun z => absurd z (by decide), by decide, Or.inr ⟨_, q941⟩⟩
theorem fl928 : FL "TransportPair$Cargo" 68 20 4 1 0 := ⟨_, rfl, by decide, rfl, fun z => absurd z (by decide), by decide, Or.inr ⟨_, q928⟩⟩
theorem pl768 : PL "TransportPair$Cargo" 38 16 7 (.int) 0 := ⟨_, rfl, by decide, rfl, fun z => absurd z (by decide), by decide, Or.inl q768, rfl⟩
theorem ml3041 : ML "TransportPair$Side" 698 y_cCargo_add := Or.inl q3041
theorem fl1357 : FL "TransportPair$Side" 109 1 44 2 103 := ⟨_, rfl, by decide, rfl, fun _ => rfl, by decide, Or.inl q1357⟩
theorem ml3065 : ML "TransportPair$Hall" 267 y_cP_sizeOf := Or.inr ⟨_, q3065⟩
theorem pl1231 : PL "TransportPair$Hall" 271 23 17 (.int) 0 := ⟨_, rfl, by decide, rfl, fun z => absurd z (by decide), by decide, Or.inl q1231, rfl⟩
theorem pl1235 : PL "TransportPair$Hall" 274 23 19 (.long) 0 := ⟨_, rfl, by decide, rfl, fun z => absurd z (by decide), by decide, Or.inl q1235, rfl⟩
theorem pl1237 : PL "TransportPair$Hall" 277 23 20 (.long) 0 := ⟨_, rfl, by decide, rfl, fun z => absurd z (by decide), by decide, Or.inl q1237, rfl⟩
theorem pl1239 : PL "TransportPair$Hall" 280 23 21 (.long) 0 := ⟨_, rfl, by decide, rfl, fun z => absurd z (by decide), by decide, Or.inl q1239, rfl⟩
theorem pl1233 : PL "TransportPair$Hall" 283 23 18 (.int) 0 := ⟨_, rfl, by decide, rfl, fun z => absurd z (by decide), by decide, Or.inl q1233, rfl⟩
theorem fl1945 : FL "TransportPair$Hall" 296 32 11 0 0 := ⟨_, rfl, by decide, rfl, fun z => absurd z (by decide), by decide, Or.inr ⟨_, q1945⟩⟩
theorem fl1941 : FL "TransportPair$Hall" 299 32 9 1 0 := ⟨_, rfl, by decide, rfl, fun z => absurd z (by decide), by decide, Or.inr ⟨_, q1941⟩⟩
theorem fl1928 : FL "TransportPair$Hall" 300 32 2 0 0 := ⟨_, rfl, by decide, rfl, fun z => absurd z (by decide), by decide, Or.inr ⟨_, q1928⟩⟩
theorem ml3061 : ML "TransportPair$Hall" 303 y_cHall_frame := Or.inl q3061
theorem fl1996 : FL "TransportPair$Hall" 174 33 11 0 0 := ⟨_, rfl, by decide, rfl, fun z => absurd z (by decide), by decide, Or.inr ⟨_, q1996⟩⟩
theorem fl1994 : FL "TransportPair$Hall" 177 33 9 1 0 := ⟨_, rfl, by decide, rfl, fun z => absurd z (by decide), by decide, Or.inr ⟨_, q1994⟩⟩
theorem fl1230 : FL "TransportPair$Hall" 208 23 16 0 0 := ⟨_, rfl, by decide, rfl, fun z => absurd z (by decide), by decide, Or.inl q1230⟩
theorem fl1995 : FL "TransportPair$Hall" 217 33 10 0 0 := ⟨_, rfl, by decide, rfl, fun z => absurd z (by decide), by decide, Or.inr ⟨_, q1995⟩⟩
theorem fl1225 : FL "TransportPair$Hall" 310 23 11 0 0 := ⟨_, rfl, by decide, rfl, fun z => absurd z (by decide), by decide, Or.inl q1225⟩
theorem ml3078 : ML "TransportPair$Hall" 313 y_cHall_waits := Or.inl q3078
theorem fl1117 : FL "TransportPair$Hall" 118 24 4 1 0 := ⟨_, rfl, by decide, rfl, fun z => absurd z (by decide), by decide, Or.inr ⟨_, q1117⟩⟩
theorem fl1931 : FL "TransportPair$Store" 54 32 4 0 0 := ⟨_, rfl, by decide, rfl, fun z => absurd z (by decide), by decide, Or.inr ⟨_, q1931⟩⟩
theorem fl1241 : FL "TransportPair$Hall" 69 23 22 2 102 := ⟨_, rfl, by decide, rfl, fun _ => rfl, by decide, Or.inl q1241⟩
theorem fl1233 : FL "TransportPair$Hall" 283 23 18 0 0 := ⟨_, rfl, by decide, rfl, fun z => absurd z (by decide), by decide, Or.inl q1233⟩
theorem ml3089 : ML "TransportPair$Hall" 334 y_cStore_copy := Or.inl q3089
theorem pl1225 : PL "TransportPair$Hall" 310 23 11 (.int) 0 := ⟨_, rfl, by decide, rfl, fun z => absurd z (by decide), by decide, Or.inl q1225, rfl⟩
theorem pl1928 : PL "TransportPair$Hall" 300 32 2 (.int) 0 := ⟨_, rfl, by decide, rfl, fun z => absurd z (by decide), by decide, Or.inr ⟨_, q1928⟩, rfl⟩
theorem fl1239 : FL "TransportPair$Hall" 280 23 21 1 0 := ⟨_, rfl, by decide, rfl, fun z => absurd z (by decide), by decide, Or.inl q1239⟩
theorem fl1229 : FL "TransportPair$Hall" 65 23 15 0 0 := ⟨_, rfl, by decide, rfl, fun z => absurd z (by decide), by decide, Or.inl q1229⟩
theorem ml3085 : ML "TransportPair$Hall" 321 y_cHall_fills := Or.inl q3085
theorem ml3057 : ML "TransportPair$Hall" 284 y_cHall_fillsEnds := Or.inl q3057
theorem ml3070 : ML "TransportPair$Hall" 287 y_cHall_fillsGrants := Or.inl q3070
theorem ml3074 : ML "TransportPair$Hall" 290 y_cHall_fillsBlocked := Or.inl q3074
theorem ml3081 : ML "TransportPair$Hall" 293 y_cHall_fillsStream := Or.inl q3081
theorem ml3025 : ML "TransportPair$Side" 665 y_cBytes_left := Or.inl q3025
theorem ml3037 : ML "TransportPair$Side" 707 y_cSide_put_I := Or.inl q3037
theorem fl1324 : FL "TransportPair$Side" 459 1 17 0 0 := ⟨_, rfl, by decide, rfl, fun z => absurd z (by decide), by decide, Or.inl q1324⟩
theorem fl1326 : FL "TransportPair$Side" 462 1 19 1 0 := ⟨_, rfl, by decide, rfl, fun z => absurd z (by decide), by decide, Or.inl q1326⟩
theorem ml3053 : ML "TransportPair$Side" 708 y_cHall_fill := Or.inl q3053
theorem fl1232 : FL "TransportPair$Side" 710 23 17 0 0 := ⟨_, rfl, by decide, rfl, fun z => absurd z (by decide), by decide, Or.inr ⟨_, q1232⟩⟩
theorem fl1236 : FL "TransportPair$Side" 711 23 19 1 0 := ⟨_, rfl, by decide, rfl, fun z => absurd z (by decide), by decide, Or.inr ⟨_, q1236⟩⟩
theorem fl1238 : FL "TransportPair$Side" 712 23 20 1 0 := ⟨_, rfl, by decide, rfl, fun z => absurd z (by decide), by decide, Or.inr ⟨_, q1238⟩⟩
theorem fl1240 : FL "TransportPair$Side" 713 23 21 1 0 := ⟨_, rfl, by decide, rfl, fun z => absurd z (by decide), by decide, Or.inr ⟨_, q1240⟩⟩
theorem pl929 : PL "TransportPair$Side" 472 20 4 (.long) 0 := ⟨_, rfl, by decide, rfl, fun z => absurd z (by decide), by decide, Or.inr ⟨_, q929⟩, rfl⟩
theorem pl931 : PL "TransportPair$Side" 714 20 5 (.long) 0 := ⟨_, rfl, by decide, rfl, fun z => absurd z (by decide), by decide, Or.inr ⟨_, q931⟩, rfl⟩
theorem fl1242 : FL "TransportPair$Side" 717 23 22 2 102 := ⟨_, rfl, by decide, rfl, fun _ => rfl, by decide, Or.inr ⟨_, q1242⟩⟩
theorem fl1234 : FL "TransportPair$Side" 718 23 18 0 0 := ⟨_, rfl, by decide, rfl, fun z => absurd z (by decide), by decide, Or.inr ⟨_, q1234⟩⟩
theorem pl942 : PL "TransportPair$Side" 479 20 9 (.int) 0 := ⟨_, rfl, by decide, rfl, fun z => absurd z (by decide), by decide, Or.inr ⟨_, q942⟩, rfl⟩
theorem fl1024 : FL "TransportPair$Side" 700 21 8 2 112 := ⟨_, rfl, by decide, rfl, fun _ => rfl, by decide, Or.inr ⟨_, q1024⟩⟩
theorem ml3026 : ML "TransportPair$Side" 703 y_cCrypto_fill := Or.inl q3026
theorem pl658 : PL "TransportPair$Book" 186 13 14 (.int) 0 := ⟨_, rfl, by decide, rfl, fun z => absurd z (by decide), by decide, Or.inr ⟨_, q658⟩, rfl⟩
theorem pl665 : PL "TransportPair$Book" 189 13 17 (.boolean) 0 := ⟨_, rfl, by decide, rfl, fun z => absurd z (by decide), by decide, Or.inr ⟨_, q665⟩, rfl⟩
theorem ml3099 : ML "TransportPair$Book" 207 y_cBook_delay := Or.inl q3099
theorem pl766 : PL "TransportPair$Cargo" 30 16 6 (.int) 0 := ⟨_, rfl, by decide, rfl, fun z => absurd z (by decide), by decide, Or.inl q766, rfl⟩
theorem fl637 : FL "TransportPair$Side" 629 13 6 0 0 := ⟨_, rfl, by decide, rfl, fun z => absurd z (by decide), by decide, Or.inr ⟨_, q637⟩⟩
theorem ml3108 : ML "TransportPair$Side" 632 y_cCounting_bytesOf := Or.inl q3108
theorem fl1358 : FL "TransportPair$Side" 112 1 45 2 103 := ⟨_, rfl, by decide, rfl, fun _ => rfl, by decide, Or.inl q1358⟩
theorem fl1356 : FL "TransportPair$Side" 106 1 43 2 101 := ⟨_, rfl, by decide, rfl, fun _ => rfl, by decide, Or.inl q1356⟩
theorem fl1354 : FL "TransportPair$Side" 640 1 41 0 0 := ⟨_, rfl, by decide, rfl, fun z => absurd z (by decide), by decide, Or.inl q1354⟩
theorem pl1354 : PL "TransportPair$Side" 640 1 41 (.int) 0 := ⟨_, rfl, by decide, rfl, fun z => absurd z (by decide), by decide, Or.inl q1354, rfl⟩
theorem ml2987 : ML "TransportPair$Side" 637 y_cSide_closes := Or.inl q2987
theorem fl1359 : FL "TransportPair$Side" 115 1 46 2 103 := ⟨_, rfl, by decide, rfl, fun _ => rfl, by decide, Or.inl q1359⟩
theorem ml3100 : ML "TransportPair$Side" 673 y_cCargo_begin := Or.inl q3100
theorem fl767 : FL "TransportPair$Side" 674 16 6 0 0 := ⟨_, rfl, by decide, rfl, fun z => absurd z (by decide), by decide, Or.inr ⟨_, q767⟩⟩
theorem ml3104 : ML "TransportPair$Side" 614 y_cSide_bytesOf := Or.inl q3104
theorem ml3116 : ML "TransportPair$Side" 617 y_cSide_pad := Or.inl q3116
theorem ml3008 : ML "TransportPair$Side" 643 y_cBook_due := Or.inl q3008
theorem fl659 : FL "TransportPair$Side" 646 13 14 0 0 := ⟨_, rfl, by decide, rfl, fun z => absurd z (by decide), by decide, Or.inr ⟨_, q659⟩⟩
theorem fl708 : FL "TransportPair$Side" 652 10 2 2 13 := ⟨_, rfl, by decide, rfl, fun _ => rfl, by decide, Or.inr ⟨_, q708⟩⟩
theorem fl566 : FL "TransportPair$Side" 656 12 3 0 0 := ⟨_, rfl, by decide, rfl, fun z => absurd z (by decide), by decide, Or.inr ⟨_, q566⟩⟩
theorem fl560 : FL "TransportPair$Side" 661 12 0 0 0 := ⟨_, rfl, by decide, rfl, fun z => absurd z (by decide), by decide, Or.inr ⟨_, q560⟩⟩
theorem ml3021 : ML "TransportPair$Side" 662 y_cSide_carries := Or.inl q3021
theorem ml3094 : ML "TransportPair$Side" 668 y_cBytes_put := Or.inl q3094
theorem pl835 : PL "TransportPair$Side" 173 18 1 (.int) 0 := ⟨_, rfl, by decide, rfl, fun z => absurd z (by decide), by decide, Or.inr ⟨_, q835⟩, rfl⟩
theorem ml3095 : ML "TransportPair$Side" 670 y_cBook_written := Or.inl q3095
theorem ml3012 : ML "TransportPair$Side" 649 y_cSide_acknowledges := Or.inl q3012
theorem ml3127 : ML "TransportPair$Header" 97 y_cBytes_put := Or.inl q3127
theorem ml3129 : ML "TransportPair$Header" 105 y_cBytes_putMany := Or.inl q3129
theorem ml3128 : ML "TransportPair$Header" 101 y_cBytes_putRow := Or.inl q3128
theorem ml3130 : ML "TransportPair$Header" 109 y_cBytes_putNumber := Or.inl q3130
theorem ml3131 : ML "TransportPair$Header" 113 y_cBytes_putSized := Or.inl q3131
theorem fl624 : FL "TransportPair$Space" 9 13 0 2 101 := ⟨_, rfl, by decide, rfl, fun _ => rfl, by decide, Or.inl q624⟩
theorem ml3145 : ML "TransportPair$Space" 63 y_cSpace_grow := Or.inl q3145
theorem pl629 : PL "TransportPair$Space" 54 13 3 (.int) 0 := ⟨_, rfl, by decide, rfl, fun z => absurd z (by decide), by decide, Or.inl q629, rfl⟩
theorem fl559 : FL "TransportPair$Book" 43 12 0 0 0 := ⟨_, rfl, by decide, rfl, fun z => absurd z (by decide), by decide, Or.inr ⟨_, q559⟩⟩
theorem pl712 : PL "TransportPair$Book" 49 10 5 (.int) 0 := ⟨_, rfl, by decide, rfl, fun z => absurd z (by decide), by decide, Or.inl q712, rfl⟩
theorem ml3141 : ML "TransportPair$Book" 52 y_cSpace_add := Or.inl q3141
theorem ml3124 : ML "TransportPair$Side" 719 y_cHeader_write := Or.inl q3124
theorem ml3132 : ML "TransportPair$Side" 722 y_cBytes_putMany := Or.inl q3132
theorem ml3133 : ML "TransportPair$Side" 726 y_cGuard_seal := Or.inl q3133
theorem ml3137 : ML "TransportPair$Side" 728 y_cBook_send := Or.inl q3137
theorem fl1340 : FL "TransportPair$Side" 442 1 31 0 0 := ⟨_, rfl, by decide, rfl, fun z => absurd z (by decide), by decide, Or.inl q1340⟩
theorem ml2975 : ML "TransportPair$Side" 601 y_cSide_isWorn := Or.inl q2975
theorem fl1320 : FL "TransportPair$Side" 439 1 14 0 0 := ⟨_, rfl, by decide, rfl, fun z => absurd z (by decide), by decide, Or.inl q1320⟩
theorem fl1329 : FL "TransportPair$Side" 605 1 21 0 0 := ⟨_, rfl, by decide, rfl, fun z => absurd z (by decide), by decide, Or.inl q1329⟩
theorem ml2950 : ML "TransportPair$Side" 573 y_cSide_end := Or.inl q2950
theorem ml2980 : ML "TransportPair$Side" 608 y_cSide_headSize := Or.inl q2980
theorem ml2983 : ML "TransportPair$Side" 611 y_cSide_draft := Or.inl q2983
theorem pl1329 : PL "TransportPair$Side" 605 1 21 (.int) 0 := ⟨_, rfl, by decide, rfl, fun z => absurd z (by decide), by decide, Or.inl q1329, rfl⟩
theorem ml3150 : ML "TransportPair$Side" 623 y_cLine_add := Or.inl q3150
theorem ml3120 : ML "TransportPair$Side" 620 y_cSide_seal := Or.inl q3120
theorem ml2971 : ML "TransportPair$Side" 597 y_cSide_datagram := Or.inl q2971
theorem ml2926 : ML "TransportPair$Side" 570 y_cBook_tick := Or.inl q2926
theorem fl1331 : FL "TransportPair$Side" 319 1 22 0 0 := ⟨_, rfl, by decide, rfl, fun z => absurd z (by decide), by decide, Or.inl q1331⟩
theorem ml2954 : ML "TransportPair$Side" 575 y_cSide_probe := Or.inl q2954
theorem ml2960 : ML "TransportPair$Side" 578 y_cSide_quietLimit := Or.inl q2960
theorem fl1335 : FL "TransportPair$Side" 225 1 26 0 0 := ⟨_, rfl, by decide, rfl, fun z => absurd z (by decide), by decide, Or.inl q1335⟩
theorem ml2967 : ML "TransportPair$Side" 582 y_cSide_sends := Or.inl q2967
theorem fl1493 : FL "TransportPair" 220 0 3 0 0 := ⟨_, rfl, by decide, rfl, fun z => absurd z (by decide), by decide, Or.inl q1493⟩
theorem pl1493 : PL "TransportPair" 220 0 3 (.int) 0 := ⟨_, rfl, by decide, rfl, fun z => absurd z (by decide), by decide, Or.inl q1493, rfl⟩
theorem fl1494 : FL "TransportPair" 217 0 4 0 0 := ⟨_, rfl, by decide, rfl, fun z => absurd z (by decide), by decide, Or.inl q1494⟩
theorem ml2922 : ML "TransportPair" 227 y_cSide_tick := Or.inl q2922
theorem ml2918 : ML "TransportPair" 224 y_cP_tick_ := Or.inl q2918
theorem fl1474 : FL "TransportPair" 235 28 5 0 0 := ⟨_, rfl, by decide, rfl, fun z => absurd z (by decide), by decide, Or.inr ⟨_, q1474⟩⟩
theorem fl1472 : FL "TransportPair" 232 28 4 0 0 := ⟨_, rfl, by decide, rfl, fun z => absurd z (by decide), by decide, Or.inr ⟨_, q1472⟩⟩
theorem fl1303 : FL "TransportPair" 240 1 2 0 0 := ⟨_, rfl, by decide, rfl, fun z => absurd z (by decide), by decide, Or.inr ⟨_, q1303⟩⟩
theorem fl1313 : FL "TransportPair" 243 1 9 2 11 := ⟨_, rfl, by decide, rfl, fun _ => rfl, by decide, Or.inr ⟨_, q1313⟩⟩
theorem fl715 : FL "TransportPair" 247 10 6 0 0 := ⟨_, rfl, by decide, rfl, fun z => absurd z (by decide), by decide, Or.inr ⟨_, q715⟩⟩
theorem fl1321 : FL "TransportPair" 253 1 14 0 0 := ⟨_, rfl, by decide, rfl, fun z => absurd z (by decide), by decide, Or.inr ⟨_, q1321⟩⟩
theorem fl1043 : FL "TransportPair" 256 21 20 0 0 := ⟨_, rfl, by decide, rfl, fun z => absurd z (by decide), by decide, Or.inr ⟨_, q1043⟩⟩
theorem fl1030 : FL "TransportPair" 259 21 11 2 103 := ⟨_, rfl, by decide, rfl, fun _ => rfl, by decide, Or.inr ⟨_, q1030⟩⟩
theorem fl1328 : FL "TransportPair" 262 1 20 0 0 := ⟨_, rfl, by decide, rfl, fun z => absurd z (by decide), by decide, Or.inr ⟨_, q1328⟩⟩
theorem fl1330 : FL "TransportPair" 265 1 21 0 0 := ⟨_, rfl, by decide, rfl, fun z => absurd z (by decide), by decide, Or.inr ⟨_, q1330⟩⟩
theorem fl1342 : FL "TransportPair" 268 1 32 2 101 := ⟨_, rfl, by decide, rfl, fun _ => rfl, by decide, Or.inr ⟨_, q1342⟩⟩
theorem fl1315 : FL "TransportPair" 271 1 10 2 110 := ⟨_, rfl, by decide, rfl, fun _ => rfl, by decide, Or.inr ⟨_, q1315⟩⟩
theorem fl770 : FL "TransportPair" 275 16 7 0 0 := ⟨_, rfl, by decide, rfl, fun z => absurd z (by decide), by decide, Or.inr ⟨_, q770⟩⟩
theorem fl562 : FL "TransportPair$Book" 210 12 1 0 0 := ⟨_, rfl, by decide, rfl, fun z => absurd z (by decide), by decide, Or.inr ⟨_, q562⟩⟩
theorem fl564 : FL "TransportPair$Book" 213 12 2 0 0 := ⟨_, rfl, by decide, rfl, fun z => absurd z (by decide), by decide, Or.inr ⟨_, q564⟩⟩
theorem fl532 : FL "TransportPair$Book" 216 11 0 0 0 := ⟨_, rfl, by decide, rfl, fun z => absurd z (by decide), by decide, Or.inr ⟨_, q532⟩⟩
theorem fl534 : FL "TransportPair$Book" 219 11 1 0 0 := ⟨_, rfl, by decide, rfl, fun z => absurd z (by decide), by decide, Or.inr ⟨_, q534⟩⟩
theorem fl536 : FL "TransportPair$Book" 222 11 2 0 0 := ⟨_, rfl, by decide, rfl, fun z => absurd z (by decide), by decide, Or.inr ⟨_, q536⟩⟩
theorem fl538 : FL "TransportPair$Book" 223 11 3 0 0 := ⟨_, rfl, by decide, rfl, fun z => absurd z (by decide), by decide, Or.inr ⟨_, q538⟩⟩
theorem ml3182 : ML "TransportPair" 280 y_cBook_look := Or.inl q3182
theorem fl632 : FL "TransportPair$Book" 226 13 4 0 0 := ⟨_, rfl, by decide, rfl, fun z => absurd z (by decide), by decide, Or.inr ⟨_, q632⟩⟩
theorem fl614 : FL "TransportPair$Book" 229 15 3 1 0 := ⟨_, rfl, by decide, rfl, fun z => absurd z (by decide), by decide, Or.inr ⟨_, q614⟩⟩
theorem ml3194 : ML "TransportPair" 289 y_cBook_space := Or.inl q3194
theorem fl1308 : FL "TransportPair" 286 1 6 2 103 := ⟨_, rfl, by decide, rfl, fun _ => rfl, by decide, Or.inr ⟨_, q1308⟩⟩
theorem fl1993 : FL "TransportPair$Hall" 261 33 8 1 0 := ⟨_, rfl, by decide, rfl, fun z => absurd z (by decide), by decide, Or.inr ⟨_, q1993⟩⟩
theorem ml3206 : ML "TransportPair" 295 y_cHall_look_II := Or.inl q3206
theorem fl1170 : FL "TransportPair$Hall" 364 26 1 0 0 := ⟨_, rfl, by decide, rfl, fun z => absurd z (by decide), by decide, Or.inr ⟨_, q1170⟩⟩
theorem ml3218 : ML "TransportPair" 299 y_cHall_look_I := Or.inl q3218
theorem fl3257 : FL "TransportPairModel$Seals" 26 36 5 2 105 := ⟨_, rfl, by decide, rfl, fun _ => rfl, by decide, Or.inl q3257⟩
theorem fl3255 : FL "TransportPairModel$Seals" 20 36 3 2 101 := ⟨_, rfl, by decide, rfl, fun _ => rfl, by decide, Or.inl q3255⟩
theorem fl3254 : FL "TransportPairModel$Seals" 16 36 2 2 101 := ⟨_, rfl, by decide, rfl, fun _ => rfl, by decide, Or.inl q3254⟩
theorem ml3247 : ML "TransportPairModel$Seals" 96 y_mSeals_times := Or.inl q3247
theorem ml3242 : ML "TransportPairModel$Seals" 88 y_mSeals_isAbove := Or.inl q3242
theorem pf3252 : PF "TransportPairModel$Seals" 7 36 0 (.array (.long)) 105 := ⟨_, rfl, by decide, rfl, fun _ => rfl, by decide, rfl, rfl, q3252⟩
theorem pf3253 : PF "TransportPairModel$Seals" 13 36 1 (.array (.long)) 105 := ⟨_, rfl, by decide, rfl, fun _ => rfl, by decide, rfl, rfl, q3253⟩
theorem pf3254 : PF "TransportPairModel$Seals" 16 36 2 (.array (.int)) 101 := ⟨_, rfl, by decide, rfl, fun _ => rfl, by decide, rfl, rfl, q3254⟩
theorem pf3255 : PF "TransportPairModel$Seals" 20 36 3 (.array (.int)) 101 := ⟨_, rfl, by decide, rfl, fun _ => rfl, by decide, rfl, rfl, q3255⟩
theorem pf3256 : PF "TransportPairModel$Seals" 23 36 4 (.array (.int)) 101 := ⟨_, rfl, by decide, rfl, fun _ => rfl, by decide, rfl, rfl, q3256⟩
theorem pf3257 : PF "TransportPairModel$Seals" 26 36 5 (.array (.long)) 105 := ⟨_, rfl, by decide, rfl, fun _ => rfl, by decide, rfl, rfl, q3257⟩
theorem pf3258 : PF "TransportPairModel$Seals" 29 36 6 (.array (.long)) 105 := ⟨_, rfl, by decide, rfl, fun _ => rfl, by decide, rfl, rfl, q3258⟩
theorem pf3259 : PF "TransportPairModel$Seals" 32 36 7 (.array (.long)) 105 := ⟨_, rfl, by decide, rfl, fun _ => rfl, by decide, rfl, rfl, q3259⟩
theorem pf3260 : PF "TransportPairModel$Seals" 35 36 8 (.array (.int)) 101 := ⟨_, rfl, by decide, rfl, fun _ => rfl, by decide, rfl, rfl, q3260⟩
theorem pf3261 : PF "TransportPairModel$Seals" 38 36 9 (.array (.int)) 101 := ⟨_, rfl, by decide, rfl, fun _ => rfl, by decide, rfl, rfl, q3261⟩
theorem pf3262 : PF "TransportPairModel$Seals" 41 36 10 (.array (.int)) 101 := ⟨_, rfl, by decide, rfl, fun _ => rfl, by decide, rfl, rfl, q3262⟩
theorem pf3264 : PF "TransportPairModel$Seals" 44 36 12 (.array (.int)) 101 := ⟨_, rfl, by decide, rfl, fun _ => rfl, by decide, rfl, rfl, q3264⟩
theorem pf3266 : PF "TransportPairModel$Seals" 47 36 14 (.array (.int)) 101 := ⟨_, rfl, by decide, rfl, fun _ => rfl, by decide, rfl, rfl, q3266⟩
theorem pf3267 : PF "TransportPairModel$Seals" 50 36 15 (.array (.int)) 101 := ⟨_, rfl, by decide, rfl, fun _ => rfl, by decide, rfl, rfl, q3267⟩
theorem pf3268 : PF "TransportPairModel$Seals" 53 36 16 (.array (.int)) 101 := ⟨_, rfl, by decide, rfl, fun _ => rfl, by decide, rfl, rfl, q3268⟩
theorem pf3269 : PF "TransportPairModel$Seals" 56 36 17 (.array (.long)) 105 := ⟨_, rfl, by decide, rfl, fun _ => rfl, by decide, rfl, rfl, q3269⟩
theorem pf3270 : PF "TransportPairModel$Seals" 59 36 18 (.array (.long)) 105 := ⟨_, rfl, by decide, rfl, fun _ => rfl, by decide, rfl, rfl, q3270⟩
theorem pf3271 : PF "TransportPairModel$Seals" 62 36 19 (.array (.int)) 101 := ⟨_, rfl, by decide, rfl, fun _ => rfl, by decide, rfl, rfl, q3271⟩
theorem pf3272 : PF "TransportPairModel$Seals" 65 36 20 (.array (.int)) 101 := ⟨_, rfl, by decide, rfl, fun _ => rfl, by decide, rfl, rfl, q3272⟩
theorem pf3273 : PF "TransportPairModel$Seals" 68 36 21 (.array (.int)) 101 := ⟨_, rfl, by decide, rfl, fun _ => rfl, by decide, rfl, rfl, q3273⟩
theorem pf3274 : PF "TransportPairModel$Seals" 71 36 22 (.array (.int)) 101 := ⟨_, rfl, by decide, rfl, fun _ => rfl, by decide, rfl, rfl, q3274⟩
theorem pf3275 : PF "TransportPairModel$Seals" 74 36 23 (.array (.int)) 101 := ⟨_, rfl, by decide, rfl, fun _ => rfl, by decide, rfl, rfl, q3275⟩
theorem pf3276 : PF "TransportPairModel$Seals" 77 36 24 (.array (.int)) 101 := ⟨_, rfl, by decide, rfl, fun _ => rfl, by decide, rfl, rfl, q3276⟩
theorem ml3235 : ML "TransportPairModel$Seals" 80 y_mSeals_nextPrime := Or.inl q3235
theorem fl3252 : FL "TransportPairModel$Seals" 7 36 0 2 105 := ⟨_, rfl, by decide, rfl, fun _ => rfl, by decide, Or.inl q3252⟩
theorem ml3238 : ML "TransportPairModel$Seals" 84 y_mSeals_rootOf := Or.inl q3238
theorem fl3253 : FL "TransportPairModel$Seals" 13 36 1 2 105 := ⟨_, rfl, by decide, rfl, fun _ => rfl, by decide, Or.inl q3253⟩
theorem pf3337 : PF "TransportPairModel$Streams" 9 37 0 (.array (.long)) 105 := ⟨_, rfl, by decide, rfl, fun _ => rfl, by decide, rfl, rfl, q3337⟩
theorem pf3338 : PF "TransportPairModel$Streams" 15 37 1 (.array (.long)) 105 := ⟨_, rfl, by decide, rfl, fun _ => rfl, by decide, rfl, rfl, q3338⟩
theorem pf3339 : PF "TransportPairModel$Streams" 18 37 2 (.array (.long)) 105 := ⟨_, rfl, by decide, rfl, fun _ => rfl, by decide, rfl, rfl, q3339⟩
theorem pf3340 : PF "TransportPairModel$Streams" 21 37 3 (.array (.long)) 105 := ⟨_, rfl, by decide, rfl, fun _ => rfl, by decide, rfl, rfl, q3340⟩
theorem pf3341 : PF "TransportPairModel$Streams" 24 37 4 (.array (.int)) 101 := ⟨_, rfl, by decide, rfl, fun _ => rfl, by decide, rfl, rfl, q3341⟩
theorem pf3342 : PF "TransportPairModel$Streams" 28 37 5 (.array (.int)) 101 := ⟨_, rfl, by decide, rfl, fun _ => rfl, by decide, rfl, rfl, q3342⟩
theorem pf3343 : PF "TransportPairModel$Streams" 31 37 6 (.array (.int)) 101 := ⟨_, rfl, by decide, rfl, fun _ => rfl, by decide, rfl, rfl, q3343⟩
theorem pf3344 : PF "TransportPairModel$Streams" 34 37 7 (.array (.boolean)) 103 := ⟨_, rfl, by decide, rfl, fun _ => rfl, by decide, rfl, rfl, q3344⟩
theorem pf3345 : PF "TransportPairModel$Streams" 38 37 8 (.array (.boolean)) 103 := ⟨_, rfl, by decide, rfl, fun _ => rfl, by decide, rfl, rfl, q3345⟩
theorem pf3346 : PF "TransportPairModel$Streams" 41 37 9 (.array (.long)) 105 := ⟨_, rfl, by decide, rfl, fun _ => rfl, by decide, rfl, rfl, q3346⟩
theorem pf3347 : PF "TransportPairModel$Streams" 44 37 10 (.array (.boolean)) 103 := ⟨_, rfl, by decide, rfl, fun _ => rfl, by decide, rfl, rfl, q3347⟩
theorem pf3348 : PF "TransportPairModel$Streams" 47 37 11 (.array (.int)) 101 := ⟨_, rfl, by decide, rfl, fun _ => rfl, by decide, rfl, rfl, q3348⟩
theorem pf3349 : PF "TransportPairModel$Streams" 50 37 12 (.array (.boolean)) 103 := ⟨_, rfl, by decide, rfl, fun _ => rfl, by decide, rfl, rfl, q3349⟩
theorem pf3350 : PF "TransportPairModel$Streams" 53 37 13 (.array (.long)) 105 := ⟨_, rfl, by decide, rfl, fun _ => rfl, by decide, rfl, rfl, q3350⟩
theorem pf3351 : PF "TransportPairModel$Streams" 56 37 14 (.array (.boolean)) 103 := ⟨_, rfl, by decide, rfl, fun _ => rfl, by decide, rfl, rfl, q3351⟩
theorem pf3352 : PF "TransportPairModel$Streams" 59 37 15 (.array (.int)) 101 := ⟨_, rfl, by decide, rfl, fun _ => rfl, by decide, rfl, rfl, q3352⟩
theorem pf3353 : PF "TransportPairModel$Streams" 62 37 16 (.array (.int)) 101 := ⟨_, rfl, by decide, rfl, fun _ => rfl, by decide, rfl, rfl, q3353⟩
theorem pf3354 : PF "TransportPairModel$Streams" 65 37 17 (.array (.boolean)) 103 := ⟨_, rfl, by decide, rfl, fun _ => rfl, by decide, rfl, rfl, q3354⟩
theorem pf3355 : PF "TransportPairModel$Streams" 68 37 18 (.array (.long)) 105 := ⟨_, rfl, by decide, rfl, fun _ => rfl, by decide, rfl, rfl, q3355⟩
theorem pf3356 : PF "TransportPairModel$Streams" 71 37 19 (.array (.long)) 105 := ⟨_, rfl, by decide, rfl, fun _ => rfl, by decide, rfl, rfl, q3356⟩
theorem pf3357 : PF "TransportPairModel$Streams" 74 37 20 (.array (.int)) 101 := ⟨_, rfl, by decide, rfl, fun _ => rfl, by decide, rfl, rfl, q3357⟩
theorem pf3358 : PF "TransportPairModel$Streams" 77 37 21 (.array (.int)) 101 := ⟨_, rfl, by decide, rfl, fun _ => rfl, by decide, rfl, rfl, q3358⟩
theorem pf3359 : PF "TransportPairModel$Streams" 80 37 22 (.array (.int)) 101 := ⟨_, rfl, by decide, rfl, fun _ => rfl, by decide, rfl, rfl, q3359⟩
theorem pf3360 : PF "TransportPairModel$Streams" 83 37 23 (.array (.int)) 101 := ⟨_, rfl, by decide, rfl, fun _ => rfl, by decide, rfl, rfl, q3360⟩
theorem pf3361 : PF "TransportPairModel$Streams" 86 37 24 (.array (.int)) 101 := ⟨_, rfl, by decide, rfl, fun _ => rfl, by decide, rfl, rfl, q3361⟩
theorem pf3362 : PF "TransportPairModel$Streams" 89 37 25 (.array (.int)) 101 := ⟨_, rfl, by decide, rfl, fun _ => rfl, by decide, rfl, rfl, q3362⟩
theorem pf3363 : PF "TransportPairModel$Streams" 92 37 26 (.array (.int)) 101 := ⟨_, rfl, by decide, rfl, fun _ => rfl, by decide, rfl, rfl, q3363⟩
theorem pf3364 : PF "TransportPairModel$Streams" 95 37 27 (.array (.long)) 105 := ⟨_, rfl, by decide, rfl, fun _ => rfl, by decide, rfl, rfl, q3364⟩
theorem pf3365 : PF "TransportPairModel$Streams" 98 37 28 (.array (.long)) 105 := ⟨_, rfl, by decide, rfl, fun _ => rfl, by decide, rfl, rfl, q3365⟩
theorem pf3366 : PF "TransportPairModel$Streams" 101 37 29 (.array (.int)) 101 := ⟨_, rfl, by decide, rfl, fun _ => rfl, by decide, rfl, rfl, q3366⟩
theorem pf3367 : PF "TransportPairModel$Streams" 104 37 30 (.array (.int)) 101 := ⟨_, rfl, by decide, rfl, fun _ => rfl, by decide, rfl, rfl, q3367⟩
theorem pf3368 : PF "TransportPairModel$Streams" 107 37 31 (.array (.boolean)) 103 := ⟨_, rfl, by decide, rfl, fun _ => rfl, by decide, rfl, rfl, q3368⟩
theorem pf3369 : PF "TransportPairModel$Streams" 110 37 32 (.array (.long)) 105 := ⟨_, rfl, by decide, rfl, fun _ => rfl, by decide, rfl, rfl, q3369⟩
theorem pf3370 : PF "TransportPairModel$Streams" 113 37 33 (.array (.long)) 105 := ⟨_, rfl, by decide, rfl, fun _ => rfl, by decide, rfl, rfl, q3370⟩
theorem pf3371 : PF "TransportPairModel$Streams" 116 37 34 (.array (.boolean)) 103 := ⟨_, rfl, by decide, rfl, fun _ => rfl, by decide, rfl, rfl, q3371⟩
theorem pf3372 : PF "TransportPairModel$Streams" 119 37 35 (.array (.boolean)) 103 := ⟨_, rfl, by decide, rfl, fun _ => rfl, by decide, rfl, rfl, q3372⟩
theorem pf3373 : PF "TransportPairModel$Streams" 122 37 36 (.array (.boolean)) 103 := ⟨_, rfl, by decide, rfl, fun _ => rfl, by decide, rfl, rfl, q3373⟩
theorem pf3374 : PF "TransportPairModel$Streams" 125 37 37 (.array (.long)) 105 := ⟨_, rfl, by decide, rfl, fun _ => rfl, by decide, rfl, rfl, q3374⟩
theorem pf3375 : PF "TransportPairModel$Streams" 128 37 38 (.array (.boolean)) 103 := ⟨_, rfl, by decide, rfl, fun _ => rfl, by decide, rfl, rfl, q3375⟩
theorem pf3376 : PF "TransportPairModel$Streams" 131 37 39 (.array (.int)) 101 := ⟨_, rfl, by decide, rfl, fun _ => rfl, by decide, rfl, rfl, q3376⟩
theorem pf3377 : PF "TransportPairModel$Streams" 134 37 40 (.array (.int)) 101 := ⟨_, rfl, by decide, rfl, fun _ => rfl, by decide, rfl, rfl, q3377⟩
theorem pf3378 : PF "TransportPairModel$Streams" 138 37 41 (.array (.byte)) 102 := ⟨_, rfl, by decide, rfl, fun _ => rfl, by decide, rfl, rfl, q3378⟩
theorem pf3379 : PF "TransportPairModel$Streams" 142 37 42 (.array (.byte)) 102 := ⟨_, rfl, by decide, rfl, fun _ => rfl, by decide, rfl, rfl, q3379⟩
theorem pf3380 : PF "TransportPairModel$Streams" 145 37 43 (.array (.int)) 101 := ⟨_, rfl, by decide, rfl, fun _ => rfl, by decide, rfl, rfl, q3380⟩
theorem pf3381 : PF "TransportPairModel$Streams" 148 37 44 (.array (.int)) 101 := ⟨_, rfl, by decide, rfl, fun _ => rfl, by decide, rfl, rfl, q3381⟩
theorem pf3382 : PF "TransportPairModel$Streams" 151 37 45 (.array (.int)) 101 := ⟨_, rfl, by decide, rfl, fun _ => rfl, by decide, rfl, rfl, q3382⟩
theorem pf3383 : PF "TransportPairModel$Streams" 154 37 46 (.array (.int)) 101 := ⟨_, rfl, by decide, rfl, fun _ => rfl, by decide, rfl, rfl, q3383⟩
theorem pf3384 : PF "TransportPairModel$Streams" 157 37 47 (.array (.int)) 101 := ⟨_, rfl, by decide, rfl, fun _ => rfl, by decide, rfl, rfl, q3384⟩
theorem pf3385 : PF "TransportPairModel$Streams" 160 37 48 (.array (.long)) 105 := ⟨_, rfl, by decide, rfl, fun _ => rfl, by decide, rfl, rfl, q3385⟩
theorem pf3386 : PF "TransportPairModel$Streams" 164 37 49 (.array (.byte)) 102 := ⟨_, rfl, by decide, rfl, fun _ => rfl, by decide, rfl, rfl, q3386⟩
theorem pf3397 : PF "TransportPairModel$Streams" 167 37 55 (.array (.int)) 101 := ⟨_, rfl, by decide, rfl, fun _ => rfl, by decide, rfl, rfl, q3397⟩
theorem fl3348 : FL "TransportPairModel$Streams" 47 37 11 2 101 := ⟨_, rfl, by decide, rfl, fun _ => rfl, by decide, Or.inl q3348⟩
theorem fl3365 : FL "TransportPairModel$Streams" 98 37 28 2 105 := ⟨_, rfl, by decide, rfl, fun _ => rfl, by decide, Or.inl q3365⟩
theorem fl3356 : FL "TransportPairModel$Streams" 71 37 19 2 105 := ⟨_, rfl, by decide, rfl, fun _ => rfl, by decide, Or.inl q3356⟩
theorem fl3357 : FL "TransportPairModel$Streams" 74 37 20 2 101 := ⟨_, rfl, by decide, rfl, fun _ => rfl, by decide, Or.inl q3357⟩
theorem fl3358 : FL "TransportPairModel$Streams" 77 37 21 2 101 := ⟨_, rfl, by decide, rfl, fun _ => rfl, by decide, Or.inl q3358⟩
theorem fl3359 : FL "TransportPairModel$Streams" 80 37 22 2 101 := ⟨_, rfl, by decide, rfl, fun _ => rfl, by decide, Or.inl q3359⟩
theorem fl3376 : FL "TransportPairModel$Streams" 131 37 39 2 101 := ⟨_, rfl, by decide, rfl, fun _ => rfl, by decide, Or.inl q3376⟩
theorem fl3340 : FL "TransportPairModel$Streams" 21 37 3 2 105 := ⟨_, rfl, by decide, rfl, fun _ => rfl, by decide, Or.inl q3340⟩
theorem pf3531 : PF "TransportPairModel$Book" 9 39 3 (.array (.int)) 101 := ⟨_, rfl, by decide, rfl, fun _ => rfl, by decide, rfl, rfl, q3531⟩
theorem pf3533 : PF "TransportPairModel$Book" 15 39 4 (.array (.int)) 101 := ⟨_, rfl, by decide, rfl, fun _ => rfl, by decide, rfl, rfl, q3533⟩
theorem pf3534 : PF "TransportPairModel$Book" 18 39 5 (.array (.int)) 101 := ⟨_, rfl, by decide, rfl, fun _ => rfl, by decide, rfl, rfl, q3534⟩
theorem pf3535 : PF "TransportPairModel$Book" 21 39 6 (.array (.byte)) 102 := ⟨_, rfl, by decide, rfl, fun _ => rfl, by decide, rfl, rfl, q3535⟩
theorem pf3536 : PF "TransportPairModel$Book" 25 39 7 (.array (.boolean)) 103 := ⟨_, rfl, by decide, rfl, fun _ => rfl, by decide, rfl, rfl, q3536⟩
theorem pf3537 : PF "TransportPairModel$Book" 29 39 8 (.array (.boolean)) 103 := ⟨_, rfl, by decide, rfl, fun _ => rfl, by decide, rfl, rfl, q3537⟩
theorem pf3538 : PF "TransportPairModel$Book" 32 39 9 (.array (.boolean)) 103 := ⟨_, rfl, by decide, rfl, fun _ => rfl, by decide, rfl, rfl, q3538⟩
theorem pf3539 : PF "TransportPairModel$Book" 35 39 10 (.array (.int)) 101 := ⟨_, rfl, by decide, rfl, fun _ => rfl, by decide, rfl, rfl, q3539⟩
theorem pf3540 : PF "TransportPairModel$Book" 38 39 11 (.array (.boolean)) 103 := ⟨_, rfl, by decide, rfl, fun _ => rfl, by decide, rfl, rfl, q3540⟩
theorem pf3542 : PF "TransportPairModel$Book" 41 39 12 (.array (.int)) 101 := ⟨_, rfl, by decide, rfl, fun _ => rfl, by decide, rfl, rfl, q3542⟩
theorem pf3544 : PF "TransportPairModel$Book" 44 39 13 (.array (.int)) 101 := ⟨_, rfl, by decide, rfl, fun _ => rfl, by decide, rfl, rfl, q3544⟩
theorem pf3546 : PF "TransportPairModel$Book" 47 39 15 (.array (.short)) 104 := ⟨_, rfl, by decide, rfl, fun _ => rfl, by decide, rfl, rfl, q3546⟩
theorem pf3547 : PF "TransportPairModel$Book" 51 39 16 (.array (.int)) 101 := ⟨_, rfl, by decide, rfl, fun _ => rfl, by decide, rfl, rfl, q3547⟩
theorem pf3548 : PF "TransportPairModel$Book" 54 39 17 (.array (.int)) 101 := ⟨_, rfl, by decide, rfl, fun _ => rfl, by decide, rfl, rfl, q3548⟩
theorem pl3549 : PL "TransportPairModel$Book" 57 39 18 (.int) 0 := ⟨_, rfl, by decide, rfl, fun z => absurd z (by decide), by decide, Or.inl q3549, rfl⟩
theorem pl3550 : PL "TransportPairModel$Book" 61 39 19 (.int) 0 := ⟨_, rfl, by decide, rfl, fun z => absurd z (by decide), by decide, Or.inl q3550, rfl⟩
theorem pl3552 : PL "TransportPairModel$Book" 64 39 21 (.int) 0 := ⟨_, rfl, by decide, rfl, fun z => absurd z (by decide), by decide, Or.inl q3552, rfl⟩
theorem pl3553 : PL "TransportPairModel$Book" 67 39 22 (.int) 0 := ⟨_, rfl, by decide, rfl, fun z => absurd z (by decide), by decide, Or.inl q3553, rfl⟩
theorem pl3555 : PL "TransportPairModel$Book" 70 39 24 (.int) 0 := ⟨_, rfl, by decide, rfl, fun z => absurd z (by decide), by decide, Or.inl q3555, rfl⟩
theorem pl3557 : PL "TransportPairModel$Book" 73 39 25 (.int) 0 := ⟨_, rfl, by decide, rfl, fun z => absurd z (by decide), by decide, Or.inl q3557, rfl⟩
theorem pl3558 : PL "TransportPairModel$Book" 76 39 26 (.int) 0 := ⟨_, rfl, by decide, rfl, fun z => absurd z (by decide), by decide, Or.inl q3558, rfl⟩
theorem pf3561 : PF "TransportPairModel$Book" 79 39 28 (.array (.long)) 105 := ⟨_, rfl, by decide, rfl, fun _ => rfl, by decide, rfl, rfl, q3561⟩
theorem pf3563 : PF "TransportPairModel$Book" 83 39 29 (.array (.long)) 105 := ⟨_, rfl, by decide, rfl, fun _ => rfl, by decide, rfl, rfl, q3563⟩
theorem pf3565 : PF "TransportPairModel$Book" 86 39 30 (.array (.int)) 101 := ⟨_, rfl, by decide, rfl, fun _ => rfl, by decide, rfl, rfl, q3565⟩
theorem pf3567 : PF "TransportPairModel$Book" 89 39 31 (.array (.long)) 105 := ⟨_, rfl, by decide, rfl, fun _ => rfl, by decide, rfl, rfl, q3567⟩
theorem pf3568 : PF "TransportPairModel$Book" 92 39 32 (.array (.long)) 105 := ⟨_, rfl, by decide, rfl, fun _ => rfl, by decide, rfl, rfl, q3568⟩
theorem pf3569 : PF "TransportPairModel$Book" 95 39 33 (.array (.long)) 105 := ⟨_, rfl, by decide, rfl, fun _ => rfl, by decide, rfl, rfl, q3569⟩
theorem pf3570 : PF "TransportPairModel$Book" 98 39 34 (.array (.int)) 101 := ⟨_, rfl, by decide, rfl, fun _ => rfl, by decide, rfl, rfl, q3570⟩
theorem pf3571 : PF "TransportPairModel$Book" 101 39 35 (.array (.int)) 101 := ⟨_, rfl, by decide, rfl, fun _ => rfl, by decide, rfl, rfl, q3571⟩
theorem pf3573 : PF "TransportPairModel$Book" 104 39 36 (.array (.int)) 101 := ⟨_, rfl, by decide, rfl, fun _ => rfl, by decide, rfl, rfl, q3573⟩
theorem pf3574 : PF "TransportPairModel$Book" 107 39 37 (.array (.boolean)) 103 := ⟨_, rfl, by decide, rfl, fun _ => rfl, by decide, rfl, rfl, q3574⟩
theorem fl3542 : FL "TransportPairModel$Book" 41 39 12 2 101 := ⟨_, rfl, by decide, rfl, fun _ => rfl, by decide, Or.inl q3542⟩
theorem fl3544 : FL "TransportPairModel$Book" 44 39 13 2 101 := ⟨_, rfl, by decide, rfl, fun _ => rfl, by decide, Or.inl q3544⟩
theorem pf3671 : PF "TransportPairModel$Wire" 9 40 5 (.array (.long)) 105 := ⟨_, rfl, by decide, rfl, fun _ => rfl, by decide, rfl, rfl, q3671⟩
theorem pl3714 : PL "TransportPairModel$Cargo" 7 41 1 (.array (.byte)) 102 := ⟨_, rfl, by decide, rfl, fun _ => rfl, by decide, Or.inl q3714, rfl⟩
theorem pl3716 : PL "TransportPairModel$Cargo" 13 41 2 (.array (.int)) 101 := ⟨_, rfl, by decide, rfl, fun _ => rfl, by decide, Or.inl q3716, rfl⟩
theorem pl3718 : PL "TransportPairModel$Cargo" 17 41 3 (.array (.long)) 105 := ⟨_, rfl, by decide, rfl, fun _ => rfl, by decide, Or.inl q3718, rfl⟩
theorem pl3720 : PL "TransportPairModel$Cargo" 21 41 4 (.array (.long)) 105 := ⟨_, rfl, by decide, rfl, fun _ => rfl, by decide, Or.inl q3720, rfl⟩
theorem pl3722 : PL "TransportPairModel$Cargo" 24 41 5 (.array (.byte)) 102 := ⟨_, rfl, by decide, rfl, fun _ => rfl, by decide, Or.inl q3722, rfl⟩
theorem pf3744 : PF "TransportPairModel$Draft" 7 42 0 (.array (.int)) 101 := ⟨_, rfl, by decide, rfl, fun _ => rfl, by decide, rfl, rfl, q3744⟩
theorem pf3763 : PF "TransportPairModel$Greet" 9 43 2 (.array (.int)) 101 := ⟨_, rfl, by decide, rfl, fun _ => rfl, by decide, rfl, rfl, q3763⟩
theorem pf3765 : PF "TransportPairModel$Greet" 15 43 3 (.array (.int)) 101 := ⟨_, rfl, by decide, rfl, fun _ => rfl, by decide, rfl, rfl, q3765⟩
theorem pf3768 : PF "TransportPairModel$Greet" 18 43 4 (.array (.int)) 101 := ⟨_, rfl, by decide, rfl, fun _ => rfl, by decide, rfl, rfl, q3768⟩
theorem pf3777 : PF "TransportPairModel$Greet" 21 43 9 (.array (.int)) 101 := ⟨_, rfl, by decide, rfl, fun _ => rfl, by decide, rfl, rfl, q3777⟩
theorem pf3779 : PF "TransportPairModel$Greet" 24 43 10 (.array (.int)) 101 := ⟨_, rfl, by decide, rfl, fun _ => rfl, by decide, rfl, rfl, q3779⟩
theorem pf3781 : PF "TransportPairModel$Greet" 27 43 11 (.array (.int)) 101 := ⟨_, rfl, by decide, rfl, fun _ => rfl, by decide, rfl, rfl, q3781⟩
theorem pf3782 : PF "TransportPairModel$Greet" 30 43 12 (.array (.int)) 101 := ⟨_, rfl, by decide, rfl, fun _ => rfl, by decide, rfl, rfl, q3782⟩
theorem pf3783 : PF "TransportPairModel$Greet" 33 43 13 (.array (.int)) 101 := ⟨_, rfl, by decide, rfl, fun _ => rfl, by decide, rfl, rfl, q3783⟩
theorem pl3785 : PL "TransportPairModel$Greet" 36 43 14 (.int) 0 := ⟨_, rfl, by decide, rfl, fun z => absurd z (by decide), by decide, Or.inl q3785, rfl⟩
theorem pf3787 : PF "TransportPairModel$Greet" 40 43 15 (.array (.int)) 101 := ⟨_, rfl, by decide, rfl, fun _ => rfl, by decide, rfl, rfl, q3787⟩
theorem pf3789 : PF "TransportPairModel$Greet" 43 43 17 (.array (.int)) 101 := ⟨_, rfl, by decide, rfl, fun _ => rfl, by decide, rfl, rfl, q3789⟩
theorem pl3791 : PL "TransportPairModel$Greet" 46 43 18 (.int) 0 := ⟨_, rfl, by decide, rfl, fun z => absurd z (by decide), by decide, Or.inl q3791, rfl⟩
theorem pf3794 : PF "TransportPairModel$Greet" 49 43 19 (.array (.int)) 101 := ⟨_, rfl, by decide, rfl, fun _ => rfl, by decide, rfl, rfl, q3794⟩
theorem pf3795 : PF "TransportPairModel$Greet" 52 43 20 (.array (.int)) 101 := ⟨_, rfl, by decide, rfl, fun _ => rfl, by decide, rfl, rfl, q3795⟩
theorem pf3796 : PF "TransportPairModel$Greet" 55 43 21 (.array (.int)) 101 := ⟨_, rfl, by decide, rfl, fun _ => rfl, by decide, rfl, rfl, q3796⟩
theorem pf3797 : PF "TransportPairModel$Greet" 58 43 22 (.array (.int)) 101 := ⟨_, rfl, by decide, rfl, fun _ => rfl, by decide, rfl, rfl, q3797⟩
theorem pf3761 : PF "TransportPairModel$Greet" 61 43 0 (.int) 0 := ⟨_, rfl, by decide, rfl, fun z => absurd z (by decide), by decide, rfl, rfl, q3761⟩
theorem pf3762 : PF "TransportPairModel$Greet" 64 43 1 (.object "TransportPairModel$Seals") 37 := ⟨_, rfl, by decide, rfl, fun _ => rfl, by decide, rfl, rfl, q3762⟩
theorem ml3520 : ML "TransportPairModel$Side" 11 y_mBook_init := Or.inl q3520
theorem pf3850 : PF "TransportPairModel$Side" 12 38 4 (.object "TransportPairModel$Book") 40 := ⟨_, rfl, by decide, rfl, fun _ => rfl, by decide, rfl, rfl, q3850⟩
theorem pf3852 : PF "TransportPairModel$Side" 18 38 5 (.array (.long)) 105 := ⟨_, rfl, by decide, rfl, fun _ => rfl, by decide, rfl, rfl, q3852⟩
theorem pf3866 : PF "TransportPairModel$Side" 22 38 13 (.array (.int)) 101 := ⟨_, rfl, by decide, rfl, fun _ => rfl, by decide, rfl, rfl, q3866⟩
theorem pf3869 : PF "TransportPairModel$Side" 26 38 16 (.array (.int)) 101 := ⟨_, rfl, by decide, rfl, fun _ => rfl, by decide, rfl, rfl, q3869⟩
theorem pf3871 : PF "TransportPairModel$Side" 29 38 18 (.array (.int)) 101 := ⟨_, rfl, by decide, rfl, fun _ => rfl, by decide, rfl, rfl, q3871⟩
theorem pf3872 : PF "TransportPairModel$Side" 32 38 19 (.array (.boolean)) 103 := ⟨_, rfl, by decide, rfl, fun _ => rfl, by decide, rfl, rfl, q3872⟩
theorem pf3873 : PF "TransportPairModel$Side" 36 38 20 (.array (.int)) 101 := ⟨_, rfl, by decide, rfl, fun _ => rfl, by decide, rfl, rfl, q3873⟩
theorem ml3654 : ML "TransportPairModel$Side" 41 y_mWire_init := Or.inr ⟨_, q3654⟩
theorem pf3874 : PF "TransportPairModel$Side" 42 38 21 (.object "TransportPairModel$Wire") 41 := ⟨_, rfl, by decide, rfl, fun _ => rfl, by decide, rfl, rfl, q3874⟩
theorem pf3875 : PF "TransportPairModel$Side" 46 38 22 (.array (.long)) 105 := ⟨_, rfl, by decide, rfl, fun _ => rfl, by decide, rfl, rfl, q3875⟩
theorem pf3876 : PF "TransportPairModel$Side" 49 38 23 (.array (.int)) 101 := ⟨_, rfl, by decide, rfl, fun _ => rfl, by decide, rfl, rfl, q3876⟩
theorem pf3878 : PF "TransportPairModel$Side" 52 38 25 (.array (.int)) 101 := ⟨_, rfl, by decide, rfl, fun _ => rfl, by decide, rfl, rfl, q3878⟩
theorem pf3879 : PF "TransportPairModel$Side" 55 38 26 (.array (.boolean)) 103 := ⟨_, rfl, by decide, rfl, fun _ => rfl, by decide, rfl, rfl, q3879⟩
theorem pf3880 : PF "TransportPairModel$Side" 58 38 27 (.array (.int)) 101 := ⟨_, rfl, by decide, rfl, fun _ => rfl, by decide, rfl, rfl, q3880⟩
theorem pf3881 : PF "TransportPairModel$Side" 61 38 28 (.array (.byte)) 102 := ⟨_, rfl, by decide, rfl, fun _ => rfl, by decide, rfl, rfl, q3881⟩
theorem pf3882 : PF "TransportPairModel$Side" 65 38 29 (.array (.int)) 101 := ⟨_, rfl, by decide, rfl, fun _ => rfl, by decide, rfl, rfl, q3882⟩
theorem pf3887 : PF "TransportPairModel$Side" 68 38 34 (.array (.int)) 101 := ⟨_, rfl, by decide, rfl, fun _ => rfl, by decide, rfl, rfl, q3887⟩
theorem pf3898 : PF "TransportPairModel$Side" 71 38 42 (.array (.int)) 101 := ⟨_, rfl, by decide, rfl, fun _ => rfl, by decide, rfl, rfl, q3898⟩
theorem pf3902 : PF "TransportPairModel$Side" 74 38 44 (.array (.int)) 101 := ⟨_, rfl, by decide, rfl, fun _ => rfl, by decide, rfl, rfl, q3902⟩
theorem ml3707 : ML "TransportPairModel$Side" 79 y_mCargo_init := Or.inr ⟨_, q3707⟩
theorem pf3903 : PF "TransportPairModel$Side" 80 38 45 (.array (.object "TransportPairModel$Cargo")) 119 := ⟨_, rfl, by decide, rfl, fun _ => rfl, by decide, rfl, rfl, q3903⟩
theorem pf3905 : PF "TransportPairModel$Side" 84 38 46 (.array (.int)) 101 := ⟨_, rfl, by decide, rfl, fun _ => rfl, by decide, rfl, rfl, q3905⟩
theorem ml3740 : ML "TransportPairModel$Side" 89 y_mDraft_init := Or.inr ⟨_, q3740⟩
theorem pf3906 : PF "TransportPairModel$Side" 90 38 47 (.array (.object "TransportPairModel$Draft")) 120 := ⟨_, rfl, by decide, rfl, fun _ => rfl, by decide, rfl, rfl, q3906⟩
theorem pf3907 : PF "TransportPairModel$Side" 94 38 48 (.array (.boolean)) 103 := ⟨_, rfl, by decide, rfl, fun _ => rfl, by decide, rfl, rfl, q3907⟩
theorem pf3908 : PF "TransportPairModel$Side" 97 38 49 (.array (.boolean)) 103 := ⟨_, rfl, by decide, rfl, fun _ => rfl, by decide, rfl, rfl, q3908⟩
theorem pf3909 : PF "TransportPairModel$Side" 100 38 50 (.array (.boolean)) 103 := ⟨_, rfl, by decide, rfl, fun _ => rfl, by decide, rfl, rfl, q3909⟩
theorem pf3911 : PF "TransportPairModel$Side" 103 38 52 (.object "TransportPairModel$Draft") 43 := ⟨_, rfl, by decide, rfl, fun _ => rfl, by decide, rfl, rfl, q3911⟩
theorem pf3845 : PF "TransportPairModel$Side" 107 38 0 (.int) 0 := ⟨_, rfl, by decide, rfl, fun z => absurd z (by decide), by decide, rfl, rfl, q3845⟩
theorem pf3846 : PF "TransportPairModel$Side" 111 38 1 (.object "TransportPairModel$Seals") 37 := ⟨_, rfl, by decide, rfl, fun _ => rfl, by decide, rfl, rfl, q3846⟩
theorem pf3847 : PF "TransportPairModel$Side" 115 38 2 (.object "TransportPairModel$Streams") 38 := ⟨_, rfl, by decide, rfl, fun _ => rfl, by decide, rfl, rfl, q3847⟩
theorem ml3757 : ML "TransportPairModel$Side" 121 y_mGreet_init := Or.inl q3757
theorem pf3848 : PF "TransportPairModel$Side" 124 38 3 (.object "TransportPairModel$Greet") 44 := ⟨_, rfl, by decide, rfl, fun _ => rfl, by decide, rfl, rfl, q3848⟩
theorem fl3337 : FL "TransportPairModel$Streams" 9 37 0 2 105 := ⟨_, rfl, by decide, rfl, fun _ => rfl, by decide, Or.inl q3337⟩
theorem fl3346 : FL "TransportPairModel$Streams" 41 37 9 2 105 := ⟨_, rfl, by decide, rfl, fun _ => rfl, by decide, Or.inl q3346⟩
theorem fl3343 : FL "TransportPairModel$Streams" 31 37 6 2 101 := ⟨_, rfl, by decide, rfl, fun _ => rfl, by decide, Or.inl q3343⟩
theorem fl4038 : FL "TransportPairModel" 37 35 7 2 118 := ⟨_, rfl, by decide, rfl, fun _ => rfl, by decide, Or.inl q4038⟩
theorem fl3853 : FL "TransportPairModel" 87 38 5 2 105 := ⟨_, rfl, by decide, rfl, fun _ => rfl, by decide, Or.inr ⟨_, q3853⟩⟩
theorem fl4037 : FL "TransportPairModel" 28 35 6 2 38 := ⟨_, rfl, by decide, rfl, fun _ => rfl, by decide, Or.inl q4037⟩
theorem ml4027 : ML "TransportPairModel" 91 y_mStreams_setGrant := Or.inl q4027
theorem pf4032 : PF "TransportPairModel" 8 35 1 (.array (.byte)) 102 := ⟨_, rfl, by decide, rfl, fun _ => rfl, by decide, rfl, rfl, q4032⟩
theorem pf4034 : PF "TransportPairModel" 14 35 3 (.array (.int)) 101 := ⟨_, rfl, by decide, rfl, fun _ => rfl, by decide, rfl, rfl, q4034⟩
theorem ml3231 : ML "TransportPairModel" 20 y_mSeals_init := Or.inl q3231
theorem pf4036 : PF "TransportPairModel" 21 35 5 (.object "TransportPairModel$Seals") 37 := ⟨_, rfl, by decide, rfl, fun _ => rfl, by decide, rfl, rfl, q4036⟩
theorem ml3330 : ML "TransportPairModel" 27 y_mStreams_init := Or.inl q3330
theorem pf4037 : PF "TransportPairModel" 28 35 6 (.object "TransportPairModel$Streams") 38 := ⟨_, rfl, by decide, rfl, fun _ => rfl, by decide, rfl, rfl, q4037⟩
theorem fl4036 : FL "TransportPairModel" 21 35 5 2 37 := ⟨_, rfl, by decide, rfl, fun _ => rfl, by decide, Or.inl q4036⟩
theorem ml3514 : ML "TransportPairModel" 34 y_mSide_init := Or.inl q3514
theorem pf4038 : PF "TransportPairModel" 37 35 7 (.array (.object "TransportPairModel$Side")) 118 := ⟨_, rfl, by decide, rfl, fun _ => rfl, by decide, rfl, rfl, q4038⟩
theorem pf4041 : PF "TransportPairModel" 41 35 10 (.array (.int)) 101 := ⟨_, rfl, by decide, rfl, fun _ => rfl, by decide, rfl, rfl, q4041⟩
theorem pf4042 : PF "TransportPairModel" 44 35 11 (.array (.int)) 101 := ⟨_, rfl, by decide, rfl, fun _ => rfl, by decide, rfl, rfl, q4042⟩
theorem pf4043 : PF "TransportPairModel" 47 35 12 (.array (.boolean)) 103 := ⟨_, rfl, by decide, rfl, fun _ => rfl, by decide, rfl, rfl, q4043⟩
theorem pf4044 : PF "TransportPairModel" 51 35 13 (.array (.int)) 101 := ⟨_, rfl, by decide, rfl, fun _ => rfl, by decide, rfl, rfl, q4044⟩
theorem pf4045 : PF "TransportPairModel" 54 35 14 (.array (.int)) 101 := ⟨_, rfl, by decide, rfl, fun _ => rfl, by decide, rfl, rfl, q4045⟩
theorem pf4046 : PF "TransportPairModel" 58 35 15 (.array (.byte)) 102 := ⟨_, rfl, by decide, rfl, fun _ => rfl, by decide, rfl, rfl, q4046⟩
theorem pf4047 : PF "TransportPairModel" 61 35 16 (.array (.int)) 101 := ⟨_, rfl, by decide, rfl, fun _ => rfl, by decide, rfl, rfl, q4047⟩
theorem pf4048 : PF "TransportPairModel" 64 35 17 (.array (.int)) 101 := ⟨_, rfl, by decide, rfl, fun _ => rfl, by decide, rfl, rfl, q4048⟩
theorem pf4049 : PF "TransportPairModel" 67 35 18 (.array (.int)) 101 := ⟨_, rfl, by decide, rfl, fun _ => rfl, by decide, rfl, rfl, q4049⟩
theorem pf4050 : PF "TransportPairModel" 70 35 19 (.array (.int)) 101 := ⟨_, rfl, by decide, rfl, fun _ => rfl, by decide, rfl, rfl, q4050⟩
theorem pf4051 : PF "TransportPairModel" 73 35 20 (.array (.int)) 101 := ⟨_, rfl, by decide, rfl, fun _ => rfl, by decide, rfl, rfl, q4051⟩
theorem ml4022 : ML "TransportPairModel" 78 y_mWire_init := Or.inr ⟨_, q4022⟩
theorem pf4053 : PF "TransportPairModel" 79 35 22 (.object "TransportPairModel$Wire") 41 := ⟨_, rfl, by decide, rfl, fun _ => rfl, by decide, rfl, rfl, q4053⟩
theorem ml4023 : ML "TransportPairModel" 83 y_mP_set := Or.inl q4023
theorem fl4031 : FL "TransportPairModel" 95 35 0 0 0 := ⟨_, rfl, by decide, rfl, fun z => absurd z (by decide), by decide, Or.inl q4031⟩
theorem pl4031 : PL "TransportPairModel" 95 35 0 (.int) 0 := ⟨_, rfl, by decide, rfl, fun z => absurd z (by decide), by decide, Or.inl q4031, rfl⟩
theorem fl4033 : FL "TransportPairModel" 99 35 2 0 0 := ⟨_, rfl, by decide, rfl, fun z => absurd z (by decide), by decide, Or.inl q4033⟩
theorem ml4109 : ML "TransportPairModel" 102 y_mP_fails := Or.inl q4109
theorem fl4032 : FL "TransportPairModel" 8 35 1 2 102 := ⟨_, rfl, by decide, rfl, fun _ => rfl, by decide, Or.inl q4032⟩
theorem pl4033 : PL "TransportPairModel" 99 35 2 (.int) 0 := ⟨_, rfl, by decide, rfl, fun z => absurd z (by decide), by decide, Or.inl q4033, rfl⟩
theorem ml4121 : ML "TransportPairModel" 106 y_mP_no := Or.inl q4121
theorem fl3857 : FL "TransportPairModel" 110 38 8 0 0 := ⟨_, rfl, by decide, rfl, fun z => absurd z (by decide), by decide, Or.inr ⟨_, q3857⟩⟩
theorem pl3854 : PL "TransportPairModel" 122 38 6 (.boolean) 0 := ⟨_, rfl, by decide, rfl, fun z => absurd z (by decide), by decide, Or.inr ⟨_, q3854⟩, rfl⟩
theorem fl3849 : FL "TransportPairModel" 113 38 3 2 44 := ⟨_, rfl, by decide, rfl, fun _ => rfl, by decide, Or.inr ⟨_, q3849⟩⟩
theorem fl3764 : FL "TransportPairModel" 117 43 2 2 101 := ⟨_, rfl, by decide, rfl, fun _ => rfl, by decide, Or.inr ⟨_, q3764⟩⟩
theorem pl3855 : PL "TransportPairModel" 129 38 7 (.boolean) 0 := ⟨_, rfl, by decide, rfl, fun z => absurd z (by decide), by decide, Or.inr ⟨_, q3855⟩, rfl⟩
theorem fl3767 : FL "TransportPairModel" 126 43 3 2 101 := ⟨_, rfl, by decide, rfl, fun _ => rfl, by decide, Or.inr ⟨_, q3767⟩⟩
theorem fl3259 : FL "TransportPairModel$Seals" 32 36 7 2 105 := ⟨_, rfl, by decide, rfl, fun _ => rfl, by decide, Or.inl q3259⟩
theorem ml4162 : ML "TransportPairModel$Seals" 107 y_mSeals_right := Or.inl q4162
theorem fl3256 : FL "TransportPairModel$Seals" 23 36 4 2 101 := ⟨_, rfl, by decide, rfl, fun _ => rfl, by decide, Or.inl q3256⟩
theorem fl3258 : FL "TransportPairModel$Seals" 29 36 6 2 105 := ⟨_, rfl, by decide, rfl, fun _ => rfl, by decide, Or.inl q3258⟩
theorem ml4165 : ML "TransportPairModel$Seals" 111 y_mSeals_round := Or.inl q4165
theorem ml4157 : ML "TransportPairModel$Seals" 99 y_mSeals_part := Or.inl q4157
theorem fl3260 : FL "TransportPairModel$Seals" 35 36 8 2 101 := ⟨_, rfl, by decide, rfl, fun _ => rfl, by decide, Or.inl q3260⟩
theorem fl3261 : FL "TransportPairModel$Seals" 38 36 9 2 101 := ⟨_, rfl, by decide, rfl, fun _ => rfl, by decide, Or.inl q3261⟩
theorem fl3263 : FL "TransportPairModel$Seals" 117 36 11 0 0 := ⟨_, rfl, by decide, rfl, fun z => absurd z (by decide), by decide, Or.inl q3263⟩
theorem ml4153 : ML "TransportPairModel$Seals" 114 y_mSeals_digestWork := Or.inl q4153
theorem fl3262 : FL "TransportPairModel$Seals" 41 36 10 2 101 := ⟨_, rfl, by decide, rfl, fun _ => rfl, by decide, Or.inl q3262⟩
theorem pl3263 : PL "TransportPairModel$Seals" 117 36 11 (.int) 0 := ⟨_, rfl, by decide, rfl, fun z => absurd z (by decide), by decide, Or.inl q3263, rfl⟩
theorem ml4149 : ML "TransportPairModel$Seals" 121 y_mSeals_macText := Or.inl q4149
theorem fl3264 : FL "TransportPairModel$Seals" 44 36 12 2 101 := ⟨_, rfl, by decide, rfl, fun _ => rfl, by decide, Or.inl q3264⟩
theorem fl3265 : FL "TransportPairModel$Seals" 125 36 13 0 0 := ⟨_, rfl, by decide, rfl, fun z => absurd z (by decide), by decide, Or.inl q3265⟩
theorem pl3265 : PL "TransportPairModel$Seals" 125 36 13 (.int) 0 := ⟨_, rfl, by decide, rfl, fun z => absurd z (by decide), by decide, Or.inl q3265, rfl⟩
theorem ml4174 : ML "TransportPairModel$Seals" 150 y_mSeals_words := Or.inl q4174
theorem ml4188 : ML "TransportPairModel$Seals" 154 y_mSeals_tell := Or.inl q4188
theorem fl3266 : FL "TransportPairModel$Seals" 47 36 14 2 101 := ⟨_, rfl, by decide, rfl, fun _ => rfl, by decide, Or.inl q3266⟩
theorem fl3762 : FL "TransportPairModel$Greet" 64 43 1 2 37 := ⟨_, rfl, by decide, rfl, fun _ => rfl, by decide, Or.inl q3762⟩
theorem fl3796 : FL "TransportPairModel$Greet" 55 43 21 2 101 := ⟨_, rfl, by decide, rfl, fun _ => rfl, by decide, Or.inl q3796⟩
theorem fl3797 : FL "TransportPairModel$Greet" 58 43 22 2 101 := ⟨_, rfl, by decide, rfl, fun _ => rfl, by decide, Or.inl q3797⟩
theorem ml4145 : ML "TransportPairModel$Greet" 68 y_mSeals_mac := Or.inl q4145
theorem ml4170 : ML "TransportPairModel$Greet" 74 y_mSeals_label := Or.inl q4170
theorem ml4200 : ML "TransportPairModel$Seals" 157 y_mSeals_label := Or.inl q4200
theorem fl3846 : FL "TransportPairModel$Side" 111 38 1 2 37 := ⟨_, rfl, by decide, rfl, fun _ => rfl, by decide, Or.inl q3846⟩
theorem fl3848 : FL "TransportPairModel$Side" 124 38 3 2 44 := ⟨_, rfl, by decide, rfl, fun _ => rfl, by decide, Or.inl q3848⟩
theorem fl3790 : FL "TransportPairModel$Side" 178 43 17 2 101 := ⟨_, rfl, by decide, rfl, fun _ => rfl, by decide, Or.inr ⟨_, q3790⟩⟩
theorem fl3845 : FL "TransportPairModel$Side" 107 38 0 0 0 := ⟨_, rfl, by decide, rfl, fun z => absurd z (by decide), by decide, Or.inl q3845⟩
theorem fl3871 : FL "TransportPairModel$Side" 29 38 18 2 101 := ⟨_, rfl, by decide, rfl, fun _ => rfl, by decide, Or.inl q3871⟩
theorem ml4196 : ML "TransportPairModel$Side" 208 y_mSeals_arm := Or.inl q4196
theorem fl3872 : FL "TransportPairModel$Side" 32 38 19 2 103 := ⟨_, rfl, by decide, rfl, fun _ => rfl, by decide, Or.inl q3872⟩
theorem fl3769 : FL "TransportPairModel$Side" 151 43 4 2 101 := ⟨_, rfl, by decide, rfl, fun _ => rfl, by decide, Or.inr ⟨_, q3769⟩⟩
theorem fl3770 : FL "TransportPairModel$Side" 154 43 5 0 0 := ⟨_, rfl, by decide, rfl, fun z => absurd z (by decide), by decide, Or.inr ⟨_, q3770⟩⟩
theorem pl3770 : PL "TransportPairModel$Side" 154 43 5 (.int) 0 := ⟨_, rfl, by decide, rfl, fun z => absurd z (by decide), by decide, Or.inr ⟨_, q3770⟩, rfl⟩
theorem ml4209 : ML "TransportPairModel$Side" 142 y_mSide_putOwn := Or.inl q4209
theorem ml4218 : ML "TransportPairModel$Side" 138 y_mWire_needs := Or.inl q4218
theorem fl3869 : FL "TransportPairModel$Side" 26 38 16 2 101 := ⟨_, rfl, by decide, rfl, fun _ => rfl, by decide, Or.inl q3869⟩
theorem ml4205 : ML "TransportPairModel$Side" 157 y_mSide_putName := Or.inl q4205
theorem fl3766 : FL "TransportPairModel$Side" 167 43 3 2 101 := ⟨_, rfl, by decide, rfl, fun _ => rfl, by decide, Or.inr ⟨_, q3766⟩⟩
theorem ml4214 : ML "TransportPairModel$Side" 163 y_mSide_putNumber := Or.inl q4214
theorem fl3852 : FL "TransportPairModel$Side" 18 38 5 2 105 := ⟨_, rfl, by decide, rfl, fun _ => rfl, by decide, Or.inl q3852⟩
theorem fl3777 : FL "TransportPairModel$Greet" 21 43 9 2 101 := ⟨_, rfl, by decide, rfl, fun _ => rfl, by decide, Or.inl q3777⟩
theorem fl3779 : FL "TransportPairModel$Greet" 24 43 10 2 101 := ⟨_, rfl, by decide, rfl, fun _ => rfl, by decide, Or.inl q3779⟩
theorem fl3787 : FL "TransportPairModel$Greet" 40 43 15 2 101 := ⟨_, rfl, by decide, rfl, fun _ => rfl, by decide, Or.inl q3787⟩
theorem fl3788 : FL "TransportPairModel$Greet" 78 43 16 0 0 := ⟨_, rfl, by decide, rfl, fun z => absurd z (by decide), by decide, Or.inl q3788⟩
theorem pl3788 : PL "TransportPairModel$Greet" 78 43 16 (.int) 0 := ⟨_, rfl, by decide, rfl, fun z => absurd z (by decide), by decide, Or.inl q3788, rfl⟩
theorem fl3771 : FL "TransportPairModel$Greet" 84 43 5 0 0 := ⟨_, rfl, by decide, rfl, fun z => absurd z (by decide), by decide, Or.inl q3771⟩
theorem ml4235 : ML "TransportPairModel$Greet" 87 y_mGreet_send := Or.inl q4235
theorem fl3765 : FL "TransportPairModel$Greet" 15 43 3 2 101 := ⟨_, rfl, by decide, rfl, fun _ => rfl, by decide, Or.inl q3765⟩
theorem ml4239 : ML "TransportPairModel$Greet" 91 y_mGreet_note := Or.inl q4239
theorem fl3768 : FL "TransportPairModel$Greet" 18 43 4 2 101 := ⟨_, rfl, by decide, rfl, fun _ => rfl, by decide, Or.inl q3768⟩
theorem fl3761 : FL "TransportPairModel$Greet" 61 43 0 0 0 := ⟨_, rfl, by decide, rfl, fun z => absurd z (by decide), by decide, Or.inl q3761⟩
theorem pl3772 : PL "TransportPairModel$Greet" 95 43 6 (.int) 0 := ⟨_, rfl, by decide, rfl, fun z => absurd z (by decide), by decide, Or.inl q3772, rfl⟩
theorem ml4231 : ML "TransportPairModel$Greet" 98 y_mGreet_says := Or.inl q4231
theorem pl3870 : PL "TransportPairModel$Side" 170 38 17 (.boolean) 0 := ⟨_, rfl, by decide, rfl, fun z => absurd z (by decide), by decide, Or.inl q3870, rfl⟩
theorem fl3873 : FL "TransportPairModel$Side" 36 38 20 2 101 := ⟨_, rfl, by decide, rfl, fun _ => rfl, by decide, Or.inl q3873⟩
theorem ml4141 : ML "TransportPairModel$Side" 174 y_mGreet_firstSecrets := Or.inl q4141
theorem fl3792 : FL "TransportPairModel$Side" 181 43 18 0 0 := ⟨_, rfl, by decide, rfl, fun z => absurd z (by decide), by decide, Or.inr ⟨_, q3792⟩⟩
theorem pl3792 : PL "TransportPairModel$Side" 181 43 18 (.int) 0 := ⟨_, rfl, by decide, rfl, fun z => absurd z (by decide), by decide, Or.inr ⟨_, q3792⟩, rfl⟩
theorem ml4192 : ML "TransportPairModel$Side" 184 y_mSide_arm := Or.inl q4192
theorem ml4201 : ML "TransportPairModel$Side" 187 y_mSide_makeParameters := Or.inl q4201
theorem ml4227 : ML "TransportPairModel$Side" 190 y_mGreet_begin := Or.inl q4227
theorem pl3856 : PL "TransportPairModel$Side" 128 38 8 (.int) 0 := ⟨_, rfl, by decide, rfl, fun z => absurd z (by decide), by decide, Or.inl q3856, rfl⟩
theorem fl3850 : FL "TransportPairModel$Side" 12 38 4 2 40 := ⟨_, rfl, by decide, rfl, fun _ => rfl, by decide, Or.inl q3850⟩
theorem fl3524 : FL "TransportPairModel$Side" 193 39 0 0 0 := ⟨_, rfl, by decide, rfl, fun z => absurd z (by decide), by decide, Or.inr ⟨_, q3524⟩⟩
theorem pl3896 : PL "TransportPairModel$Side" 196 38 40 (.int) 0 := ⟨_, rfl, by decide, rfl, fun z => absurd z (by decide), by decide, Or.inl q3896, rfl⟩
theorem pl3897 : PL "TransportPairModel$Side" 199 38 41 (.boolean) 0 := ⟨_, rfl, by decide, rfl, fun z => absurd z (by decide), by decide, Or.inl q3897, rfl⟩
theorem pl3529 : PL "TransportPairModel$Side" 202 39 2 (.boolean) 0 := ⟨_, rfl, by decide, rfl, fun z => absurd z (by decide), by decide, Or.inr ⟨_, q3529⟩, rfl⟩
theorem pl3867 : PL "TransportPairModel$Side" 205 38 14 (.int) 0 := ⟨_, rfl, by decide, rfl, fun z => absurd z (by decide), by decide, Or.inl q3867, rfl⟩
theorem fl3866 : FL "TransportPairModel$Side" 22 38 13 2 101 := ⟨_, rfl, by decide, rfl, fun _ => rfl, by decide, Or.inl q3866⟩
theorem fl3854 : FL "TransportPairModel" 122 38 6 0 0 := ⟨_, rfl, by decide, rfl, fun z => absurd z (by decide), by decide, Or.inr ⟨_, q3854⟩⟩
theorem fl3855 : FL "TransportPairModel" 129 38 7 0 0 := ⟨_, rfl, by decide, rfl, fun z => absurd z (by decide), by decide, Or.inr ⟨_, q3855⟩⟩
theorem ml4137 : ML "TransportPairModel" 133 y_mSide_begin := Or.inl q4137
theorem ml4262 : ML "TransportPairModel$Streams" 174 y_mStreams_wayOf := Or.inl q4262
theorem ml4265 : ML "TransportPairModel$Streams" 178 y_mStreams_opens := Or.inl q4265
theorem ml4255 : ML "TransportPairModel$Streams" 182 y_mStreams_at := Or.inl q4255
theorem fl3349 : FL "TransportPairModel$Streams" 50 37 12 2 103 := ⟨_, rfl, by decide, rfl, fun _ => rfl, by decide, Or.inl q3349⟩
theorem fl3370 : FL "TransportPairModel$Streams" 113 37 33 2 105 := ⟨_, rfl, by decide, rfl, fun _ => rfl, by decide, Or.inl q3370⟩
theorem ml4258 : ML "TransportPairModel$Streams" 196 y_mStreams_grantOf := Or.inl q4258
theorem fl3350 : FL "TransportPairModel$Streams" 53 37 13 2 105 := ⟨_, rfl, by decide, rfl, fun _ => rfl, by decide, Or.inl q3350⟩
theorem fl3338 : FL "TransportPairModel$Streams" 15 37 1 2 105 := ⟨_, rfl, by decide, rfl, fun _ => rfl, by decide, Or.inl q3338⟩
theorem fl3341 : FL "TransportPairModel$Streams" 24 37 4 2 101 := ⟨_, rfl, by decide, rfl, fun _ => rfl, by decide, Or.inl q3341⟩
theorem fl3339 : FL "TransportPairModel$Streams" 18 37 2 2 105 := ⟨_, rfl, by decide, rfl, fun _ => rfl, by decide, Or.inl q3339⟩
theorem fl3345 : FL "TransportPairModel$Streams" 38 37 8 2 103 := ⟨_, rfl, by decide, rfl, fun _ => rfl, by decide, Or.inl q3345⟩
theorem ml4251 : ML "TransportPairModel$Streams" 221 y_mStreams_begin := Or.inl q4251
theorem ml4247 : ML "TransportPairModel" 137 y_mStreams_open := Or.inl q4247
theorem ml4280 : ML "TransportPairModel$Streams" 186 y_mStreams_isThere := Or.inl q4280
theorem ml4284 : ML "TransportPairModel$Streams" 190 y_mStreams_sends := Or.inl q4284
theorem fl3353 : FL "TransportPairModel$Streams" 62 37 16 2 101 := ⟨_, rfl, by decide, rfl, fun _ => rfl, by decide, Or.inl q3353⟩
theorem fl3351 : FL "TransportPairModel$Streams" 56 37 14 2 103 := ⟨_, rfl, by decide, rfl, fun _ => rfl, by decide, Or.inl q3351⟩
theorem fl3352 : FL "TransportPairModel$Streams" 59 37 15 2 101 := ⟨_, rfl, by decide, rfl, fun _ => rfl, by decide, Or.inl q3352⟩
theorem fl3362 : FL "TransportPairModel$Streams" 89 37 25 2 101 := ⟨_, rfl, by decide, rfl, fun _ => rfl, by decide, Or.inl q3362⟩
theorem fl3360 : FL "TransportPairModel$Streams" 83 37 23 2 101 := ⟨_, rfl, by decide, rfl, fun _ => rfl, by decide, Or.inl q3360⟩
theorem ml4276 : ML "TransportPairModel$Streams" 200 y_mStreams_hasSending := Or.inl q4276
theorem ml4287 : ML "TransportPairModel$Streams" 203 y_mStreams_sending := Or.inl q4287
theorem fl3377 : FL "TransportPairModel$Streams" 134 37 40 2 101 := ⟨_, rfl, by decide, rfl, fun _ => rfl, by decide, Or.inl q3377⟩
theorem fl3378 : FL "TransportPairModel$Streams" 138 37 41 2 102 := ⟨_, rfl, by decide, rfl, fun _ => rfl, by decide, Or.inl q3378⟩
theorem fl3379 : FL "TransportPairModel$Streams" 142 37 42 2 102 := ⟨_, rfl, by decide, rfl, fun _ => rfl, by decide, Or.inl q3379⟩
theorem fl3380 : FL "TransportPairModel$Streams" 145 37 43 2 101 := ⟨_, rfl, by decide, rfl, fun _ => rfl, by decide, Or.inl q3380⟩
theorem ml4272 : ML "TransportPairModel" 141 y_mStreams_write := Or.inl q4272
theorem ml4296 : ML "TransportPairModel" 145 y_mStreams_finish := Or.inl q4296
theorem fl3355 : FL "TransportPairModel$Streams" 68 37 18 2 105 := ⟨_, rfl, by decide, rfl, fun _ => rfl, by decide, Or.inl q3355⟩
theorem fl3354 : FL "TransportPairModel$Streams" 65 37 17 2 103 := ⟨_, rfl, by decide, rfl, fun _ => rfl, by decide, Or.inl q3354⟩
theorem ml4308 : ML "TransportPairModel$Streams" 226 y_mStreams_isOpenSending := Or.inl q4308
theorem ml4312 : ML "TransportPairModel$Streams" 229 y_mStreams_doReset := Or.inl q4312
theorem ml4304 : ML "TransportPairModel" 149 y_mStreams_reset := Or.inl q4304
theorem ml4328 : ML "TransportPairModel$Streams" 193 y_mStreams_receives := Or.inl q4328
theorem fl3368 : FL "TransportPairModel$Streams" 107 37 31 2 103 := ⟨_, rfl, by decide, rfl, fun _ => rfl, by decide, Or.inl q3368⟩
theorem fl3366 : FL "TransportPairModel$Streams" 101 37 29 2 101 := ⟨_, rfl, by decide, rfl, fun _ => rfl, by decide, Or.inl q3366⟩
theorem fl3367 : FL "TransportPairModel$Streams" 104 37 30 2 101 := ⟨_, rfl, by decide, rfl, fun _ => rfl, by decide, Or.inl q3367⟩
theorem ml4324 : ML "TransportPairModel$Streams" 233 y_mStreams_hasReceiving := Or.inl q4324
theorem ml4331 : ML "TransportPairModel$Streams" 218 y_mStreams_receiving := Or.inl q4331
theorem fl3372 : FL "TransportPairModel$Streams" 119 37 35 2 103 := ⟨_, rfl, by decide, rfl, fun _ => rfl, by decide, Or.inl q3372⟩
theorem fl3373 : FL "TransportPairModel$Streams" 122 37 36 2 103 := ⟨_, rfl, by decide, rfl, fun _ => rfl, by decide, Or.inl q3373⟩
theorem fl3374 : FL "TransportPairModel$Streams" 125 37 37 2 105 := ⟨_, rfl, by decide, rfl, fun _ => rfl, by decide, Or.inl q3374⟩
theorem ml4320 : ML "TransportPairModel" 153 y_mStreams_stop := Or.inl q4320
theorem fl3383 : FL "TransportPairModel$Streams" 154 37 46 2 101 := ⟨_, rfl, by decide, rfl, fun _ => rfl, by decide, Or.inl q3383⟩
theorem fl3384 : FL "TransportPairModel$Streams" 157 37 47 2 101 := ⟨_, rfl, by decide, rfl, fun _ => rfl, by decide, Or.inl q3384⟩
theorem ml4351 : ML "TransportPairModel$Streams" 210 y_mStreams_consumed := Or.inl q4351
theorem fl3347 : FL "TransportPairModel$Streams" 44 37 10 2 103 := ⟨_, rfl, by decide, rfl, fun _ => rfl, by decide, Or.inl q3347⟩
theorem fl3371 : FL "TransportPairModel$Streams" 116 37 34 2 103 := ⟨_, rfl, by decide, rfl, fun _ => rfl, by decide, Or.inl q3371⟩
theorem fl3375 : FL "TransportPairModel$Streams" 128 37 38 2 103 := ⟨_, rfl, by decide, rfl, fun _ => rfl, by decide, Or.inl q3375⟩
theorem fl3344 : FL "TransportPairModel$Streams" 34 37 7 2 103 := ⟨_, rfl, by decide, rfl, fun _ => rfl, by decide, Or.inl q3344⟩
theorem ml4343 : ML "TransportPairModel$Streams" 207 y_mStreams_pieceAt := Or.inl q4343
theorem ml4347 : ML "TransportPairModel$Streams" 236 y_mStreams_growData := Or.inl q4347
theorem ml4357 : ML "TransportPairModel$Streams" 240 y_mStreams_growStream := Or.inl q4357
theorem ml4361 : ML "TransportPairModel$Streams" 243 y_mStreams_looksOver := Or.inl q4361
theorem fl3386 : FL "TransportPairModel$Streams" 164 37 49 2 102 := ⟨_, rfl, by decide, rfl, fun _ => rfl, by decide, Or.inl q3386⟩
theorem fl4034 : FL "TransportPairModel" 14 35 3 2 101 := ⟨_, rfl, by decide, rfl, fun _ => rfl, by decide, Or.inl q4034⟩
theorem ml4339 : ML "TransportPairModel" 156 y_mStreams_read := Or.inl q4339
theorem pl4035 : PL "TransportPairModel" 160 35 4 (.int) 0 := ⟨_, rfl, by decide, rfl, fun z => absurd z (by decide), by decide, Or.inl q4035, rfl⟩
theorem fl4035 : FL "TransportPairModel" 160 35 4 0 0 := ⟨_, rfl, by decide, rfl, fun z => absurd z (by decide), by decide, Or.inl q4035⟩
theorem fl3856 : FL "TransportPairModel$Side" 128 38 8 0 0 := ⟨_, rfl, by decide, rfl, fun z => absurd z (by decide), by decide, Or.inl q3856⟩
theorem fl3549 : FL "TransportPairModel$Book" 57 39 18 0 0 := ⟨_, rfl, by decide, rfl, fun z => absurd z (by decide), by decide, Or.inl q3549⟩
theorem fl3550 : FL "TransportPairModel$Book" 61 39 19 0 0 := ⟨_, rfl, by decide, rfl, fun z => absurd z (by decide), by decide, Or.inl q3550⟩
theorem ml4390 : ML "TransportPairModel$Book" 114 y_mBook_greater := Or.inl q4390
theorem ml4386 : ML "TransportPairModel$Side" 213 y_mBook_patience := Or.inl q4386
theorem pl3889 : PL "TransportPairModel$Side" 217 38 35 (.int) 0 := ⟨_, rfl, by decide, rfl, fun z => absurd z (by decide), by decide, Or.inl q3889, rfl⟩
theorem ml4381 : ML "TransportPairModel$Side" 220 y_mSide_isAlive := Or.inl q4381
theorem ml4382 : ML "TransportPairModel$Side" 224 y_mSide_end := Or.inl q4382
theorem pl3858 : PL "TransportPairModel$Side" 227 38 9 (.int) 0 := ⟨_, rfl, by decide, rfl, fun z => absurd z (by decide), by decide, Or.inl q3858, rfl⟩
theorem pl3890 : PL "TransportPairModel$Side" 230 38 36 (.boolean) 0 := ⟨_, rfl, by decide, rfl, fun z => absurd z (by decide), by decide, Or.inl q3890, rfl⟩
theorem pl3892 : PL "TransportPairModel$Side" 233 38 37 (.int) 0 := ⟨_, rfl, by decide, rfl, fun z => absurd z (by decide), by decide, Or.inl q3892, rfl⟩
theorem pl3893 : PL "TransportPairModel$Side" 236 38 38 (.int) 0 := ⟨_, rfl, by decide, rfl, fun z => absurd z (by decide), by decide, Or.inl q3893, rfl⟩
theorem pl3894 : PL "TransportPairModel$Side" 239 38 39 (.int) 0 := ⟨_, rfl, by decide, rfl, fun z => absurd z (by decide), by decide, Or.inl q3894, rfl⟩
theorem ml4373 : ML "TransportPairModel" 163 y_mSide_isAlive := Or.inl q4373
theorem ml4377 : ML "TransportPairModel" 167 y_mSide_closes := Or.inl q4377
theorem pl3900 : PL "TransportPairModel" 174 38 43 (.int) 0 := ⟨_, rfl, by decide, rfl, fun z => absurd z (by decide), by decide, Or.inr ⟨_, q3900⟩, rfl⟩
theorem fl3899 : FL "TransportPairModel" 171 38 42 2 101 := ⟨_, rfl, by decide, rfl, fun _ => rfl, by decide, Or.inr ⟨_, q3899⟩⟩
theorem fl4042 : FL "TransportPairModel" 44 35 11 2 101 := ⟨_, rfl, by decide, rfl, fun _ => rfl, by decide, Or.inl q4042⟩
theorem fl4047 : FL "TransportPairModel" 61 35 16 2 101 := ⟨_, rfl, by decide, rfl, fun _ => rfl, by decide, Or.inl q4047⟩
theorem fl4041 : FL "TransportPairModel" 41 35 10 2 101 := ⟨_, rfl, by decide, rfl, fun _ => rfl, by decide, Or.inl q4041⟩
theorem fl4048 : FL "TransportPairModel" 64 35 17 2 101 := ⟨_, rfl, by decide, rfl, fun _ => rfl, by decide, Or.inl q4048⟩
theorem fl4043 : FL "TransportPairModel" 47 35 12 2 103 := ⟨_, rfl, by decide, rfl, fun _ => rfl, by decide, Or.inl q4043⟩
theorem fl4044 : FL "TransportPairModel" 51 35 13 2 101 := ⟨_, rfl, by decide, rfl, fun _ => rfl, by decide, Or.inl q4044⟩
theorem fl4045 : FL "TransportPairModel" 54 35 14 2 101 := ⟨_, rfl, by decide, rfl, fun _ => rfl, by decide, Or.inl q4045⟩
theorem fl4046 : FL "TransportPairModel" 58 35 15 2 102 := ⟨_, rfl, by decide, rfl, fun _ => rfl, by decide, Or.inl q4046⟩
theorem ml4413 : ML "TransportPairModel" 177 y_mP_place := Or.inl q4413
theorem fl4049 : FL "TransportPairModel" 67 35 18 2 101 := ⟨_, rfl, by decide, rfl, fun _ => rfl, by decide, Or.inl q4049⟩
theorem pl3658 : PL "TransportPairModel$Wire" 15 40 0 (.array (.int)) 101 := ⟨_, rfl, by decide, rfl, fun _ => rfl, by decide, Or.inl q3658, rfl⟩
theorem pl3661 : PL "TransportPairModel$Wire" 19 40 1 (.int) 0 := ⟨_, rfl, by decide, rfl, fun z => absurd z (by decide), by decide, Or.inl q3661, rfl⟩
theorem pl3664 : PL "TransportPairModel$Wire" 23 40 2 (.int) 0 := ⟨_, rfl, by decide, rfl, fun z => absurd z (by decide), by decide, Or.inl q3664, rfl⟩
theorem pl3665 : PL "TransportPairModel$Wire" 26 40 3 (.boolean) 0 := ⟨_, rfl, by decide, rfl, fun z => absurd z (by decide), by decide, Or.inl q3665, rfl⟩
theorem fl3665 : FL "TransportPairModel$Wire" 26 40 3 0 0 := ⟨_, rfl, by decide, rfl, fun z => absurd z (by decide), by decide, Or.inl q3665⟩
theorem fl3664 : FL "TransportPairModel$Wire" 23 40 2 0 0 := ⟨_, rfl, by decide, rfl, fun z => absurd z (by decide), by decide, Or.inl q3664⟩
theorem fl3661 : FL "TransportPairModel$Wire" 19 40 1 0 0 := ⟨_, rfl, by decide, rfl, fun z => absurd z (by decide), by decide, Or.inl q3661⟩
theorem fl3658 : FL "TransportPairModel$Wire" 15 40 0 2 101 := ⟨_, rfl, by decide, rfl, fun _ => rfl, by decide, Or.inl q3658⟩
theorem fl4053 : FL "TransportPairModel" 79 35 22 2 41 := ⟨_, rfl, by decide, rfl, fun _ => rfl, by decide, Or.inl q4053⟩
theorem ml4433 : ML "TransportPairModel" 229 y_mWire_take := Or.inl q4433
theorem fl3667 : FL "TransportPairModel" 233 40 3 0 0 := ⟨_, rfl, by decide, rfl, fun z => absurd z (by decide), by decide, Or.inr ⟨_, q3667⟩⟩
theorem fl4050 : FL "TransportPairModel" 70 35 19 2 101 := ⟨_, rfl, by decide, rfl, fun _ => rfl, by decide, Or.inl q4050⟩
theorem ml4438 : ML "TransportPairModel" 238 y_mWire_pass := Or.inl q4438
theorem ml4451 : ML "TransportPairModel$Wire" 36 y_mWire_take := Or.inl q4451
theorem ml4429 : ML "TransportPairModel" 225 y_mWire_look := Or.inl q4429
theorem ml4443 : ML "TransportPairModel" 247 y_mP_readsName := Or.inl q4443
theorem ml4447 : ML "TransportPairModel" 250 y_mWire_takeNumber := Or.inl q4447
theorem fl3663 : FL "TransportPairModel" 242 40 1 0 0 := ⟨_, rfl, by decide, rfl, fun z => absurd z (by decide), by decide, Or.inr ⟨_, q3663⟩⟩
theorem fl4052 : FL "TransportPairModel" 254 35 21 0 0 := ⟨_, rfl, by decide, rfl, fun z => absurd z (by decide), by decide, Or.inl q4052⟩
theorem fl4051 : FL "TransportPairModel" 73 35 20 2 101 := ⟨_, rfl, by decide, rfl, fun _ => rfl, by decide, Or.inl q4051⟩
theorem fl3269 : FL "TransportPairModel$Seals" 56 36 17 2 105 := ⟨_, rfl, by decide, rfl, fun _ => rfl, by decide, Or.inl q3269⟩
theorem ml4488 : ML "TransportPairModel$Seals" 161 y_mSeals_left := Or.inl q4488
theorem ml4484 : ML "TransportPairModel$Seals" 164 y_mSeals_half := Or.inl q4484
theorem fl3270 : FL "TransportPairModel$Seals" 59 36 18 2 105 := ⟨_, rfl, by decide, rfl, fun _ => rfl, by decide, Or.inl q3270⟩
theorem fl3267 : FL "TransportPairModel$Seals" 50 36 15 2 101 := ⟨_, rfl, by decide, rfl, fun _ => rfl, by decide, Or.inl q3267⟩
theorem ml4469 : ML "TransportPairModel$Seals" 176 y_mSeals_wordOf := Or.inl q4469
theorem fl3268 : FL "TransportPairModel$Seals" 53 36 16 2 101 := ⟨_, rfl, by decide, rfl, fun _ => rfl, by decide, Or.inl q3268⟩
theorem ml4480 : ML "TransportPairModel$Seals" 180 y_mSeals_mix := Or.inl q4480
theorem fl3271 : FL "TransportPairModel$Seals" 62 36 19 2 101 := ⟨_, rfl, by decide, rfl, fun _ => rfl, by decide, Or.inl q3271⟩
theorem ml4472 : ML "TransportPairModel$Seals" 186 y_mSeals_blockOf := Or.inl q4472
theorem fl3276 : FL "TransportPairModel$Seals" 77 36 24 2 101 := ⟨_, rfl, by decide, rfl, fun _ => rfl, by decide, Or.inl q3276⟩
theorem fl3274 : FL "TransportPairModel$Seals" 71 36 22 2 101 := ⟨_, rfl, by decide, rfl, fun _ => rfl, by decide, Or.inl q3274⟩
theorem fl3272 : FL "TransportPairModel$Seals" 65 36 20 2 101 := ⟨_, rfl, by decide, rfl, fun _ => rfl, by decide, Or.inl q3272⟩
theorem fl3273 : FL "TransportPairModel$Seals" 68 36 21 2 101 := ⟨_, rfl, by decide, rfl, fun _ => rfl, by decide, Or.inl q3273⟩
theorem fl3275 : FL "TransportPairModel$Seals" 74 36 23 2 101 := ⟨_, rfl, by decide, rfl, fun _ => rfl, by decide, Or.inl q3275⟩
theorem ml4516 : ML "TransportPairModel$Seals" 183 y_mSeals_multiply := Or.inl q4516
theorem ml4508 : ML "TransportPairModel$Seals" 190 y_mSeals_fill := Or.inl q4508
theorem ml4512 : ML "TransportPairModel$Seals" 193 y_mSeals_tallyOf := Or.inl q4512
theorem ml4500 : ML "TransportPairModel$Seals" 196 y_mSeals_nonceOf := Or.inl q4500
theorem ml4504 : ML "TransportPairModel$Seals" 203 y_mSeals_tagOf := Or.inl q4504
theorem ml4520 : ML "TransportPairModel$Seals" 200 y_mSeals_change := Or.inl q4520
theorem fl3905 : FL "TransportPairModel$Side" 84 38 46 2 101 := ⟨_, rfl, by decide, rfl, fun _ => rfl, by decide, Or.inl q3905⟩
theorem ml4465 : ML "TransportPairModel$Side" 254 y_mSeals_shield := Or.inl q4465
theorem ml4492 : ML "TransportPairModel$Side" 262 y_mSide_grown := Or.inl q4492
theorem ml4496 : ML "TransportPairModel$Side" 270 y_mSeals_open := Or.inl q4496
theorem fl3541 : FL "TransportPairModel$Side" 131 39 11 2 103 := ⟨_, rfl, by decide, rfl, fun _ => rfl, by decide, Or.inr ⟨_, q3541⟩⟩
theorem fl3565 : FL "TransportPairModel$Book" 86 39 30 2 101 := ⟨_, rfl, by decide, rfl, fun _ => rfl, by decide, Or.inl q3565⟩
theorem fl3568 : FL "TransportPairModel$Book" 92 39 32 2 105 := ⟨_, rfl, by decide, rfl, fun _ => rfl, by decide, Or.inl q3568⟩
theorem fl3569 : FL "TransportPairModel$Book" 95 39 33 2 105 := ⟨_, rfl, by decide, rfl, fun _ => rfl, by decide, Or.inl q3569⟩
theorem fl3567 : FL "TransportPairModel$Book" 89 39 31 2 105 := ⟨_, rfl, by decide, rfl, fun _ => rfl, by decide, Or.inl q3567⟩
theorem fl3540 : FL "TransportPairModel$Book" 38 39 11 2 103 := ⟨_, rfl, by decide, rfl, fun _ => rfl, by decide, Or.inl q3540⟩
theorem fl3548 : FL "TransportPairModel$Book" 54 39 17 2 101 := ⟨_, rfl, by decide, rfl, fun _ => rfl, by decide, Or.inl q3548⟩
theorem fl3547 : FL "TransportPairModel$Book" 51 39 16 2 101 := ⟨_, rfl, by decide, rfl, fun _ => rfl, by decide, Or.inl q3547⟩
theorem fl3571 : FL "TransportPairModel$Book" 101 39 35 2 101 := ⟨_, rfl, by decide, rfl, fun _ => rfl, by decide, Or.inl q3571⟩
theorem fl3574 : FL "TransportPairModel$Book" 107 39 37 2 103 := ⟨_, rfl, by decide, rfl, fun _ => rfl, by decide, Or.inl q3574⟩
theorem pl3554 : PL "TransportPairModel$Book" 129 39 23 (.int) 0 := ⟨_, rfl, by decide, rfl, fun z => absurd z (by decide), by decide, Or.inl q3554, rfl⟩
theorem ml4550 : ML "TransportPairModel$Side" 134 y_mBook_discard := Or.inl q4550
theorem fl3887 : FL "TransportPairModel$Side" 68 38 34 2 101 := ⟨_, rfl, by decide, rfl, fun _ => rfl, by decide, Or.inl q3887⟩
theorem ml4545 : ML "TransportPairModel$Side" 290 y_mSide_begin := Or.inl q4545
theorem fl3868 : FL "TransportPairModel$Side" 293 38 15 0 0 := ⟨_, rfl, by decide, rfl, fun z => absurd z (by decide), by decide, Or.inl q3868⟩
theorem pl3868 : PL "TransportPairModel$Side" 293 38 15 (.boolean) 0 := ⟨_, rfl, by decide, rfl, fun z => absurd z (by decide), by decide, Or.inl q3868, rfl⟩
theorem pl3860 : PL "TransportPairModel$Side" 296 38 10 (.boolean) 0 := ⟨_, rfl, by decide, rfl, fun z => absurd z (by decide), by decide, Or.inl q3860, rfl⟩
theorem ml4546 : ML "TransportPairModel$Side" 299 y_mSide_discard := Or.inl q4546
theorem fl3867 : FL "TransportPairModel$Side" 205 38 14 0 0 := ⟨_, rfl, by decide, rfl, fun z => absurd z (by decide), by decide, Or.inl q3867⟩
theorem fl3671 : FL "TransportPairModel$Wire" 9 40 5 2 105 := ⟨_, rfl, by decide, rfl, fun _ => rfl, by decide, Or.inl q3671⟩
theorem ml4572 : ML "TransportPairModel$Wire" 56 y_mWire_takeNumber := Or.inl q4572
theorem pl3682 : PL "TransportPairModel$Wire" 64 40 9 (.int) 0 := ⟨_, rfl, by decide, rfl, fun z => absurd z (by decide), by decide, Or.inl q3682, rfl⟩
theorem pl3680 : PL "TransportPairModel$Wire" 67 40 8 (.int) 0 := ⟨_, rfl, by decide, rfl, fun z => absurd z (by decide), by decide, Or.inl q3680, rfl⟩
theorem ml4581 : ML "TransportPairModel$Wire" 42 y_mWire_pass := Or.inl q4581
theorem pl3674 : PL "TransportPairModel$Wire" 46 40 6 (.int) 0 := ⟨_, rfl, by decide, rfl, fun z => absurd z (by decide), by decide, Or.inl q3674, rfl⟩
theorem pl3677 : PL "TransportPairModel$Wire" 49 40 7 (.int) 0 := ⟨_, rfl, by decide, rfl, fun z => absurd z (by decide), by decide, Or.inl q3677, rfl⟩
theorem ml4577 : ML "TransportPairModel$Wire" 60 y_mWire_takeData := Or.inl q4577
theorem ml4586 : ML "TransportPairModel$Wire" 52 y_mWire_fields := Or.inl q4586
theorem fl3668 : FL "TransportPairModel$Wire" 70 40 4 0 0 := ⟨_, rfl, by decide, rfl, fun z => absurd z (by decide), by decide, Or.inl q3668⟩
theorem ml4582 : ML "TransportPairModel$Wire" 80 y_mWire_takeFields := Or.inl q4582
theorem ml4573 : ML "TransportPairModel$Wire" 77 y_mWire_takeStream := Or.inl q4573
theorem ml4568 : ML "TransportPairModel$Wire" 73 y_mWire_takeAck := Or.inl q4568
theorem fl3682 : FL "TransportPairModel$Wire" 64 40 9 0 0 := ⟨_, rfl, by decide, rfl, fun z => absurd z (by decide), by decide, Or.inl q3682⟩
theorem fl3677 : FL "TransportPairModel$Wire" 49 40 7 0 0 := ⟨_, rfl, by decide, rfl, fun z => absurd z (by decide), by decide, Or.inl q3677⟩
theorem fl3680 : FL "TransportPairModel$Wire" 67 40 8 0 0 := ⟨_, rfl, by decide, rfl, fun z => absurd z (by decide), by decide, Or.inl q3680⟩
theorem ml4594 : ML "TransportPairModel$Wire" 89 y_mWire_edge := Or.inl q4594
theorem pl3668 : PL "TransportPairModel$Wire" 70 40 4 (.int) 0 := ⟨_, rfl, by decide, rfl, fun z => absurd z (by decide), by decide, Or.inl q3668, rfl⟩
theorem ml4564 : ML "TransportPairModel$Wire" 95 y_mWire_takeRest := Or.inl q4564
theorem ml4590 : ML "TransportPairModel$Wire" 98 y_mWire_isRight := Or.inl q4590
theorem fl3535 : FL "TransportPairModel$Book" 21 39 6 2 102 := ⟨_, rfl, by decide, rfl, fun _ => rfl, by decide, Or.inl q3535⟩
theorem fl3559 : FL "TransportPairModel$Book" 156 39 27 0 0 := ⟨_, rfl, by decide, rfl, fun z => absurd z (by decide), by decide, Or.inl q3559⟩
theorem ml4619 : ML "TransportPairModel$Book" 110 y_mBook_isOut := Or.inl q4619
theorem fl3561 : FL "TransportPairModel$Book" 79 39 28 2 105 := ⟨_, rfl, by decide, rfl, fun _ => rfl, by decide, Or.inl q3561⟩
theorem fl3563 : FL "TransportPairModel$Book" 83 39 29 2 105 := ⟨_, rfl, by decide, rfl, fun _ => rfl, by decide, Or.inl q3563⟩
theorem pl3551 : PL "TransportPairModel$Book" 118 39 20 (.int) 0 := ⟨_, rfl, by decide, rfl, fun z => absurd z (by decide), by decide, Or.inl q3551, rfl⟩
theorem fl3552 : FL "TransportPairModel$Book" 64 39 21 0 0 := ⟨_, rfl, by decide, rfl, fun z => absurd z (by decide), by decide, Or.inl q3552⟩
theorem fl3553 : FL "TransportPairModel$Book" 67 39 22 0 0 := ⟨_, rfl, by decide, rfl, fun z => absurd z (by decide), by decide, Or.inl q3553⟩
theorem fl3525 : FL "TransportPairModel$Book" 146 39 0 0 0 := ⟨_, rfl, by decide, rfl, fun z => absurd z (by decide), by decide, Or.inl q3525⟩
theorem fl3546 : FL "TransportPairModel$Book" 47 39 15 2 104 := ⟨_, rfl, by decide, rfl, fun _ => rfl, by decide, Or.inl q3546⟩
theorem fl3539 : FL "TransportPairModel$Book" 35 39 10 2 101 := ⟨_, rfl, by decide, rfl, fun _ => rfl, by decide, Or.inl q3539⟩
theorem fl3531 : FL "TransportPairModel$Book" 9 39 3 2 101 := ⟨_, rfl, by decide, rfl, fun _ => rfl, by decide, Or.inl q3531⟩
theorem fl3558 : FL "TransportPairModel$Book" 76 39 26 0 0 := ⟨_, rfl, by decide, rfl, fun z => absurd z (by decide), by decide, Or.inl q3558⟩
theorem fl3534 : FL "TransportPairModel$Book" 18 39 5 2 101 := ⟨_, rfl, by decide, rfl, fun _ => rfl, by decide, Or.inl q3534⟩
theorem fl3537 : FL "TransportPairModel$Book" 29 39 8 2 103 := ⟨_, rfl, by decide, rfl, fun _ => rfl, by decide, Or.inl q3537⟩
theorem fl3538 : FL "TransportPairModel$Book" 32 39 9 2 103 := ⟨_, rfl, by decide, rfl, fun _ => rfl, by decide, Or.inl q3538⟩
theorem ml4635 : ML "TransportPairModel$Book" 152 y_mBook_isBehindRecovery := Or.inl q4635
theorem fl3555 : FL "TransportPairModel$Book" 70 39 24 0 0 := ⟨_, rfl, by decide, rfl, fun z => absurd z (by decide), by decide, Or.inl q3555⟩
theorem fl3557 : FL "TransportPairModel$Book" 73 39 25 0 0 := ⟨_, rfl, by decide, rfl, fun z => absurd z (by decide), by decide, Or.inl q3557⟩
theorem fl3533 : FL "TransportPairModel$Book" 15 39 4 2 101 := ⟨_, rfl, by decide, rfl, fun _ => rfl, by decide, Or.inl q3533⟩
theorem fl3551 : FL "TransportPairModel$Book" 118 39 20 0 0 := ⟨_, rfl, by decide, rfl, fun z => absurd z (by decide), by decide, Or.inl q3551⟩
theorem fl3536 : FL "TransportPairModel$Book" 25 39 7 2 103 := ⟨_, rfl, by decide, rfl, fun _ => rfl, by decide, Or.inl q3536⟩
theorem ml4651 : ML "TransportPairModel$Book" 125 y_mBook_patience := Or.inl q4651
theorem ml4643 : ML "TransportPairModel$Book" 177 y_mBook_limit := Or.inl q4643
theorem ml4647 : ML "TransportPairModel$Book" 180 y_mBook_persists := Or.inl q4647
theorem ml4627 : ML "TransportPairModel$Book" 166 y_mBook_find := Or.inl q4627
theorem ml4615 : ML "TransportPairModel$Book" 159 y_mBook_isNew := Or.inl q4615
theorem ml4639 : ML "TransportPairModel$Book" 174 y_mBook_losses := Or.inl q4639
theorem ml4631 : ML "TransportPairModel$Book" 170 y_mBook_grow := Or.inl q4631
theorem ml4623 : ML "TransportPairModel$Book" 162 y_mBook_sample := Or.inl q4623
theorem fl3881 : FL "TransportPairModel$Side" 61 38 28 2 102 := ⟨_, rfl, by decide, rfl, fun _ => rfl, by decide, Or.inl q3881⟩
theorem fl3884 : FL "TransportPairModel$Side" 419 38 31 0 0 := ⟨_, rfl, by decide, rfl, fun z => absurd z (by decide), by decide, Or.inl q3884⟩
theorem pl3884 : PL "TransportPairModel$Side" 419 38 31 (.boolean) 0 := ⟨_, rfl, by decide, rfl, fun z => absurd z (by decide), by decide, Or.inl q3884, rfl⟩
theorem fl3883 : FL "TransportPairModel$Side" 422 38 30 0 0 := ⟨_, rfl, by decide, rfl, fun z => absurd z (by decide), by decide, Or.inl q3883⟩
theorem pl3883 : PL "TransportPairModel$Side" 422 38 30 (.boolean) 0 := ⟨_, rfl, by decide, rfl, fun z => absurd z (by decide), by decide, Or.inl q3883, rfl⟩
theorem fl3363 : FL "TransportPairModel$Streams" 92 37 26 2 101 := ⟨_, rfl, by decide, rfl, fun _ => rfl, by decide, Or.inl q3363⟩
theorem ml4681 : ML "TransportPairModel$Streams" 338 y_mStreams_remark := Or.inl q4681
theorem ml4677 : ML "TransportPairModel$Streams" 368 y_mStreams_goneStream := Or.inl q4677
theorem fl3903 : FL "TransportPairModel$Side" 80 38 45 2 119 := ⟨_, rfl, by decide, rfl, fun _ => rfl, by decide, Or.inl q3903⟩
theorem fl3532 : FL "TransportPairModel$Side" 387 39 3 2 101 := ⟨_, rfl, by decide, rfl, fun _ => rfl, by decide, Or.inr ⟨_, q3532⟩⟩
theorem fl3712 : FL "TransportPairModel$Side" 390 41 0 0 0 := ⟨_, rfl, by decide, rfl, fun z => absurd z (by decide), by decide, Or.inr ⟨_, q3712⟩⟩
theorem fl3902 : FL "TransportPairModel$Side" 74 38 44 2 101 := ⟨_, rfl, by decide, rfl, fun _ => rfl, by decide, Or.inl q3902⟩
theorem fl3715 : FL "TransportPairModel$Side" 393 41 1 2 102 := ⟨_, rfl, by decide, rfl, fun _ => rfl, by decide, Or.inr ⟨_, q3715⟩⟩
theorem fl3847 : FL "TransportPairModel$Side" 115 38 2 2 38 := ⟨_, rfl, by decide, rfl, fun _ => rfl, by decide, Or.inl q3847⟩
theorem fl3719 : FL "TransportPairModel$Side" 409 41 3 2 105 := ⟨_, rfl, by decide, rfl, fun _ => rfl, by decide, Or.inr ⟨_, q3719⟩⟩
theorem fl3721 : FL "TransportPairModel$Side" 395 41 4 2 105 := ⟨_, rfl, by decide, rfl, fun _ => rfl, by decide, Or.inr ⟨_, q3721⟩⟩
theorem fl3717 : FL "TransportPairModel$Side" 398 41 2 2 101 := ⟨_, rfl, by decide, rfl, fun _ => rfl, by decide, Or.inr ⟨_, q3717⟩⟩
theorem fl3723 : FL "TransportPairModel$Side" 412 41 5 2 102 := ⟨_, rfl, by decide, rfl, fun _ => rfl, by decide, Or.inr ⟨_, q3723⟩⟩
theorem ml4672 : ML "TransportPairModel$Side" 415 y_mStreams_gone := Or.inl q4672
theorem ml4668 : ML "TransportPairModel$Side" 405 y_mSide_tellDone := Or.inl q4668
theorem ml4664 : ML "TransportPairModel$Side" 401 y_mSide_tellCrypto := Or.inl q4664
theorem ml4656 : ML "TransportPairModel$Side" 379 y_mBook_next := Or.inl q4656
theorem ml4660 : ML "TransportPairModel$Side" 383 y_mSide_tellPacket := Or.inl q4660
theorem fl3874 : FL "TransportPairModel$Side" 42 38 21 2 41 := ⟨_, rfl, by decide, rfl, fun _ => rfl, by decide, Or.inl q3874⟩
theorem fl3681 : FL "TransportPairModel$Side" 354 40 8 0 0 := ⟨_, rfl, by decide, rfl, fun z => absurd z (by decide), by decide, Or.inr ⟨_, q3681⟩⟩
theorem pl3560 : PL "TransportPairModel$Side" 367 39 27 (.int) 0 := ⟨_, rfl, by decide, rfl, fun z => absurd z (by decide), by decide, Or.inr ⟨_, q3560⟩, rfl⟩
theorem fl3672 : FL "TransportPairModel$Side" 324 40 5 2 105 := ⟨_, rfl, by decide, rfl, fun _ => rfl, by decide, Or.inr ⟨_, q3672⟩⟩
theorem fl3562 : FL "TransportPairModel$Side" 357 39 28 2 105 := ⟨_, rfl, by decide, rfl, fun _ => rfl, by decide, Or.inr ⟨_, q3562⟩⟩
theorem ml4609 : ML "TransportPairModel$Side" 360 y_mWire_edge := Or.inl q4609
theorem fl3564 : FL "TransportPairModel$Side" 364 39 29 2 105 := ⟨_, rfl, by decide, rfl, fun _ => rfl, by decide, Or.inr ⟨_, q3564⟩⟩
theorem ml4611 : ML "TransportPairModel$Side" 372 y_mBook_acknowledge := Or.inl q4611
theorem ml4652 : ML "TransportPairModel$Side" 376 y_mSide_tellFound := Or.inl q4652
theorem fl3782 : FL "TransportPairModel$Greet" 30 43 12 2 101 := ⟨_, rfl, by decide, rfl, fun _ => rfl, by decide, Or.inl q3782⟩
theorem fl3772 : FL "TransportPairModel$Greet" 95 43 6 0 0 := ⟨_, rfl, by decide, rfl, fun z => absurd z (by decide), by decide, Or.inl q3772⟩
theorem fl3781 : FL "TransportPairModel$Greet" 27 43 11 2 101 := ⟨_, rfl, by decide, rfl, fun _ => rfl, by decide, Or.inl q3781⟩
theorem ml4702 : ML "TransportPairModel$Greet" 102 y_mGreet_isSize := Or.inl q4702
theorem fl3795 : FL "TransportPairModel$Greet" 52 43 20 2 101 := ⟨_, rfl, by decide, rfl, fun _ => rfl, by decide, Or.inl q3795⟩
theorem ml4713 : ML "TransportPairModel$Greet" 81 y_mSeals_digest := Or.inl q4713
theorem fl3789 : FL "TransportPairModel$Greet" 43 43 17 2 101 := ⟨_, rfl, by decide, rfl, fun _ => rfl, by decide, Or.inl q3789⟩
theorem fl3783 : FL "TransportPairModel$Greet" 33 43 13 2 101 := ⟨_, rfl, by decide, rfl, fun _ => rfl, by decide, Or.inl q3783⟩
theorem fl3763 : FL "TransportPairModel$Greet" 9 43 2 2 101 := ⟨_, rfl, by decide, rfl, fun _ => rfl, by decide, Or.inl q3763⟩
theorem fl3794 : FL "TransportPairModel$Greet" 49 43 19 2 101 := ⟨_, rfl, by decide, rfl, fun _ => rfl, by decide, Or.inl q3794⟩
theorem ml4709 : ML "TransportPairModel$Greet" 106 y_mGreet_prove := Or.inl q4709
theorem pl3774 : PL "TransportPairModel$Greet" 118 43 7 (.boolean) 0 := ⟨_, rfl, by decide, rfl, fun z => absurd z (by decide), by decide, Or.inl q3774, rfl⟩
theorem ml4725 : ML "TransportPairModel$Greet" 115 y_mGreet_talks := Or.inl q4725
theorem ml4717 : ML "TransportPairModel$Greet" 109 y_mGreet_keepTheirs := Or.inl q4717
theorem ml4721 : ML "TransportPairModel$Greet" 112 y_mGreet_greets := Or.inl q4721
theorem ml4698 : ML "TransportPairModel$Greet" 122 y_mGreet_lookAt := Or.inl q4698
theorem pl3776 : PL "TransportPairModel$Greet" 130 43 8 (.int) 0 := ⟨_, rfl, by decide, rfl, fun z => absurd z (by decide), by decide, Or.inl q3776, rfl⟩
theorem ml4705 : ML "TransportPairModel$Greet" 126 y_mGreet_done := Or.inl q4705
theorem ml4694 : ML "TransportPairModel$Greet" 133 y_mGreet_works := Or.inl q4694
theorem ml4733 : ML "TransportPairModel$Side" 449 y_mSide_hasBytes := Or.inl q4733
theorem fl3784 : FL "TransportPairModel$Side" 452 43 13 2 101 := ⟨_, rfl, by decide, rfl, fun _ => rfl, by decide, Or.inr ⟨_, q3784⟩⟩
theorem ml4559 : ML "TransportPairModel$Side" 300 y_mWire_look := Or.inl q4559
theorem ml4740 : ML "TransportPairModel$Side" 454 y_mWire_takeNumber := Or.inl q4740
theorem fl3875 : FL "TransportPairModel$Side" 46 38 22 2 105 := ⟨_, rfl, by decide, rfl, fun _ => rfl, by decide, Or.inl q3875⟩
theorem fl3666 : FL "TransportPairModel$Side" 458 40 3 0 0 := ⟨_, rfl, by decide, rfl, fun z => absurd z (by decide), by decide, Or.inr ⟨_, q3666⟩⟩
theorem fl3662 : FL "TransportPairModel$Side" 304 40 1 0 0 := ⟨_, rfl, by decide, rfl, fun z => absurd z (by decide), by decide, Or.inr ⟨_, q3662⟩⟩
theorem fl3786 : FL "TransportPairModel$Side" 437 43 14 0 0 := ⟨_, rfl, by decide, rfl, fun z => absurd z (by decide), by decide, Or.inr ⟨_, q3786⟩⟩
theorem ml4741 : ML "TransportPairModel$Side" 466 y_mWire_pass := Or.inl q4741
theorem ml4743 : ML "TransportPairModel$Side" 471 y_mSide_suits := Or.inl q4743
theorem fl3876 : FL "TransportPairModel$Side" 49 38 23 2 101 := ⟨_, rfl, by decide, rfl, fun _ => rfl, by decide, Or.inl q3876⟩
theorem ml4736 : ML "TransportPairModel$Side" 475 y_mSide_readsParameters := Or.inl q4736
theorem ml4524 : ML "TransportPairModel$Side" 246 y_mSide_isName := Or.inl q4524
theorem ml4751 : ML "TransportPairModel$Side" 481 y_mStreams_know := Or.inl q4751
theorem pl3527 : PL "TransportPairModel$Side" 351 39 1 (.boolean) 0 := ⟨_, rfl, by decide, rfl, fun z => absurd z (by decide), by decide, Or.inr ⟨_, q3527⟩, rfl⟩
theorem fl3678 : FL "TransportPairModel$Side" 327 40 7 0 0 := ⟨_, rfl, by decide, rfl, fun z => absurd z (by decide), by decide, Or.inr ⟨_, q3678⟩⟩
theorem fl3880 : FL "TransportPairModel$Side" 58 38 27 2 101 := ⟨_, rfl, by decide, rfl, fun _ => rfl, by decide, Or.inl q3880⟩
theorem fl3878 : FL "TransportPairModel$Side" 52 38 25 2 101 := ⟨_, rfl, by decide, rfl, fun _ => rfl, by decide, Or.inl q3878⟩
theorem fl3659 : FL "TransportPairModel$Side" 427 40 0 2 101 := ⟨_, rfl, by decide, rfl, fun _ => rfl, by decide, Or.inr ⟨_, q3659⟩⟩
theorem fl3675 : FL "TransportPairModel$Side" 430 40 6 0 0 := ⟨_, rfl, by decide, rfl, fun z => absurd z (by decide), by decide, Or.inr ⟨_, q3675⟩⟩
theorem fl3879 : FL "TransportPairModel$Side" 55 38 26 2 103 := ⟨_, rfl, by decide, rfl, fun _ => rfl, by decide, Or.inl q3879⟩
theorem ml4690 : ML "TransportPairModel$Side" 433 y_mGreet_take := Or.inl q4690
theorem fl3877 : FL "TransportPairModel$Side" 440 38 24 0 0 := ⟨_, rfl, by decide, rfl, fun z => absurd z (by decide), by decide, Or.inl q3877⟩
theorem ml4729 : ML "TransportPairModel$Side" 443 y_mSide_readParameters := Or.inl q4729
theorem pl3877 : PL "TransportPairModel$Side" 440 38 24 (.boolean) 0 := ⟨_, rfl, by decide, rfl, fun z => absurd z (by decide), by decide, Or.inl q3877, rfl⟩
theorem fl3775 : FL "TransportPairModel$Side" 446 43 7 0 0 := ⟨_, rfl, by decide, rfl, fun z => absurd z (by decide), by decide, Or.inr ⟨_, q3775⟩⟩
theorem ml4756 : ML "TransportPairModel$Side" 342 y_mSide_confirm := Or.inl q4756
theorem fl3364 : FL "TransportPairModel$Streams" 95 37 27 2 105 := ⟨_, rfl, by decide, rfl, fun _ => rfl, by decide, Or.inl q3364⟩
theorem ml4778 : ML "TransportPairModel$Streams" 250 y_mStreams_received := Or.inl q4778
theorem fl3342 : FL "TransportPairModel$Streams" 28 37 5 2 101 := ⟨_, rfl, by decide, rfl, fun _ => rfl, by decide, Or.inl q3342⟩
theorem fl3382 : FL "TransportPairModel$Streams" 151 37 45 2 101 := ⟨_, rfl, by decide, rfl, fun _ => rfl, by decide, Or.inl q3382⟩
theorem fl3385 : FL "TransportPairModel$Streams" 160 37 48 2 105 := ⟨_, rfl, by decide, rfl, fun _ => rfl, by decide, Or.inl q3385⟩
theorem fl3389 : FL "TransportPairModel$Streams" 253 37 51 1 0 := ⟨_, rfl, by decide, rfl, fun z => absurd z (by decide), by decide, Or.inl q3389⟩
theorem ml4769 : ML "TransportPairModel$Streams" 257 y_mStreams_meant := Or.inl q4769
theorem fl3391 : FL "TransportPairModel$Streams" 261 37 52 1 0 := ⟨_, rfl, by decide, rfl, fun z => absurd z (by decide), by decide, Or.inl q3391⟩
theorem fl3395 : FL "TransportPairModel$Streams" 264 37 54 0 0 := ⟨_, rfl, by decide, rfl, fun z => absurd z (by decide), by decide, Or.inl q3395⟩
theorem fl3393 : FL "TransportPairModel$Streams" 268 37 53 1 0 := ⟨_, rfl, by decide, rfl, fun z => absurd z (by decide), by decide, Or.inl q3393⟩
theorem ml4774 : ML "TransportPairModel$Streams" 271 y_mStreams_reaches := Or.inl q4774
theorem ml4782 : ML "TransportPairModel$Streams" 275 y_mStreams_comesThere := Or.inl q4782
theorem ml4786 : ML "TransportPairModel$Streams" 278 y_mStreams_greater := Or.inl q4786
theorem ml4789 : ML "TransportPairModel$Streams" 282 y_mStreams_comes := Or.inl q4789
theorem ml4793 : ML "TransportPairModel$Streams" 286 y_mStreams_makeReady := Or.inl q4793
theorem fl3369 : FL "TransportPairModel$Streams" 110 37 32 2 105 := ⟨_, rfl, by decide, rfl, fun _ => rfl, by decide, Or.inl q3369⟩
theorem fl3387 : FL "TransportPairModel$Streams" 289 37 50 0 0 := ⟨_, rfl, by decide, rfl, fun z => absurd z (by decide), by decide, Or.inl q3387⟩
theorem fl3670 : FL "TransportPairModel$Streams" 292 40 4 0 0 := ⟨_, rfl, by decide, rfl, fun z => absurd z (by decide), by decide, Or.inr ⟨_, q3670⟩⟩
theorem pl3387 : PL "TransportPairModel$Streams" 289 37 50 (.int) 0 := ⟨_, rfl, by decide, rfl, fun z => absurd z (by decide), by decide, Or.inl q3387, rfl⟩
theorem fl3673 : FL "TransportPairModel$Streams" 295 40 5 2 105 := ⟨_, rfl, by decide, rfl, fun _ => rfl, by decide, Or.inr ⟨_, q3673⟩⟩
theorem pl3389 : PL "TransportPairModel$Streams" 253 37 51 (.long) 0 := ⟨_, rfl, by decide, rfl, fun z => absurd z (by decide), by decide, Or.inl q3389, rfl⟩
theorem pl3391 : PL "TransportPairModel$Streams" 261 37 52 (.long) 0 := ⟨_, rfl, by decide, rfl, fun z => absurd z (by decide), by decide, Or.inl q3391, rfl⟩
theorem pl3393 : PL "TransportPairModel$Streams" 268 37 53 (.long) 0 := ⟨_, rfl, by decide, rfl, fun z => absurd z (by decide), by decide, Or.inl q3393, rfl⟩
theorem fl3679 : FL "TransportPairModel$Streams" 298 40 7 0 0 := ⟨_, rfl, by decide, rfl, fun z => absurd z (by decide), by decide, Or.inr ⟨_, q3679⟩⟩
theorem pl3395 : PL "TransportPairModel$Streams" 264 37 54 (.int) 0 := ⟨_, rfl, by decide, rfl, fun z => absurd z (by decide), by decide, Or.inl q3395, rfl⟩
theorem ml4797 : ML "TransportPairModel$Streams" 311 y_mStreams_takeReset := Or.inl q4797
theorem fl3660 : FL "TransportPairModel$Streams" 301 40 0 2 101 := ⟨_, rfl, by decide, rfl, fun _ => rfl, by decide, Or.inr ⟨_, q3660⟩⟩
theorem fl3676 : FL "TransportPairModel$Streams" 304 40 6 0 0 := ⟨_, rfl, by decide, rfl, fun z => absurd z (by decide), by decide, Or.inr ⟨_, q3676⟩⟩
theorem ml4765 : ML "TransportPairModel$Streams" 307 y_mStreams_takeStream := Or.inl q4765
theorem ml4801 : ML "TransportPairModel$Streams" 314 y_mStreams_takeOther := Or.inl q4801
theorem fl3669 : FL "TransportPairModel$Side" 311 40 4 0 0 := ⟨_, rfl, by decide, rfl, fun z => absurd z (by decide), by decide, Or.inr ⟨_, q3669⟩⟩
theorem ml4685 : ML "TransportPairModel$Side" 330 y_mSide_cryptoComes := Or.inl q4685
theorem pl3885 : PL "TransportPairModel$Side" 333 38 32 (.boolean) 0 := ⟨_, rfl, by decide, rfl, fun z => absurd z (by decide), by decide, Or.inl q3885, rfl⟩
theorem pl3886 : PL "TransportPairModel$Side" 336 38 33 (.long) 0 := ⟨_, rfl, by decide, rfl, fun z => absurd z (by decide), by decide, Or.inl q3886, rfl⟩
theorem ml4605 : ML "TransportPairModel$Side" 321 y_mSide_acknowledged := Or.inl q4605
theorem ml4761 : ML "TransportPairModel$Side" 345 y_mStreams_takes := Or.inl q4761
theorem ml4815 : ML "TransportPairModel$Book" 188 y_mBook_takeOut := Or.inl q4815
theorem ml4809 : ML "TransportPairModel$Book" 191 y_mBook_isOld := Or.inl q4809
theorem ml4810 : ML "TransportPairModel$Book" 195 y_mBook_greatest := Or.inl q4810
theorem fl3570 : FL "TransportPairModel$Book" 98 39 34 2 101 := ⟨_, rfl, by decide, rfl, fun _ => rfl, by decide, Or.inl q3570⟩
theorem ml4811 : ML "TransportPairModel$Book" 199 y_mBook_comeIn := Or.inl q4811
theorem fl3573 : FL "TransportPairModel$Book" 104 39 36 2 101 := ⟨_, rfl, by decide, rfl, fun _ => rfl, by decide, Or.inl q3573⟩
theorem ml4805 : ML "TransportPairModel$Side" 317 y_mBook_came := Or.inl q4805
theorem ml4560 : ML "TransportPairModel$Side" 307 y_mWire_read := Or.inl q4560
theorem ml4601 : ML "TransportPairModel$Side" 314 y_mSide_does := Or.inl q4601
theorem ml4554 : ML "TransportPairModel$Side" 278 y_mSide_closes := Or.inl q4554
theorem ml4461 : ML "TransportPairModel$Side" 242 y_mSide_tries := Or.inl q4461
theorem ml4528 : ML "TransportPairModel$Side" 250 y_mSide_hasGuards := Or.inl q4528
theorem ml4532 : ML "TransportPairModel$Side" 258 y_mBook_greatest := Or.inl q4532
theorem ml4537 : ML "TransportPairModel$Side" 266 y_mBook_isOld := Or.inl q4537
theorem ml4541 : ML "TransportPairModel$Side" 274 y_mSide_opened := Or.inl q4541
theorem ml4555 : ML "TransportPairModel$Side" 282 y_mSide_frames := Or.inl q4555
theorem fl3862 : FL "TransportPairModel" 257 38 11 0 0 := ⟨_, rfl, by decide, rfl, fun z => absurd z (by decide), by decide, Or.inr ⟨_, q3862⟩⟩
theorem pl3862 : PL "TransportPairModel" 257 38 11 (.int) 0 := ⟨_, rfl, by decide, rfl, fun z => absurd z (by decide), by decide, Or.inr ⟨_, q3862⟩, rfl⟩
theorem fl3895 : FL "TransportPairModel" 260 38 39 0 0 := ⟨_, rfl, by decide, rfl, fun z => absurd z (by decide), by decide, Or.inr ⟨_, q3895⟩⟩
theorem pl3895 : PL "TransportPairModel" 260 38 39 (.int) 0 := ⟨_, rfl, by decide, rfl, fun z => absurd z (by decide), by decide, Or.inr ⟨_, q3895⟩, rfl⟩
theorem pl3891 : PL "TransportPairModel" 263 38 36 (.boolean) 0 := ⟨_, rfl, by decide, rfl, fun z => absurd z (by decide), by decide, Or.inr ⟨_, q3891⟩, rfl⟩
theorem ml4425 : ML "TransportPairModel" 266 y_mP_reads := Or.inl q4425
theorem pl4052 : PL "TransportPairModel" 254 35 21 (.int) 0 := ⟨_, rfl, by decide, rfl, fun z => absurd z (by decide), by decide, Or.inl q4052, rfl⟩
theorem ml4453 : ML "TransportPairModel" 269 y_mP_isSame := Or.inl q4453
theorem ml4457 : ML "TransportPairModel" 272 y_mSide_packet := Or.inl q4457
theorem ml4409 : ML "TransportPairModel" 187 y_mP_lift := Or.inl q4409
theorem ml4417 : ML "TransportPairModel" 190 y_mP_remove := Or.inl q4417
theorem ml4421 : ML "TransportPairModel" 193 y_mP_comes := Or.inl q4421
theorem ml4401 : ML "TransportPairModel" 181 y_mP_isNone := Or.inl q4401
theorem ml4405 : ML "TransportPairModel" 184 y_mP_delivers := Or.inl q4405
theorem ml4827 : ML "TransportPairModel" 196 y_mP_lies := Or.inl q4827
theorem pl4040 : PL "TransportPairModel" 200 35 9 (.int) 0 := ⟨_, rfl, by decide, rfl, fun z => absurd z (by decide), by decide, Or.inl q4040, rfl⟩
theorem fl3526 : FL "TransportPairModel$Book" 121 39 1 0 0 := ⟨_, rfl, by decide, rfl, fun z => absurd z (by decide), by decide, Or.inl q3526⟩
theorem fl3554 : FL "TransportPairModel$Book" 129 39 23 0 0 := ⟨_, rfl, by decide, rfl, fun z => absurd z (by decide), by decide, Or.inl q3554⟩
theorem ml4859 : ML "TransportPairModel$Book" 132 y_mBook_oldest := Or.inl q4859
theorem fl3530 : FL "TransportPairModel$Book" 136 39 2 0 0 := ⟨_, rfl, by decide, rfl, fun z => absurd z (by decide), by decide, Or.inl q3530⟩
theorem ml4863 : ML "TransportPairModel$Book" 139 y_mBook_firstSpace := Or.inl q4863
theorem fl3545 : FL "TransportPairModel$Book" 143 39 14 0 0 := ⟨_, rfl, by decide, rfl, fun z => absurd z (by decide), by decide, Or.inl q3545⟩
theorem pl3525 : PL "TransportPairModel$Book" 146 39 0 (.int) 0 := ⟨_, rfl, by decide, rfl, fun z => absurd z (by decide), by decide, Or.inl q3525, rfl⟩
theorem ml4855 : ML "TransportPairModel$Book" 183 y_mBook_probeTime := Or.inl q4855
theorem ml4851 : ML "TransportPairModel$Side" 485 y_mBook_tick := Or.inl q4851
theorem ml4867 : ML "TransportPairModel$Side" 489 y_mBook_oldest := Or.inl q4867
theorem ml4868 : ML "TransportPairModel$Side" 492 y_mSide_quietLimit := Or.inl q4868
theorem fl3896 : FL "TransportPairModel$Side" 196 38 40 0 0 := ⟨_, rfl, by decide, rfl, fun z => absurd z (by decide), by decide, Or.inl q3896⟩
theorem fl3889 : FL "TransportPairModel$Side" 217 38 35 0 0 := ⟨_, rfl, by decide, rfl, fun z => absurd z (by decide), by decide, Or.inl q3889⟩
theorem fl3744 : FL "TransportPairModel$Draft" 7 42 0 2 101 := ⟨_, rfl, by decide, rfl, fun _ => rfl, by decide, Or.inl q3744⟩
theorem fl3747 : FL "TransportPairModel$Draft" 13 42 1 0 0 := ⟨_, rfl, by decide, rfl, fun z => absurd z (by decide), by decide, Or.inl q3747⟩
theorem pl3747 : PL "TransportPairModel$Draft" 13 42 1 (.int) 0 := ⟨_, rfl, by decide, rfl, fun z => absurd z (by decide), by decide, Or.inl q3747, rfl⟩
theorem ml4911 : ML "TransportPairModel$Draft" 33 y_mDraft_put := Or.inl q4911
theorem ml4904 : ML "TransportPairModel$Draft" 19 y_mWire_needs := Or.inl q4904
theorem ml4905 : ML "TransportPairModel$Draft" 25 y_mDraft_sized := Or.inl q4905
theorem fl3892 : FL "TransportPairModel$Side" 233 38 37 0 0 := ⟨_, rfl, by decide, rfl, fun z => absurd z (by decide), by decide, Or.inl q3892⟩
theorem fl3890 : FL "TransportPairModel$Side" 230 38 36 0 0 := ⟨_, rfl, by decide, rfl, fun z => absurd z (by decide), by decide, Or.inl q3890⟩
theorem fl3906 : FL "TransportPairModel$Side" 90 38 47 2 120 := ⟨_, rfl, by decide, rfl, fun _ => rfl, by decide, Or.inl q3906⟩
theorem ml4895 : ML "TransportPairModel$Side" 534 y_mDraft_put := Or.inl q4895
theorem ml4900 : ML "TransportPairModel$Side" 584 y_mDraft_number := Or.inl q4900
theorem pl3910 : PL "TransportPairModel$Side" 519 38 51 (.boolean) 0 := ⟨_, rfl, by decide, rfl, fun z => absurd z (by decide), by decide, Or.inl q3910, rfl⟩
theorem fl3893 : FL "TransportPairModel$Side" 236 38 38 0 0 := ⟨_, rfl, by decide, rfl, fun z => absurd z (by decide), by decide, Or.inl q3893⟩
theorem ml4924 : ML "TransportPairModel$Side" 587 y_mBook_range := Or.inl q4924
theorem ml4928 : ML "TransportPairModel$Side" 591 y_mBook_delay := Or.inl q4928
theorem fl3572 : FL "TransportPairModel$Side" 594 39 35 2 101 := ⟨_, rfl, by decide, rfl, fun _ => rfl, by decide, Or.inr ⟨_, q3572⟩⟩
theorem fl3566 : FL "TransportPairModel$Side" 597 39 30 2 101 := ⟨_, rfl, by decide, rfl, fun _ => rfl, by decide, Or.inr ⟨_, q3566⟩⟩
theorem ml4920 : ML "TransportPairModel$Side" 599 y_mSide_ackSize := Or.inl q4920
theorem fl3711 : FL "TransportPairModel$Cargo" 27 41 0 0 0 := ⟨_, rfl, by decide, rfl, fun z => absurd z (by decide), by decide, Or.inl q3711⟩
theorem fl3714 : FL "TransportPairModel$Cargo" 7 41 1 2 102 := ⟨_, rfl, by decide, rfl, fun _ => rfl, by decide, Or.inl q3714⟩
theorem fl3716 : FL "TransportPairModel$Cargo" 13 41 2 2 101 := ⟨_, rfl, by decide, rfl, fun _ => rfl, by decide, Or.inl q3716⟩
theorem fl3718 : FL "TransportPairModel$Cargo" 17 41 3 2 105 := ⟨_, rfl, by decide, rfl, fun _ => rfl, by decide, Or.inl q3718⟩
theorem fl3720 : FL "TransportPairModel$Cargo" 21 41 4 2 105 := ⟨_, rfl, by decide, rfl, fun _ => rfl, by decide, Or.inl q3720⟩
theorem fl3722 : FL "TransportPairModel$Cargo" 24 41 5 2 102 := ⟨_, rfl, by decide, rfl, fun _ => rfl, by decide, Or.inl q3722⟩
theorem ml4945 : ML "TransportPairModel$Cargo" 31 y_mCargo_grow := Or.inl q4945
theorem pl3711 : PL "TransportPairModel$Cargo" 27 41 0 (.int) 0 := ⟨_, rfl, by decide, rfl, fun z => absurd z (by decide), by decide, Or.inl q3711, rfl⟩
theorem fl3882 : FL "TransportPairModel$Side" 65 38 29 2 101 := ⟨_, rfl, by decide, rfl, fun _ => rfl, by decide, Or.inl q3882⟩
theorem fl3749 : FL "TransportPairModel$Side" 509 42 1 0 0 := ⟨_, rfl, by decide, rfl, fun z => absurd z (by decide), by decide, Or.inr ⟨_, q3749⟩⟩
theorem fl3780 : FL "TransportPairModel$Side" 603 43 10 2 101 := ⟨_, rfl, by decide, rfl, fun _ => rfl, by decide, Or.inr ⟨_, q3780⟩⟩
theorem fl3778 : FL "TransportPairModel$Side" 608 43 9 2 101 := ⟨_, rfl, by decide, rfl, fun _ => rfl, by decide, Or.inr ⟨_, q3778⟩⟩
theorem ml4912 : ML "TransportPairModel$Side" 538 y_mDraft_bytes := Or.inl q4912
theorem ml4941 : ML "TransportPairModel$Side" 609 y_mCargo_add := Or.inl q4941
theorem ml4971 : ML "TransportPairModel$Streams" 317 y_mWire_needs := Or.inl q4971
theorem ml4967 : ML "TransportPairModel$Streams" 320 y_mStreams_bytes := Or.inl q4967
theorem fl3361 : FL "TransportPairModel$Streams" 86 37 24 2 101 := ⟨_, rfl, by decide, rfl, fun _ => rfl, by decide, Or.inl q3361⟩
theorem ml4963 : ML "TransportPairModel$Streams" 324 y_mStreams_lays := Or.inl q4963
theorem ml4980 : ML "TransportPairModel$Streams" 328 y_mStreams_waits := Or.inl q4980
theorem fl3381 : FL "TransportPairModel$Streams" 148 37 44 2 101 := ⟨_, rfl, by decide, rfl, fun _ => rfl, by decide, Or.inl q3381⟩
theorem fl3397 : FL "TransportPairModel$Streams" 167 37 55 2 101 := ⟨_, rfl, by decide, rfl, fun _ => rfl, by decide, Or.inl q3397⟩
theorem ml4988 : ML "TransportPairModel$Streams" 331 y_mStreams_allowed := Or.inl q4988
theorem ml4992 : ML "TransportPairModel$Streams" 334 y_mStreams_fillsBytes := Or.inl q4992
theorem ml4959 : ML "TransportPairModel$Streams" 342 y_mStreams_fillsResets := Or.inl q4959
theorem ml4972 : ML "TransportPairModel$Streams" 345 y_mStreams_fillsGrants := Or.inl q4972
theorem ml4976 : ML "TransportPairModel$Streams" 348 y_mStreams_fillsBlocked := Or.inl q4976
theorem ml4984 : ML "TransportPairModel$Streams" 351 y_mStreams_fillsStream := Or.inl q4984
theorem ml5000 : ML "TransportPairModel$Streams" 355 y_mDraft_put := Or.inl q5000
theorem ml5001 : ML "TransportPairModel$Streams" 361 y_mDraft_number := Or.inl q5001
theorem ml5002 : ML "TransportPairModel$Streams" 365 y_mDraft_bytes := Or.inl q5002
theorem fl3885 : FL "TransportPairModel$Side" 333 38 32 0 0 := ⟨_, rfl, by decide, rfl, fun z => absurd z (by decide), by decide, Or.inl q3885⟩
theorem fl3886 : FL "TransportPairModel$Side" 336 38 33 1 0 := ⟨_, rfl, by decide, rfl, fun z => absurd z (by decide), by decide, Or.inl q3886⟩
theorem ml4955 : ML "TransportPairModel$Side" 617 y_mStreams_fills := Or.inl q4955
theorem ml4996 : ML "TransportPairModel$Side" 620 y_mStreams_writeTo := Or.inl q4996
theorem fl3388 : FL "TransportPairModel$Side" 624 37 50 0 0 := ⟨_, rfl, by decide, rfl, fun z => absurd z (by decide), by decide, Or.inr ⟨_, q3388⟩⟩
theorem fl3390 : FL "TransportPairModel$Side" 625 37 51 1 0 := ⟨_, rfl, by decide, rfl, fun z => absurd z (by decide), by decide, Or.inr ⟨_, q3390⟩⟩
theorem fl3392 : FL "TransportPairModel$Side" 628 37 52 1 0 := ⟨_, rfl, by decide, rfl, fun z => absurd z (by decide), by decide, Or.inr ⟨_, q3392⟩⟩
theorem fl3396 : FL "TransportPairModel$Side" 631 37 54 0 0 := ⟨_, rfl, by decide, rfl, fun z => absurd z (by decide), by decide, Or.inr ⟨_, q3396⟩⟩
theorem fl3394 : FL "TransportPairModel$Side" 634 37 53 1 0 := ⟨_, rfl, by decide, rfl, fun z => absurd z (by decide), by decide, Or.inr ⟨_, q3394⟩⟩
theorem fl3907 : FL "TransportPairModel$Side" 94 38 48 2 103 := ⟨_, rfl, by decide, rfl, fun _ => rfl, by decide, Or.inl q3907⟩
theorem fl3908 : FL "TransportPairModel$Side" 97 38 49 2 103 := ⟨_, rfl, by decide, rfl, fun _ => rfl, by decide, Or.inl q3908⟩
theorem fl3909 : FL "TransportPairModel$Side" 100 38 50 2 103 := ⟨_, rfl, by decide, rfl, fun _ => rfl, by decide, Or.inl q3909⟩
theorem fl3901 : FL "TransportPairModel$Side" 559 38 43 0 0 := ⟨_, rfl, by decide, rfl, fun z => absurd z (by decide), by decide, Or.inl q3901⟩
theorem fl3898 : FL "TransportPairModel$Side" 71 38 42 2 101 := ⟨_, rfl, by decide, rfl, fun _ => rfl, by decide, Or.inl q3898⟩
theorem pl3901 : PL "TransportPairModel$Side" 559 38 43 (.int) 0 := ⟨_, rfl, by decide, rfl, fun z => absurd z (by decide), by decide, Or.inl q3901, rfl⟩
theorem ml4889 : ML "TransportPairModel$Side" 556 y_mSide_laysClose := Or.inl q4889
theorem ml4916 : ML "TransportPairModel$Side" 562 y_mSide_laysAck := Or.inl q4916
theorem ml4932 : ML "TransportPairModel$Side" 565 y_mBook_flight := Or.inl q4932
theorem fl3556 : FL "TransportPairModel$Side" 568 39 24 0 0 := ⟨_, rfl, by decide, rfl, fun z => absurd z (by decide), by decide, Or.inr ⟨_, q3556⟩⟩
theorem ml4949 : ML "TransportPairModel$Side" 574 y_mSide_laysLast := Or.inl q4949
theorem ml4936 : ML "TransportPairModel$Side" 571 y_mSide_laysCrypto := Or.inl q4936
theorem ml5003 : ML "TransportPairModel$Side" 577 y_mBook_due := Or.inl q5003
theorem pl3749 : PL "TransportPairModel$Side" 509 42 1 (.int) 0 := ⟨_, rfl, by decide, rfl, fun z => absurd z (by decide), by decide, Or.inr ⟨_, q3749⟩, rfl⟩
theorem fl3543 : FL "TransportPairModel$Side" 496 39 12 2 101 := ⟨_, rfl, by decide, rfl, fun _ => rfl, by decide, Or.inr ⟨_, q3543⟩⟩
theorem ml4882 : ML "TransportPairModel$Side" 503 y_mSide_headerOf := Or.inl q4882
theorem ml5007 : ML "TransportPairModel$Side" 506 y_mSide_cut := Or.inl q5007
theorem pl3545 : PL "TransportPairModel$Book" 143 39 14 (.int) 0 := ⟨_, rfl, by decide, rfl, fun z => absurd z (by decide), by decide, Or.inl q3545, rfl⟩
theorem ml5034 : ML "TransportPairModel$Book" 149 y_mBook_flight := Or.inl q5034
theorem fl3911 : FL "TransportPairModel$Side" 103 38 52 2 43 := ⟨_, rfl, by decide, rfl, fun _ => rfl, by decide, Or.inl q3911⟩
theorem fl3746 : FL "TransportPairModel$Side" 544 42 0 2 101 := ⟨_, rfl, by decide, rfl, fun _ => rfl, by decide, Or.inr ⟨_, q3746⟩⟩
theorem ml5026 : ML "TransportPairModel$Side" 545 y_mSeals_seal := Or.inl q5026
theorem ml5030 : ML "TransportPairModel$Side" 549 y_mBook_send := Or.inl q5030
theorem ml5035 : ML "TransportPairModel$Side" 553 y_mBook_written := Or.inl q5035
theorem fl3897 : FL "TransportPairModel$Side" 199 38 41 0 0 := ⟨_, rfl, by decide, rfl, fun z => absurd z (by decide), by decide, Or.inl q3897⟩
theorem ml5025 : ML "TransportPairModel$Side" 541 y_mDraft_sized := Or.inl q5025
theorem ml4877 : ML "TransportPairModel$Side" 511 y_mSide_isFull := Or.inl q4877
theorem fl3860 : FL "TransportPairModel$Side" 296 38 10 0 0 := ⟨_, rfl, by decide, rfl, fun z => absurd z (by decide), by decide, Or.inl q3860⟩
theorem fl3863 : FL "TransportPairModel$Side" 515 38 11 0 0 := ⟨_, rfl, by decide, rfl, fun z => absurd z (by decide), by decide, Or.inl q3863⟩
theorem fl3864 : FL "TransportPairModel$Side" 517 38 12 0 0 := ⟨_, rfl, by decide, rfl, fun z => absurd z (by decide), by decide, Or.inl q3864⟩
theorem fl3858 : FL "TransportPairModel$Side" 227 38 9 0 0 := ⟨_, rfl, by decide, rfl, fun z => absurd z (by decide), by decide, Or.inl q3858⟩
theorem ml4885 : ML "TransportPairModel$Side" 522 y_mSide_laysFrames := Or.inl q4885
theorem ml5013 : ML "TransportPairModel$Side" 525 y_mSide_pad := Or.inl q5013
theorem pl3864 : PL "TransportPairModel$Side" 517 38 12 (.int) 0 := ⟨_, rfl, by decide, rfl, fun z => absurd z (by decide), by decide, Or.inl q3864, rfl⟩
theorem fl3910 : FL "TransportPairModel$Side" 519 38 51 0 0 := ⟨_, rfl, by decide, rfl, fun z => absurd z (by decide), by decide, Or.inl q3910⟩
theorem ml5021 : ML "TransportPairModel$Side" 531 y_mSide_sendsPacket := Or.inl q5021
theorem ml5017 : ML "TransportPairModel$Side" 528 y_mSide_sizeOf := Or.inl q5017
theorem fl4039 : FL "TransportPairModel" 203 35 8 0 0 := ⟨_, rfl, by decide, rfl, fun z => absurd z (by decide), by decide, Or.inl q4039⟩
theorem pl4039 : PL "TransportPairModel" 203 35 8 (.int) 0 := ⟨_, rfl, by decide, rfl, fun z => absurd z (by decide), by decide, Or.inl q4039, rfl⟩
theorem fl4040 : FL "TransportPairModel" 200 35 9 0 0 := ⟨_, rfl, by decide, rfl, fun z => absurd z (by decide), by decide, Or.inl q4040⟩
theorem ml4847 : ML "TransportPairModel" 209 y_mSide_tick := Or.inl q4847
theorem ml4873 : ML "TransportPairModel" 212 y_mSide_sends := Or.inl q4873
theorem fl3912 : FL "TransportPairModel" 216 38 52 2 43 := ⟨_, rfl, by decide, rfl, fun _ => rfl, by decide, Or.inr ⟨_, q3912⟩⟩
theorem fl3745 : FL "TransportPairModel" 220 42 0 2 101 := ⟨_, rfl, by decide, rfl, fun _ => rfl, by decide, Or.inr ⟨_, q3745⟩⟩
theorem fl3748 : FL "TransportPairModel" 223 42 1 0 0 := ⟨_, rfl, by decide, rfl, fun z => absurd z (by decide), by decide, Or.inr ⟨_, q3748⟩⟩
theorem ml4843 : ML "TransportPairModel" 206 y_mP_ticks := Or.inl q4843
theorem fl3859 : FL "TransportPairModel" 276 38 9 0 0 := ⟨_, rfl, by decide, rfl, fun z => absurd z (by decide), by decide, Or.inr ⟨_, q3859⟩⟩
theorem fl3851 : FL "TransportPairModel" 279 38 4 2 40 := ⟨_, rfl, by decide, rfl, fun _ => rfl, by decide, Or.inr ⟨_, q3851⟩⟩
theorem fl3528 : FL "TransportPairModel" 283 39 1 0 0 := ⟨_, rfl, by decide, rfl, fun z => absurd z (by decide), by decide, Or.inr ⟨_, q3528⟩⟩
theorem fl3861 : FL "TransportPairModel" 288 38 10 0 0 := ⟨_, rfl, by decide, rfl, fun z => absurd z (by decide), by decide, Or.inr ⟨_, q3861⟩⟩
theorem fl3773 : FL "TransportPairModel" 291 43 6 0 0 := ⟨_, rfl, by decide, rfl, fun z => absurd z (by decide), by decide, Or.inr ⟨_, q3773⟩⟩
theorem fl3793 : FL "TransportPairModel" 294 43 18 0 0 := ⟨_, rfl, by decide, rfl, fun z => absurd z (by decide), by decide, Or.inr ⟨_, q3793⟩⟩
theorem fl3865 : FL "TransportPairModel" 297 38 12 0 0 := ⟨_, rfl, by decide, rfl, fun z => absurd z (by decide), by decide, Or.inr ⟨_, q3865⟩⟩
theorem fl3888 : FL "TransportPairModel" 300 38 34 2 101 := ⟨_, rfl, by decide, rfl, fun _ => rfl, by decide, Or.inr ⟨_, q3888⟩⟩
theorem fl3904 : FL "TransportPairModel" 303 38 45 2 119 := ⟨_, rfl, by decide, rfl, fun _ => rfl, by decide, Or.inr ⟨_, q3904⟩⟩
theorem fl3713 : FL "TransportPairModel" 307 41 0 0 0 := ⟨_, rfl, by decide, rfl, fun z => absurd z (by decide), by decide, Or.inr ⟨_, q3713⟩⟩
theorem ml5055 : ML "TransportPairModel" 311 y_mBook_look := Or.inl q5055
theorem ml5068 : ML "TransportPairModel$Book" 203 y_mBook_outs := Or.inl q5068
theorem ml5064 : ML "TransportPairModel" 317 y_mBook_space := Or.inl q5064
theorem ml5063 : ML "TransportPairModel" 314 y_mSide_hasGuards := Or.inl q5063
theorem ml5076 : ML "TransportPairModel" 321 y_mStreams_look_III := Or.inl q5076
theorem ml5084 : ML "TransportPairModel" 324 y_mStreams_look_II := Or.inl q5084
theorem ml1525 : ML "TransportPairLaw" 7 y_cP_feed := Or.inl q1525
theorem ml1599 : ML "TransportPairLaw" 15 y_cP_end := Or.inl q1599
theorem ml1627 : ML "TransportPairLaw" 21 y_cP_key := Or.inl q1627
theorem ml1649 : ML "TransportPairLaw" 25 y_cP_random := Or.inl q1649
theorem ml1656 : ML "TransportPairLaw" 28 y_cP_parameter := Or.inl q1656
theorem ml1669 : ML "TransportPairLaw" 32 y_cP_begin := Or.inl q1669
theorem ml1894 : ML "TransportPairLaw" 35 y_cP_open := Or.inl q1894
theorem ml2028 : ML "TransportPairLaw" 39 y_cP_write := Or.inl q2028
theorem ml2065 : ML "TransportPairLaw" 43 y_cP_finish := Or.inl q2065
theorem ml2076 : ML "TransportPairLaw" 47 y_cP_reset := Or.inl q2076
theorem ml2095 : ML "TransportPairLaw" 51 y_cP_stop := Or.inl q2095
theorem ml2114 : ML "TransportPairLaw" 54 y_cP_read := Or.inl q2114
theorem ml2172 : ML "TransportPairLaw" 58 y_cP_outs := Or.inl q2172
theorem ml2199 : ML "TransportPairLaw" 64 y_cP_close := Or.inl q2199
theorem ml2225 : ML "TransportPairLaw" 67 y_cP_raw := Or.inl q2225
theorem ml2233 : ML "TransportPairLaw" 70 y_cP_deliver := Or.inl q2233
theorem ml2880 : ML "TransportPairLaw" 73 y_cP_drop := Or.inl q2880
theorem ml2887 : ML "TransportPairLaw" 76 y_cP_twice := Or.inl q2887
theorem ml2899 : ML "TransportPairLaw" 79 y_cP_alter := Or.inl q2899
theorem ml2906 : ML "TransportPairLaw" 83 y_cP_flow := Or.inl q2906
theorem ml2913 : ML "TransportPairLaw" 86 y_cP_tick_I := Or.inl q2913
theorem ml3154 : ML "TransportPairLaw" 89 y_cP_line := Or.inl q3154
theorem ml3162 : ML "TransportPairLaw" 92 y_cP_at := Or.inl q3162
theorem ml3170 : ML "TransportPairLaw" 95 y_cP_look := Or.inl q3170
theorem ml3177 : ML "TransportPairLaw" 98 y_cP_book := Or.inl q3177
theorem ml3189 : ML "TransportPairLaw" 101 y_cP_space := Or.inl q3189
theorem ml3201 : ML "TransportPairLaw" 105 y_cP_stream := Or.inl q3201
theorem ml3213 : ML "TransportPairLaw" 108 y_cP_streams := Or.inl q3213
theorem ml307 : ML "TransportPairLaw" 112 y_cP_init := Or.inl q307
theorem ml3224 : ML "TransportPairLaw" 115 y_mP_init := Or.inl q3224
theorem ml1521 : ML "TransportPairLaw" 116 y_law_feed := Or.inl q1521
theorem ml4105 : ML "TransportPairLaw" 121 y_mP_feed := Or.inl q4105
theorem ml4101 : ML "TransportPairLaw" 122 y_mP_thrown := Or.inl q4101
theorem ml1595 : ML "TransportPairLaw" 126 y_law_end := Or.inl q1595
theorem ml4113 : ML "TransportPairLaw" 129 y_mP_end := Or.inl q4113
theorem ml1624 : ML "TransportPairLaw" 130 y_law_key := Or.inl q1624
theorem ml4117 : ML "TransportPairLaw" 133 y_mP_key := Or.inl q4117
theorem ml1646 : ML "TransportPairLaw" 134 y_law_random := Or.inl q1646
theorem ml4124 : ML "TransportPairLaw" 136 y_mP_random := Or.inl q4124
theorem ml1653 : ML "TransportPairLaw" 137 y_law_parameter := Or.inl q1653
theorem ml4128 : ML "TransportPairLaw" 140 y_mP_parameter := Or.inl q4128
theorem ml1666 : ML "TransportPairLaw" 141 y_law_begin := Or.inl q1666
theorem ml4133 : ML "TransportPairLaw" 144 y_mP_begin := Or.inl q4133
theorem ml2025 : ML "TransportPairLaw" 149 y_law_write := Or.inl q2025
theorem ml4268 : ML "TransportPairLaw" 152 y_mP_write := Or.inl q4268
theorem ml2062 : ML "TransportPairLaw" 153 y_law_finish := Or.inl q2062
theorem ml4292 : ML "TransportPairLaw" 155 y_mP_finish := Or.inl q4292
theorem ml2073 : ML "TransportPairLaw" 156 y_law_reset := Or.inl q2073
theorem ml4300 : ML "TransportPairLaw" 159 y_mP_reset := Or.inl q4300
theorem ml2092 : ML "TransportPairLaw" 160 y_law_stop := Or.inl q2092
theorem ml4316 : ML "TransportPairLaw" 162 y_mP_stop := Or.inl q4316
theorem ml2111 : ML "TransportPairLaw" 163 y_law_read := Or.inl q2111
theorem ml4335 : ML "TransportPairLaw" 165 y_mP_read := Or.inl q4335
theorem ml2168 : ML "TransportPairLaw" 166 y_law_outs := Or.inl q2168
theorem ml4365 : ML "TransportPairLaw" 168 y_mP_outs := Or.inl q4365
theorem ml2196 : ML "TransportPairLaw" 169 y_law_close := Or.inl q2196
theorem ml4369 : ML "TransportPairLaw" 171 y_mP_close := Or.inl q4369
theorem ml2222 : ML "TransportPairLaw" 172 y_law_raw := Or.inl q2222
theorem ml4393 : ML "TransportPairLaw" 174 y_mP_raw := Or.inl q4393
theorem ml2230 : ML "TransportPairLaw" 175 y_law_deliver := Or.inl q2230
theorem ml4397 : ML "TransportPairLaw" 177 y_mP_deliver := Or.inl q4397
theorem ml2877 : ML "TransportPairLaw" 178 y_law_drop := Or.inl q2877
theorem ml4819 : ML "TransportPairLaw" 180 y_mP_drop := Or.inl q4819
theorem ml2884 : ML "TransportPairLaw" 181 y_law_twice := Or.inl q2884
theorem ml4823 : ML "TransportPairLaw" 183 y_mP_twice := Or.inl q4823
theorem ml2896 : ML "TransportPairLaw" 184 y_law_alter := Or.inl q2896
theorem ml4831 : ML "TransportPairLaw" 187 y_mP_alter := Or.inl q4831
theorem ml2903 : ML "TransportPairLaw" 188 y_law_flow := Or.inl q2903
theorem ml4835 : ML "TransportPairLaw" 190 y_mP_flow := Or.inl q4835
theorem ml2910 : ML "TransportPairLaw" 191 y_law_tick := Or.inl q2910
theorem ml4839 : ML "TransportPairLaw" 193 y_mP_tick := Or.inl q4839
theorem ml3151 : ML "TransportPairLaw" 194 y_law_line := Or.inl q3151
theorem ml5039 : ML "TransportPairLaw" 196 y_mP_line := Or.inl q5039
theorem ml3159 : ML "TransportPairLaw" 197 y_law_at := Or.inl q3159
theorem ml5043 : ML "TransportPairLaw" 199 y_mP_at := Or.inl q5043
theorem ml3167 : ML "TransportPairLaw" 200 y_law_look := Or.inl q3167
theorem ml5047 : ML "TransportPairLaw" 202 y_mP_look := Or.inl q5047
theorem ml3174 : ML "TransportPairLaw" 203 y_law_book := Or.inl q3174
theorem ml5051 : ML "TransportPairLaw" 205 y_mP_book := Or.inl q5051
theorem ml3186 : ML "TransportPairLaw" 206 y_law_space := Or.inl q3186
theorem ml5059 : ML "TransportPairLaw" 208 y_mP_space := Or.inl q5059
theorem ml3198 : ML "TransportPairLaw" 209 y_law_stream := Or.inl q3198
theorem ml5072 : ML "TransportPairLaw" 211 y_mP_stream := Or.inl q5072
theorem ml3210 : ML "TransportPairLaw" 212 y_law_streams := Or.inl q3210
theorem ml5080 : ML "TransportPairLaw" 214 y_mP_streams := Or.inl q5080
theorem ml1891 : ML "TransportPairLaw" 145 y_law_open := Or.inl q1891
theorem ml4243 : ML "TransportPairLaw" 148 y_mP_open := Or.inl q4243
