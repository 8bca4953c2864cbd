/-! ===== the methods by name; the heap of the law ===== -/
def xm_T_init : XM := (0, ⟨"TradeLink", "<init>", "()V"⟩, prog_1_method_2_code, 1, none, [])
def xm_F_init : XM := (1, ⟨"TradeLink$Frame", "<init>", "()V"⟩, prog_2_method_1_code, 1, none, [])
def xm_Ms_init : XM := (2, ⟨"TradeLink$Message", "<init>", "()V"⟩, prog_3_method_1_code, 1, none, [])
def xm_S_init : XM := (3, ⟨"TradeLink$Scanner", "<init>", "()V"⟩, prog_6_method_1_code, 1, none, [])
def xm_T_tick : XM := (0, ⟨"TradeLink", "tick", "()I"⟩, prog_1_method_22_code, 1, some .int, [])
def xm_T_send : XM := (0, ⟨"TradeLink", "send", "(LTradeLink$Type;II)V"⟩, prog_1_method_4_code, 5, none, [])
def xm_T_out : XM := (0, ⟨"TradeLink", "out", "()LTradeLink$Frame;"⟩, prog_1_method_3_code, 2, some (.object "TradeLink$Frame"), [])
def xm_Mt_min : XM := (14, ⟨"java/lang/Math", "min", "(II)I"⟩, prog_15_method_69_code, 2, some .int, [])
def xm_F_begin : XM := (1, ⟨"TradeLink$Frame", "begin", "(CIZ)V"⟩, prog_2_method_7_code, 4, none, [])
def xm_F_letter : XM := (1, ⟨"TradeLink$Frame", "letter", "(IC)V"⟩, prog_2_method_5_code, 3, none, [])
def xm_F_digits : XM := (1, ⟨"TradeLink$Frame", "digits", "(I)V"⟩, prog_2_method_3_code, 4, none, [])
def xm_F_put : XM := (1, ⟨"TradeLink$Frame", "put", "(I)V"⟩, prog_2_method_2_code, 2, none, [])
def xm_F_field : XM := (1, ⟨"TradeLink$Frame", "field", "(II)V"⟩, prog_2_method_4_code, 3, none, [])
def xm_F_end : XM := (1, ⟨"TradeLink$Frame", "end", "()V"⟩, prog_2_method_8_code, 4, none, [])
def xm_F_sum : XM := (1, ⟨"TradeLink$Frame", "sum", "(I)I"⟩, prog_2_method_6_code, 4, some .int, [])
def xm_T_goOut : XM := (0, ⟨"TradeLink", "goOut", "()V"⟩, prog_1_method_10_code, 1, none, [])
def xm_T_ask : XM := (0, ⟨"TradeLink", "ask", "()V"⟩, prog_1_method_9_code, 1, none, [])
def xm_T_restart : XM := (0, ⟨"TradeLink", "restart", "()Z"⟩, prog_1_method_23_code, 2, some .boolean, [])
def xm_T_frames : XM := (0, ⟨"TradeLink", "frames", "()I"⟩, prog_1_method_32_code, 1, some .int, [])
def xm_T_give : XM := (0, ⟨"TradeLink", "give", "(IIZIII)I"⟩, prog_1_method_12_code, 8, some .int, [])
def xm_T_typeOf : XM := (0, ⟨"TradeLink", "typeOf", "(C)LTradeLink$Type;"⟩, prog_1_method_1_code, 1, some (.object "TradeLink$Type"), [])
def xm_T_off : XM := (0, ⟨"TradeLink", "off", "(I)Z"⟩, prog_1_method_13_code, 1, some .boolean, [])
def xm_T_spoil : XM := (0, ⟨"TradeLink", "spoil", "(II)I"⟩, prog_1_method_14_code, 3, some .int, [])
def xm_T_add : XM := (0, ⟨"TradeLink", "add", "(I)I"⟩, prog_1_method_15_code, 2, some .int, [])
def xm_T_take : XM := (0, ⟨"TradeLink", "take", "()I"⟩, prog_1_method_17_code, 2, some .int, [])
def xm_S_scan : XM := (3, ⟨"TradeLink$Scanner", "scan", "(LTradeLink$Frame;LTradeLink$Message;)V"⟩, prog_6_method_9_code, 9, none, [])
def xm_S_letter : XM := (3, ⟨"TradeLink$Scanner", "letter", "(I)C"⟩, prog_6_method_7_code, 3, some .char, [])
def xm_S_tag : XM := (3, ⟨"TradeLink$Scanner", "tag", "(I)V"⟩, prog_6_method_5_code, 2, none, [])
def xm_S_stands : XM := (3, ⟨"TradeLink$Scanner", "stands", "(I)Z"⟩, prog_6_method_4_code, 6, some .boolean, [])
def xm_S_need : XM := (3, ⟨"TradeLink$Scanner", "need", "(Z)V"⟩, prog_6_method_2_code, 1, none, [])
def xm_S_next : XM := (3, ⟨"TradeLink$Scanner", "next", "()I"⟩, prog_6_method_3_code, 1, some .int, [])
def xm_S_number : XM := (3, ⟨"TradeLink$Scanner", "number", "(I)I"⟩, prog_6_method_6_code, 5, some .int, [])
def xm_S_type : XM := (3, ⟨"TradeLink$Scanner", "type", "(LTradeLink$Message;)V"⟩, prog_6_method_8_code, 4, none, [])
def xm_T_taken : XM := (0, ⟨"TradeLink", "taken", "(LTradeLink$Message;)I"⟩, prog_1_method_18_code, 3, some .int, [])
def xm_T_moveTo : XM := (0, ⟨"TradeLink", "moveTo", "(I)V"⟩, prog_1_method_11_code, 2, none, [])
def xm_Mt_max : XM := (14, ⟨"java/lang/Math", "max", "(II)I"⟩, prog_15_method_65_code, 2, some .int, [])
def xm_T_below : XM := (0, ⟨"TradeLink", "below", "(LTradeLink$Message;)I"⟩, prog_1_method_19_code, 2, some .int, [])
def xm_T_above : XM := (0, ⟨"TradeLink", "above", "(LTradeLink$Message;)V"⟩, prog_1_method_20_code, 2, none, [])
def xm_T_answer : XM := (0, ⟨"TradeLink", "answer", "(II)V"⟩, prog_1_method_8_code, 6, none, [])
def xm_T_fillUp : XM := (0, ⟨"TradeLink", "fillUp", "(II)V"⟩, prog_1_method_7_code, 4, none, [])
def xm_T_put : XM := (0, ⟨"TradeLink", "put", "(LTradeLink$Report;Z)V"⟩, prog_1_method_5_code, 4, none, [])
def xm_T_inTurn : XM := (0, ⟨"TradeLink", "inTurn", "(LTradeLink$Message;)V"⟩, prog_1_method_21_code, 2, none, [])
def xm_Y_order : XM := (12, ⟨"TradeLink$Type", "order", "()Z"⟩, prog_7_method_4_code, 1, some .boolean, [])
def xm_T_place : XM := (0, ⟨"TradeLink", "place", "(LTradeLink$Message;)V"⟩, prog_1_method_29_code, 3, none, [])
def xm_T_isUsed : XM := (0, ⟨"TradeLink", "isUsed", "(I)Z"⟩, prog_1_method_24_code, 3, some .boolean, [])
def xm_T_refuse : XM := (0, ⟨"TradeLink", "refuse", "(LTradeLink$Message;)V"⟩, prog_1_method_28_code, 2, none, [])
def xm_T_report : XM := (0, ⟨"TradeLink", "report", "(ICII)V"⟩, prog_1_method_6_code, 6, none, [])
def xm_R_init : XM := (5, ⟨"TradeLink$Report", "<init>", "()V"⟩, prog_5_method_1_code, 1, none, [])
def xm_O_init : XM := (4, ⟨"TradeLink$Order", "<init>", "()V"⟩, prog_4_method_1_code, 1, none, [])
def xm_T_use : XM := (0, ⟨"TradeLink", "use", "(I)V"⟩, prog_1_method_25_code, 2, none, [])
def xm_T_tell : XM := (0, ⟨"TradeLink", "tell", "(LTradeLink$Order;)V"⟩, prog_1_method_27_code, 2, none, [])
def xm_O_state : XM := (4, ⟨"TradeLink$Order", "state", "()I"⟩, prog_4_method_3_code, 1, some .int, [])
def xm_O_open : XM := (4, ⟨"TradeLink$Order", "open", "()Z"⟩, prog_4_method_2_code, 1, some .boolean, [])
def xm_T_alter : XM := (0, ⟨"TradeLink", "alter", "(LTradeLink$Message;)V"⟩, prog_1_method_30_code, 4, none, [])
def xm_T_find : XM := (0, ⟨"TradeLink", "find", "(I)LTradeLink$Order;"⟩, prog_1_method_26_code, 3, some (.object "TradeLink$Order"), [])
def xm_T_fill : XM := (0, ⟨"TradeLink", "fill", "(II)I"⟩, prog_1_method_31_code, 4, some .int, [])
def xm_T_length : XM := (0, ⟨"TradeLink", "length", "(I)I"⟩, prog_1_method_34_code, 2, some .int, [])
def xm_T_kept : XM := (0, ⟨"TradeLink", "kept", "(I)LTradeLink$Frame;"⟩, prog_1_method_33_code, 2, some (.object "TradeLink$Frame"), [])
def xm_T_octet : XM := (0, ⟨"TradeLink", "octet", "(II)I"⟩, prog_1_method_35_code, 4, some .int, [])
def xm_T_session : XM := (0, ⟨"TradeLink", "session", "(I)I"⟩, prog_1_method_36_code, 2, some .int, [])
def xm_T_order : XM := (0, ⟨"TradeLink", "order", "(II)I"⟩, prog_1_method_37_code, 4, some .int, [])
def xm_M_init : XM := (6, ⟨"TradeLinkModel", "<init>", "()V"⟩, prog_9_method_1_code, 1, none, [])
def xm_M_thrown : XM := (6, ⟨"TradeLinkModel", "thrown", "()I"⟩, prog_9_method_2_code, 1, some .int, [])
def xm_M_give : XM := (6, ⟨"TradeLinkModel", "give", "(IIZIII)I"⟩, prog_9_method_21_code, 7, some .int, [])
def xm_M_isType : XM := (6, ⟨"TradeLinkModel", "isType", "(I)Z"⟩, prog_9_method_20_code, 1, some .boolean, [])
def xm_M_within : XM := (6, ⟨"TradeLinkModel", "within", "(III)Z"⟩, prog_9_method_4_code, 3, some .boolean, [])
def xm_M_fail : XM := (6, ⟨"TradeLinkModel", "fail", "(I)I"⟩, prog_9_method_3_code, 2, some .int, [])
def xm_M_make : XM := (6, ⟨"TradeLinkModel", "make", "(IIZIIII)V"⟩, prog_9_method_14_code, 11, none, [])
def xm_M_letter : XM := (6, ⟨"TradeLinkModel", "letter", "(II)V"⟩, prog_9_method_8_code, 3, none, [])
def xm_M_digits : XM := (6, ⟨"TradeLinkModel", "digits", "(I)V"⟩, prog_9_method_6_code, 4, none, [])
def xm_M_put : XM := (6, ⟨"TradeLinkModel", "put", "(I)V"⟩, prog_9_method_5_code, 2, none, [])
def xm_M_room : XM := (6, ⟨"TradeLinkModel", "room", "(II)I"⟩, prog_9_method_11_code, 2, some .int, [])
def xm_M_places : XM := (6, ⟨"TradeLinkModel", "places", "(I)I"⟩, prog_9_method_9_code, 3, some .int, [])
def xm_M_body : XM := (6, ⟨"TradeLinkModel", "body", "(IIIIIZ)I"⟩, prog_9_method_12_code, 12, some .int, [])
def xm_M_name : XM := (6, ⟨"TradeLinkModel", "name", "(II)I"⟩, prog_9_method_13_code, 2, some .int, [])
def xm_M_field : XM := (6, ⟨"TradeLinkModel", "field", "(II)V"⟩, prog_9_method_7_code, 3, none, [])
def xm_M_byteAt : XM := (6, ⟨"TradeLinkModel", "byteAt", "(I)I"⟩, prog_9_method_10_code, 2, some .int, [])
def xm_M_spoil : XM := (6, ⟨"TradeLinkModel", "spoil", "(II)I"⟩, prog_9_method_22_code, 3, some .int, [])
def xm_M_add : XM := (6, ⟨"TradeLinkModel", "add", "(I)I"⟩, prog_9_method_23_code, 3, some .int, [])
def xm_M_take : XM := (6, ⟨"TradeLinkModel", "take", "()I"⟩, prog_9_method_38_code, 2, some .int, [])
def xm_M_taken : XM := (6, ⟨"TradeLinkModel", "taken", "()I"⟩, prog_9_method_37_code, 1, some .int, [])
def xm_M_good : XM := (6, ⟨"TradeLinkModel", "good", "()Z"⟩, prog_9_method_29_code, 6, some .boolean, [])
def xm_M_cut : XM := (6, ⟨"TradeLinkModel", "cut", "()Z"⟩, prog_9_method_25_code, 5, some .boolean, [])
def xm_M_digit : XM := (6, ⟨"TradeLinkModel", "digit", "(I)Z"⟩, prog_9_method_24_code, 1, some .boolean, [])
def xm_M_closed : XM := (6, ⟨"TradeLinkModel", "closed", "()Z"⟩, prog_9_method_28_code, 5, some .boolean, [])
def xm_M_numberAt : XM := (6, ⟨"TradeLinkModel", "numberAt", "(II)I"⟩, prog_9_method_26_code, 5, some .int, [])
def xm_M_letterAt : XM := (6, ⟨"TradeLinkModel", "letterAt", "(II)I"⟩, prog_9_method_27_code, 3, some .int, [])
def xm_M_leave : XM := (6, ⟨"TradeLinkModel", "leave", "()V"⟩, prog_9_method_17_code, 1, none, [])
def xm_M_send : XM := (6, ⟨"TradeLinkModel", "send", "(IIIII)V"⟩, prog_9_method_16_code, 6, none, [])
def xm_M_goes : XM := (6, ⟨"TradeLinkModel", "goes", "(IIZIIII)V"⟩, prog_9_method_15_code, 8, none, [])
def xm_M_answer : XM := (6, ⟨"TradeLinkModel", "answer", "(II)V"⟩, prog_9_method_19_code, 6, none, [])
def xm_M_ask : XM := (6, ⟨"TradeLinkModel", "ask", "()V"⟩, prog_9_method_18_code, 1, none, [])
def xm_M_orderMessage : XM := (6, ⟨"TradeLinkModel", "orderMessage", "()V"⟩, prog_9_method_35_code, 2, none, [])
def xm_M_ordered : XM := (6, ⟨"TradeLinkModel", "ordered", "()I"⟩, prog_9_method_34_code, 2, some .int, [])
def xm_M_isUsed : XM := (6, ⟨"TradeLinkModel", "isUsed", "(I)Z"⟩, prog_9_method_30_code, 4, some .boolean, [])
def xm_M_openOrder : XM := (6, ⟨"TradeLinkModel", "openOrder", "(I)I"⟩, prog_9_method_32_code, 4, some .int, [])
def xm_M_state : XM := (6, ⟨"TradeLinkModel", "state", "(I)I"⟩, prog_9_method_31_code, 2, some .int, [])
def xm_M_tell : XM := (6, ⟨"TradeLinkModel", "tell", "(I)V"⟩, prog_9_method_33_code, 2, none, [])
def xm_M_settle : XM := (6, ⟨"TradeLinkModel", "settle", "()V"⟩, prog_9_method_36_code, 1, none, [])
def xm_M_tick : XM := (6, ⟨"TradeLinkModel", "tick", "()I"⟩, prog_9_method_39_code, 1, some .int, [])
def xm_M_restart : XM := (6, ⟨"TradeLinkModel", "restart", "()Z"⟩, prog_9_method_40_code, 2, some .boolean, [])
def xm_M_fill : XM := (6, ⟨"TradeLinkModel", "fill", "(II)I"⟩, prog_9_method_41_code, 4, some .int, [])
def xm_M_frames : XM := (6, ⟨"TradeLinkModel", "frames", "()I"⟩, prog_9_method_42_code, 1, some .int, [])
def xm_M_length : XM := (6, ⟨"TradeLinkModel", "length", "(I)I"⟩, prog_9_method_43_code, 2, some .int, [])
def xm_M_octet : XM := (6, ⟨"TradeLinkModel", "octet", "(II)I"⟩, prog_9_method_44_code, 3, some .int, [])
def xm_M_session : XM := (6, ⟨"TradeLinkModel", "session", "(I)I"⟩, prog_9_method_45_code, 2, some .int, [])
def xm_M_order : XM := (6, ⟨"TradeLinkModel", "order", "(II)I"⟩, prog_9_method_46_code, 5, some .int, [])
def xm_L_give : XM := (11, ⟨"TradeLinkLaw", "give", "(LTradeLink;IIZIII[J)I"⟩, method_3_code, 9, some .int, [(0, 18, 21, 13)])
def xm_L_spoil : XM := (11, ⟨"TradeLinkLaw", "spoil", "(LTradeLink;II[J)I"⟩, method_4_code, 5, some .int, [(0, 10, 13, 19), (0, 10, 17, 13)])
def xm_L_add : XM := (11, ⟨"TradeLinkLaw", "add", "(LTradeLink;I[J)I"⟩, method_5_code, 4, some .int, [(0, 9, 12, 13), (0, 9, 15, 25)])
def xm_L_take : XM := (11, ⟨"TradeLinkLaw", "take", "(LTradeLink;[J)I"⟩, method_6_code, 3, some .int, [(0, 8, 11, 25)])
def xm_T_garbled : XM := (0, ⟨"TradeLink", "garbled", "()Z"⟩, prog_1_method_16_code, 2, some .boolean, [(0, 15, 18, 184)])
def xm_L_fill : XM := (11, ⟨"TradeLinkLaw", "fill", "(LTradeLink;II[J)I"⟩, method_7_code, 5, some .int, [(0, 10, 13, 34), (0, 10, 17, 13)])
def xm_L_length : XM := (11, ⟨"TradeLinkLaw", "length", "(LTradeLink;I[J)I"⟩, method_8_code, 4, some .int, [(0, 9, 12, 19)])
def xm_L_octet : XM := (11, ⟨"TradeLinkLaw", "octet", "(LTradeLink;II[J)I"⟩, method_9_code, 5, some .int, [(0, 10, 13, 19)])
def xm_L_session : XM := (11, ⟨"TradeLinkLaw", "session", "(LTradeLink;I[J)I"⟩, method_10_code, 4, some .int, [(0, 9, 12, 19)])
def xm_L_order : XM := (11, ⟨"TradeLinkLaw", "order", "(LTradeLink;II[J)I"⟩, method_11_code, 5, some .int, [(0, 10, 13, 34), (0, 10, 17, 19)])
/-- the state of the law's world: int fields, reference fields, int arrays, reference arrays (by 100 * cell + field, by cell), the law's own long -/
abbrev XS : Type := (Nat → Int32) × (Nat → Nat) × (Nat → Nat → Int32) × (Nat → Nat → Nat) × (Nat → Int64)
def gF (S : XS) (k : Nat) : Int32 := S.1 k
def gR (S : XS) (k : Nat) : Nat := S.2.1 k
def gA (S : XS) (j : Nat) : Nat → Int32 := S.2.2.1 j
def gB (S : XS) (j : Nat) : Nat → Nat := S.2.2.2.1 j
def gO (S : XS) : Nat → Int64 := S.2.2.2.2
def sF (S : XS) (k : Nat) (v : Int32) : XS := (fun j => bif Nat.beq j k then v else S.1 j, S.2.1, S.2.2.1, S.2.2.2.1, S.2.2.2.2)
def sR (S : XS) (k : Nat) (v : Nat) : XS := (S.1, fun j => bif Nat.beq j k then v else S.2.1 j, S.2.2.1, S.2.2.2.1, S.2.2.2.2)
def sA (S : XS) (k : Nat) (v : Nat → Int32) : XS := (S.1, S.2.1, fun j => bif Nat.beq j k then v else S.2.2.1 j, S.2.2.2.1, S.2.2.2.2)
def sB (S : XS) (k : Nat) (v : Nat → Nat) : XS := (S.1, S.2.1, S.2.2.1, fun j => bif Nat.beq j k then v else S.2.2.2.1 j, S.2.2.2.2)
def sO (S : XS) (v : Nat → Int64) : XS := (S.1, S.2.1, S.2.2.1, S.2.2.2.1, v)
theorem xbif {α : Type} (j k : Nat) (a b : α) : (bif Nat.beq j k then a else b) = if j = k then a else b := by
  by_cases h : j = k
  · subst h
    rw [if_pos rfl, show Nat.beq j j = true from Nat.beq_refl j]
    rfl
  · rw [if_neg h, show Nat.beq j k = false from (Bool.eq_false_iff.mpr (fun h2 => h (Nat.eq_of_beq_eq_true h2)))]
    rfl
theorem gF_sF (S : XS) (k j : Nat) (v : Int32) : gF (sF S k v) j = if j = k then v else gF S j := xbif j k _ _
theorem gR_sR (S : XS) (k j : Nat) (v : Nat) : gR (sR S k v) j = if j = k then v else gR S j := xbif j k _ _
theorem gA_sA (S : XS) (k j : Nat) (v : Nat → Int32) : gA (sA S k v) j = if j = k then v else gA S j := xbif j k _ _
theorem gB_sB (S : XS) (k j : Nat) (v : Nat → Nat) : gB (sB S k v) j = if j = k then v else gB S j := xbif j k _ _
theorem gO_sO (S : XS) (v : Nat → Int64) : gO (sO S v) = v := rfl
theorem gF_sR (S : XS) (k : Nat) (v : Nat) (j : Nat) : gF (sR S k v) j = gF S j := rfl
theorem gF_sA (S : XS) (k : Nat) (v : Nat → Int32) (j : Nat) : gF (sA S k v) j = gF S j := rfl
theorem gF_sB (S : XS) (k : Nat) (v : Nat → Nat) (j : Nat) : gF (sB S k v) j = gF S j := rfl
theorem gF_sO (S : XS) (v : Nat → Int64) (j : Nat) : gF (sO S v) j = gF S j := rfl
theorem gR_sF (S : XS) (k : Nat) (v : Int32) (j : Nat) : gR (sF S k v) j = gR S j := rfl
theorem gR_sA (S : XS) (k : Nat) (v : Nat → Int32) (j : Nat) : gR (sA S k v) j = gR S j := rfl
theorem gR_sB (S : XS) (k : Nat) (v : Nat → Nat) (j : Nat) : gR (sB S k v) j = gR S j := rfl
theorem gR_sO (S : XS) (v : Nat → Int64) (j : Nat) : gR (sO S v) j = gR S j := rfl
theorem gA_sF (S : XS) (k : Nat) (v : Int32) (j : Nat) : gA (sF S k v) j = gA S j := rfl
theorem gA_sR (S : XS) (k : Nat) (v : Nat) (j : Nat) : gA (sR S k v) j = gA S j := rfl
theorem gA_sB (S : XS) (k : Nat) (v : Nat → Nat) (j : Nat) : gA (sB S k v) j = gA S j := rfl
theorem gA_sO (S : XS) (v : Nat → Int64) (j : Nat) : gA (sO S v) j = gA S j := rfl
theorem gB_sF (S : XS) (k : Nat) (v : Int32) (j : Nat) : gB (sF S k v) j = gB S j := rfl
theorem gB_sR (S : XS) (k : Nat) (v : Nat) (j : Nat) : gB (sR S k v) j = gB S j := rfl
theorem gB_sA (S : XS) (k : Nat) (v : Nat → Int32) (j : Nat) : gB (sA S k v) j = gB S j := rfl
theorem gB_sO (S : XS) (v : Nat → Int64) (j : Nat) : gB (sO S v) j = gB S j := rfl
theorem gO_sF (S : XS) (k : Nat) (v : Int32) : gO (sF S k v) = gO S := rfl
theorem gO_sR (S : XS) (k : Nat) (v : Nat) : gO (sR S k v) = gO S := rfl
theorem gO_sA (S : XS) (k : Nat) (v : Nat → Int32) : gO (sA S k v) = gO S := rfl
theorem gO_sB (S : XS) (k : Nat) (v : Nat → Nat) : gO (sB S k v) = gO S := rfl
def xc0 (S : XS) : AE := xO 0 [.ref 17, .ref 19, .ref 20, .ref 21, .int (gF S 4), .int (gF S 5), .int (gF S 6), .int (gF S 7), .int (gF S 8), .int (gF S 9), .int (gF S 10), .int (gF S 11), .int (gF S 12), .ref (gR S 13), .ref (gR S 14), .ref 22, .int (gF S 16), .int (gF S 17), .int (gF S 18), .ref 23]
def xc1 (S : XS) : AE := xO 1 [.ref 18, .int (gF S 101), .int (gF S 102)]
def xc2 (S : XS) : AE := xI 1 120 (gA S 2)
def xc3 (S : XS) : AE := xO 2 [.ref (gR S 300), .int (gF S 301), .int (gF S 302), .int (gF S 303), .int (gF S 304), .int (gF S 305)]
def xc4 (S : XS) : AE := xO 3 [.ref (gR S 400), .int (gF S 401)]
def xc5 (S : XS) : AE := xA 4 21 (gB S 5)
def xc6 (S : XS) : AE := xA 5 40 (gB S 6)
def xc7 (S : XS) : AE := xI 0 520 (gA S 7)
def xc8 (S : XS) : AE := xO 6 [.int (gF S 800), .int (gF S 801), .int (gF S 802), .ref 25, .int (gF S 804), .ref 26, .ref 27, .ref 28, .int (gF S 808), .int (gF S 809), .int (gF S 810), .int (gF S 811), .int (gF S 812), .int (gF S 813), .int (gF S 814), .int (gF S 815), .ref 29, .ref 30, .int (gF S 818), .int (gF S 819), .int (gF S 820), .int (gF S 821), .int (gF S 822), .int (gF S 823), .int (gF S 824), .int (gF S 825), .int (gF S 826), .ref 31, .ref 32, .int (gF S 829), .ref 33, .ref 34, .ref 35, .ref 36, .ref 37, .int (gF S 835), .int (gF S 836), .ref 38, .int (gF S 838)]
def xc9 (S : XS) : AE := xI 0 120 (gA S 9)
def xc10 (S : XS) : AE := xI 0 41 (gA S 10)
def xc11 (S : XS) : AE := xI 0 41 (gA S 11)
def xc12 (S : XS) : AE := xI 0 41 (gA S 12)
def xc13 (S : XS) : AE := xI 0 2400 (gA S 13)
def xc14 (S : XS) : AE := xI 0 20 (gA S 14)
def xc15 (S : XS) : AE := xI 2 1600 (gA S 15)
def xc16 (S : XS) : AE := xI 0 6400 (gA S 16)
def xc17 (S : XS) : AE := xI 0 40 (gA S 17)
def xc18 (S : XS) : AE := xI 0 40 (gA S 18)
def xc19 (S : XS) : AE := xI 0 40 (gA S 19)
def xc20 (S : XS) : AE := xI 0 40 (gA S 20)
def xc21 (S : XS) : AE := xI 2 40 (gA S 21)
def xc22 (S : XS) : AE := xI 0 520 (gA S 22)
def xc23 (S : XS) : AE := xL 1 (gO S)
def hL (S : XS) (r : List AE) : List AE := xc0 S :: xc1 S :: xc2 S :: xc3 S :: xc4 S :: xc5 S :: xc6 S :: xc7 S :: xc8 S :: xc9 S :: xc10 S :: xc11 S :: xc12 S :: xc13 S :: xc14 S :: xc15 S :: xc16 S :: xc17 S :: xc18 S :: xc19 S :: xc20 S :: xc21 S :: xc22 S :: xc23 S :: r
/-- a cell behind the fixed ones -/
def rl (r : List AE) (a : Nat) : Option AE := if a < 40 then none else r[a - 40]?
def rset (r : List AE) (a : Nat) (e : AE) : List AE := r.set (a - 40) e
theorem rl_ge {r : List AE} {a : Nat} {e : AE} (h : rl r a = some e) : 40 ≤ a ∧ a - 40 < r.length := by
  unfold rl at h
  split at h
  · cases h
  · exact ⟨by omega, (List.getElem?_eq_some_iff.mp h).1⟩
theorem hL_get (S : XS) (r : List AE) (n : Nat) : (hL S r)[n + 24]? = r[n]? := rfl
theorem rl_at {S : XS} {r : List AE} {a : Nat} {e : AE} (h : rl r a = some e) : xat (hL S r) a = some e := by
  have h1 := rl_ge h
  unfold rl at h
  rw [if_neg (by omega)] at h
  unfold xat
  rw [if_neg (by omega), show a - 16 = a - 40 + 24 by omega, hL_get]
  exact h
theorem hL_set (S : XS) (r : List AE) (n : Nat) (e : AE) : (hL S r).set (n + 24) e = hL S (r.set n e) := rfl
theorem hL_put {S : XS} {r : List AE} {a : Nat} (e : AE) (h : 40 ≤ a) : xput (hL S r) a e = hL S (rset r a e) := by
  unfold xput rset
  rw [show a - 16 = a - 40 + 24 by omega, hL_set]
theorem hL_len (S : XS) (r : List AE) : (hL S r).length = r.length + 24 := rfl
theorem hL_hsz (S : XS) (r : List AE) : hsz (hL S r) = hsz r + 12155 := by
  show 20 + (3 + (120 + (6 + (2 + (21 + (40 + (520 + (39 + (120 + (41 + (41 + (41 + (2400 + (20 + (1600 + (6400 + (40 + (40 + (40 + (40 + (40 + (520 + (1 + hsz r))))))))))))))))))))))) = _
  omega
theorem hL_app (S : XS) (r q : List AE) : hL S r ++ q = hL S (r ++ q) := rfl
/-- room for more -/
def bud (r : List AE) : Prop := r.length ≤ 100000 ∧ hsz r ≤ 2000000
theorem bud_ok {S : XS} {r : List AE} (h : bud r) : (hL S r).length + 2 ≤ xCB ∧ hsz (hL S r) + 1000 ≤ xSB := by
  rw [hL_len, hL_hsz]
  obtain ⟨h1, h2⟩ := h
  exact ⟨by show _ ≤ 601024; omega, by show _ ≤ 7293034; omega⟩
/-- how methods end on the law's heap: void, int, reference; those that may throw tell the exception's class -/
def pV (K : XS → List AE → Prop) : XOut → List AE → Prop := fun u hp => ∃ S r, u = .inl none ∧ hp = hL S r ∧ K S r
def pI (K : Int32 → XS → List AE → Prop) : XOut → List AE → Prop := fun u hp => ∃ x S r, u = .inl (some (.int x)) ∧ hp = hL S r ∧ K x S r
def pR (K : Nat → XS → List AE → Prop) : XOut → List AE → Prop := fun u hp => ∃ x S r, u = .inl (some (.ref x)) ∧ hp = hL S r ∧ K x S r
def pT (KT : Nat → XS → List AE → Prop) : XOut → List AE → Prop := fun u hp => ∃ n ci S r, u = .inr n ∧ hp = hL S r ∧ xat hp n = some (xO ci []) ∧ KT ci S r
def qV (K : XS → List AE → Prop) (KT : Nat → XS → List AE → Prop) : XOut → List AE → Prop := fun u hp => pV K u hp ∨ pT KT u hp
def qI (K : Int32 → XS → List AE → Prop) (KT : Nat → XS → List AE → Prop) : XOut → List AE → Prop := fun u hp => pI K u hp ∨ pT KT u hp
def qR (K : Nat → XS → List AE → Prop) (KT : Nat → XS → List AE → Prop) : XOut → List AE → Prop := fun u hp => pR K u hp ∨ pT KT u hp
/-- methods that touch no heap -/
def nI_ (hp : List AE) (K : Int32 → Prop) : XOut → List AE → Prop := fun u hp' => ∃ x, u = .inl (some (.int x)) ∧ hp' = hp ∧ K x
def nR_ (hp : List AE) (K : Nat → Prop) : XOut → List AE → Prop := fun u hp' => ∃ x, u = .inl (some (.ref x)) ∧ hp' = hp ∧ K x
theorem xall_nil : xall [] := trivial
theorem xall_cons {P : Prop} {r : List Prop} (h : P) (t : xall r) : xall (P :: r) := ⟨h, t⟩
theorem xSee_nil (hp : List AE) : xSee hp [] := ⟨fun j q h => by simp at h, fun i j x y h => by simp at h⟩
theorem xSee_cons {hp : List AE} {ws : List (Nat × AE)} {a : Nat} {e : AE} (h1 : xat hp a = some e) (h2 : ∀ q ∈ ws, q.1 ≠ a) (h3 : xSee hp ws) : xSee hp ((a, e) :: ws) := by
  refine ⟨fun j q hj => ?_, fun i j x y hi hj hxy => ?_⟩
  · cases j with
    | zero => cases hj; exact h1
    | succ j => exact h3.1 j q hj
  · cases i with
    | zero =>
      cases j with
      | zero => rfl
      | succ j =>
        cases hi
        exact absurd hxy.symm (h2 y (List.mem_of_getElem? hj))
    | succ i =>
      cases j with
      | zero =>
        cases hj
        exact absurd hxy (h2 x (List.mem_of_getElem? hi))
      | succ j => rw [h3.2 i j x y hi hj hxy]
theorem xne_nil (a : Nat) : ∀ q ∈ ([] : List (Nat × AE)), q.1 ≠ a := fun q h => by cases h
theorem xne_cons {ws : List (Nat × AE)} {a b : Nat} {e : AE} (h : b ≠ a) (t : ∀ q ∈ ws, q.1 ≠ a) : ∀ q ∈ ((b, e) :: ws : List (Nat × AE)), q.1 ≠ a := fun q hq => by
  rcases List.mem_cons.mp hq with rfl | hq
  · exact h
  · exact t q hq
/-- fewer locals known -/
def xle : List Value → List Value → Prop
  | [], [] => True
  | v :: a, w :: b => (w = .null ∨ w = v) ∧ xle a b
  | _, _ => False
theorem xle_nil : xle [] [] := trivial
theorem xle_eq {v : Value} {a b : List Value} (t : xle a b) : xle (v :: a) (v :: b) := ⟨Or.inr rfl, t⟩
theorem xle_no {v : Value} {a b : List Value} (t : xle a b) : xle (v :: a) (.null :: b) := ⟨Or.inl rfl, t⟩
theorem xle_at : ∀ {a b : List Value}, xle a b → a.length = b.length ∧ ∀ (i : Nat) (v : Value), b[i]? = some v → v ≠ .null → a[i]? = some v
  | [], [], _ => ⟨rfl, fun i v h _ => h⟩
  | v :: a, w :: b, h => by
    obtain ⟨h1, h2⟩ := xle_at h.2
    refine ⟨by simp [h1], fun i z hz hn => ?_⟩
    cases i with
    | zero =>
      cases hz
      rcases h.1 with h3 | h3
      · exact absurd h3 hn
      · rw [h3]; rfl
    | succ i => exact h2 i z hz hn
theorem xRn.forget {G : XG} {l : Launch} {d : Nat} {X : XM} {Q : XOut → List AE → Prop} {pc : Nat} {ls ls' st : List Value} {hp : List AE} (h : xle ls ls') (k : xRn G l d X Q pc ls' st hp) : xRn G l d X Q pc ls st hp := by
  intro he p e s m args below meth c C H locs cls h1 h2 h3 h4 h5 h6
  obtain ⟨g1, g2⟩ := xle_at h
  exact k he p e s m args below meth c C H locs cls h1 h2 h3 h4 h5 ⟨h6.1.trans g1, h6.2.1, fun i v hv hn => h6.2.2 i v (g2 i v hv hn) hn⟩
theorem xRn.throwL {G : XG} {l : Launch} {d : Nat} {X : XM} {K : Nat → XS → List AE → Prop} {Q : XOut → List AE → Prop} {pc pc1 pc2 pc3 idx ic ci : Nat} {ls : List Value} {S : XS} {r : List AE} (hd0 : decode X.code pc = .ok (.new idx, 3)) (hd1 : decode X.code pc1 = .ok (.dup, 1)) (hd2 : decode X.code pc2 = .ok (.invokespecial ic, 3)) (hd3 : decode X.code pc3 = .ok (.athrow, 1)) (e1 : pc + 3 = pc1) (e2 : pc1 + 1 = pc2) (e3 : pc2 + 3 = pc3)
    (hr : (X.own, idx, ci) ∈ xCr) (hci : 7 ≤ ci ∧ ci < 11) (hat : ∀ a ∈ Bundle.ownAtoms0 (xR X.own) ic (xR ci) xnames, (a ∈ lw_tbl ∧ xgw a = true) ∨ a ∈ xTw) (hfit : Bundle.fit (xR ci) = true) (ho : xout X pc3 = true) (hdd : 6 ≤ d) (hls : ls.length = X.maxL) (hb : bud r) (hq : ∀ u hp, pT K u hp → Q u hp) (hK : K ci S (r ++ [xO ci []])) : xRn G l d X Q pc ls [] (hL S r) := by
  have hb2 := bud_ok (S := S) hb
  refine xRn.throw hd0 hd1 hd2 hd3 e1 e2 e3 hr hci hat hfit ho hdd hls (by omega) (by omega) (hq _ _ ?_)
  refine ⟨_, ci, S, r ++ [xO ci []], rfl, rfl, ?_, hK⟩
  unfold xat
  rw [if_neg (by omega), show 16 + (hL S r).length - 16 = (hL S r).length by omega, List.getElem?_append_right (Nat.le_refl _), Nat.sub_self]
  rfl
def xlkMath (X : XM) (idx : Nat) (y : MethodName) (cd : ByteArray) : Prop := Cond.methodLink (xR X.own) idx y ∈ lw_tbl ∧ Cond.static y ∈ lw_tbl ∧ Cond.initialized "java/lang/Math" ∈ lw_tbl ∧ Cond.code y cd 2 (some .int) ∈ lw_tbl
theorem xRn.mmax {G : XG} {l : Launch} {d : Nat} {X : XM} {Q : XOut → List AE → Prop} {pc nx idx : Nat} {ls st : List Value} {hp : List AE} {x y : Int32} (hd : decode X.code pc = .ok (.invokestatic idx, 3)) (hk : xlkMath X idx Lib.Math.max.name Lib.Math.max.code) (hst : (st.map fun v => v.category).sum ≤ 8) (hls : ls.length = X.maxL) (hx : pc + 3 = nx) (k : xRn G l (d + 1) X Q nx ls (.int (if x < y then y else x) :: st) hp) : xRn G l (d + 1) X Q pc ls (.int y :: .int x :: st) hp := by
  subst hx
  intro he p e s m args below meth c C H locs cls h1 h2 h3 h4 h5 h6
  have hsum : ((st.map (xcv G)).map fun v => v.category).sum = (st.map fun v => v.category).sum := by
    rw [List.map_map]
    congr 1
    apply List.map_congr_left
    intro v _
    exact xcv_cat G v
  exact va_mmax C.ex C.cd (by rw [C.ml, ← hls]; exact h6.1.symm) C.ow (C.wd args _ (xw_in hk.1 rfl)) (C.wd args _ (xw_in hk.2.1 rfl)) (C.wd args _ (xw_in hk.2.2.1 rfl)) (C.wd args _ (xw_in hk.2.2.2 rfl)) (by show 1 ≤ d + 1; omega) (by rw [hsum]; show _ ≤ 37 * (d + 1); omega) (by show _ ≤ xCB - he.length; omega) (by show _ ≤ xSB - hsz he; omega) hd (k he p e s m args below meth c C H locs cls h1 h2 h3 h4 h5 h6)
theorem xRn.mmin {G : XG} {l : Launch} {d : Nat} {X : XM} {Q : XOut → List AE → Prop} {pc nx idx : Nat} {ls st : List Value} {hp : List AE} {x y : Int32} (hd : decode X.code pc = .ok (.invokestatic idx, 3)) (hk : xlkMath X idx Lib.Math.min.name Lib.Math.min.code) (hst : (st.map fun v => v.category).sum ≤ 8) (hls : ls.length = X.maxL) (hx : pc + 3 = nx) (k : xRn G l (d + 1) X Q nx ls (.int (if y < x then y else x) :: st) hp) : xRn G l (d + 1) X Q pc ls (.int y :: .int x :: st) hp := by
  subst hx
  intro he p e s m args below meth c C H locs cls h1 h2 h3 h4 h5 h6
  have hsum : ((st.map (xcv G)).map fun v => v.category).sum = (st.map fun v => v.category).sum := by
    rw [List.map_map]
    congr 1
    apply List.map_congr_left
    intro v _
    exact xcv_cat G v
  exact va_mmin C.ex C.cd (by rw [C.ml, ← hls]; exact h6.1.symm) C.ow (C.wd args _ (xw_in hk.1 rfl)) (C.wd args _ (xw_in hk.2.1 rfl)) (C.wd args _ (xw_in hk.2.2.1 rfl)) (C.wd args _ (xw_in hk.2.2.2 rfl)) (by show 1 ≤ d + 1; omega) (by rw [hsum]; show _ ≤ 37 * (d + 1); omega) (by show _ ≤ xCB - he.length; omega) (by show _ ≤ xSB - hsz he; omega) hd (k he p e s m args below meth c C H locs cls h1 h2 h3 h4 h5 h6)
