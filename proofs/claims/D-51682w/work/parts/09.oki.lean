/-! THE LIST OF METHODS; printed by tools/okgen.py -/
set_option maxRecDepth 100000
abbrev Y_L_law : XInf := (0, ⟨"WreckSharesLaw", "law", "([I)Z"⟩, cL_law, 9, (Option.some Jvm.ClassFile.FieldType.boolean), [])
abbrev Y_X0_account : XInf := (1, ⟨"WreckSharesLaw", "account", "(LWreckShares;I[J)I"⟩, cX0_account, 4, (Option.some Jvm.ClassFile.FieldType.int), [((0 : Nat), (9 : Nat), (12 : Nat), (13 : Nat))])
abbrev Y_X0_cause : XInf := (2, ⟨"WreckSharesLaw", "cause", "(LWreckShares;I[J)I"⟩, cX0_cause, 4, (Option.some Jvm.ClassFile.FieldType.int), [((0 : Nat), (9 : Nat), (12 : Nat), (25 : Nat))])
abbrev Y_X0_claim : XInf := (3, ⟨"WreckSharesLaw", "claim", "(LWreckShares;I[J)I"⟩, cX0_claim, 4, (Option.some Jvm.ClassFile.FieldType.int), [((0 : Nat), (9 : Nat), (12 : Nat), (13 : Nat))])
abbrev Y_X0_claimCosts : XInf := (4, ⟨"WreckSharesLaw", "claimCosts", "(LWreckShares;I[J)I"⟩, cX0_claimCosts, 4, (Option.some Jvm.ClassFile.FieldType.int), [((0 : Nat), (9 : Nat), (12 : Nat), (25 : Nat))])
abbrev Y_X0_claimTime : XInf := (5, ⟨"WreckSharesLaw", "claimTime", "(LWreckShares;I[J)I"⟩, cX0_claimTime, 4, (Option.some Jvm.ClassFile.FieldType.int), [((0 : Nat), (9 : Nat), (12 : Nat), (25 : Nat))])
abbrev Y_X0_count : XInf := (6, ⟨"WreckSharesLaw", "count", "(LWreckShares;II[J)I"⟩, cX0_count, 5, (Option.some Jvm.ClassFile.FieldType.int), [((0 : Nat), (10 : Nat), (13 : Nat), (13 : Nat))])
abbrev Y_X0_crownShare : XInf := (7, ⟨"WreckSharesLaw", "crownShare", "(LWreckShares;I[J)I"⟩, cX0_crownShare, 4, (Option.some Jvm.ClassFile.FieldType.int), [((0 : Nat), (9 : Nat), (12 : Nat), (25 : Nat))])
abbrev Y_X0_divide : XInf := (8, ⟨"WreckSharesLaw", "divide", "(LWreckShares;I[J)I"⟩, cX0_divide, 4, (Option.some Jvm.ClassFile.FieldType.int), [((0 : Nat), (9 : Nat), (12 : Nat), (25 : Nat))])
abbrev Y_X0_dryIn : XInf := (9, ⟨"WreckSharesLaw", "dryIn", "(LWreckShares;I[J)I"⟩, cX0_dryIn, 4, (Option.some Jvm.ClassFile.FieldType.int), [((0 : Nat), (9 : Nat), (12 : Nat), (25 : Nat))])
abbrev Y_X0_dryTicks : XInf := (10, ⟨"WreckSharesLaw", "dryTicks", "(LWreckShares;I[J)I"⟩, cX0_dryTicks, 4, (Option.some Jvm.ClassFile.FieldType.int), [((0 : Nat), (9 : Nat), (12 : Nat), (25 : Nat))])
abbrev Y_X0_earned : XInf := (11, ⟨"WreckSharesLaw", "earned", "(LWreckShares;I[J)I"⟩, cX0_earned, 4, (Option.some Jvm.ClassFile.FieldType.int), [((0 : Nat), (9 : Nat), (12 : Nat), (25 : Nat))])
abbrev Y_X0_finder : XInf := (12, ⟨"WreckSharesLaw", "finder", "(LWreckShares;II[J)I"⟩, cX0_finder, 5, (Option.some Jvm.ClassFile.FieldType.int), [((0 : Nat), (10 : Nat), (13 : Nat), (25 : Nat)), ((0 : Nat), (10 : Nat), (17 : Nat), (13 : Nat))])
abbrev Y_X0_format : XInf := (13, ⟨"WreckSharesLaw", "format", "(LWreckShares;I[J)I"⟩, cX0_format, 4, (Option.some Jvm.ClassFile.FieldType.int), [((0 : Nat), (9 : Nat), (12 : Nat), (25 : Nat))])
abbrev Y_X0_good : XInf := (14, ⟨"WreckSharesLaw", "good", "(LWreckShares;II[J)I"⟩, cX0_good, 5, (Option.some Jvm.ClassFile.FieldType.int), [((0 : Nat), (10 : Nat), (13 : Nat), (25 : Nat)), ((0 : Nat), (10 : Nat), (17 : Nat), (13 : Nat))])
abbrev Y_X0_hand : XInf := (15, ⟨"WreckSharesLaw", "hand", "(LWreckShares;IIZ[J)I"⟩, cX0_hand, 6, (Option.some Jvm.ClassFile.FieldType.int), [((0 : Nat), (12 : Nat), (15 : Nat), (25 : Nat))])
abbrev Y_X0_haul : XInf := (16, ⟨"WreckSharesLaw", "haul", "(LWreckShares;I[J)I"⟩, cX0_haul, 4, (Option.some Jvm.ClassFile.FieldType.int), [((0 : Nat), (9 : Nat), (12 : Nat), (25 : Nat))])
abbrev Y_X0_level : XInf := (17, ⟨"WreckSharesLaw", "level", "(LWreckShares;I[J)I"⟩, cX0_level, 4, (Option.some Jvm.ClassFile.FieldType.int), [((0 : Nat), (9 : Nat), (12 : Nat), (13 : Nat))])
abbrev Y_X0_load : XInf := (18, ⟨"WreckSharesLaw", "load", "(LWreckShares;I[J)I"⟩, cX0_load, 4, (Option.some Jvm.ClassFile.FieldType.int), [((0 : Nat), (9 : Nat), (12 : Nat), (13 : Nat))])
abbrev Y_X0_lossIn : XInf := (19, ⟨"WreckSharesLaw", "lossIn", "(LWreckShares;I[J)I"⟩, cX0_lossIn, 4, (Option.some Jvm.ClassFile.FieldType.int), [((0 : Nat), (9 : Nat), (12 : Nat), (13 : Nat))])
abbrev Y_X0_lostIn : XInf := (20, ⟨"WreckSharesLaw", "lostIn", "(LWreckShares;I[J)I"⟩, cX0_lostIn, 4, (Option.some Jvm.ClassFile.FieldType.int), [((0 : Nat), (9 : Nat), (12 : Nat), (25 : Nat))])
abbrev Y_X0_marked : XInf := (21, ⟨"WreckSharesLaw", "marked", "(LWreckShares;II[J)I"⟩, cX0_marked, 5, (Option.some Jvm.ClassFile.FieldType.int), [((0 : Nat), (10 : Nat), (13 : Nat), (13 : Nat))])
abbrev Y_X0_off : XInf := (22, ⟨"WreckSharesLaw", "off", "(LWreckShares;I[J)I"⟩, cX0_off, 4, (Option.some Jvm.ClassFile.FieldType.int), [((0 : Nat), (9 : Nat), (12 : Nat), (25 : Nat))])
abbrev Y_X0_owner : XInf := (23, ⟨"WreckSharesLaw", "owner", "(LWreckShares;I[J)I"⟩, cX0_owner, 4, (Option.some Jvm.ClassFile.FieldType.int), [((0 : Nat), (9 : Nat), (12 : Nat), (13 : Nat))])
abbrev Y_X0_ownerShare : XInf := (24, ⟨"WreckSharesLaw", "ownerShare", "(LWreckShares;I[J)I"⟩, cX0_ownerShare, 4, (Option.some Jvm.ClassFile.FieldType.int), [((0 : Nat), (9 : Nat), (12 : Nat), (25 : Nat))])
abbrev Y_X0_pay : XInf := (25, ⟨"WreckSharesLaw", "pay", "(LWreckShares;III[J)I"⟩, cX0_pay, 6, (Option.some Jvm.ClassFile.FieldType.int), [((0 : Nat), (12 : Nat), (15 : Nat), (25 : Nat)), ((0 : Nat), (12 : Nat), (19 : Nat), (13 : Nat))])
abbrev Y_X0_play : XInf := (26, ⟨"WreckSharesLaw", "play", "(LWreckShares;I[J)I"⟩, cX0_play, 4, (Option.some Jvm.ClassFile.FieldType.int), [((0 : Nat), (9 : Nat), (12 : Nat), (13 : Nat))])
abbrev Y_X0_purseIf : XInf := (27, ⟨"WreckSharesLaw", "purseIf", "(LWreckShares;I[J)I"⟩, cX0_purseIf, 4, (Option.some Jvm.ClassFile.FieldType.int), [((0 : Nat), (9 : Nat), (12 : Nat), (25 : Nat))])
abbrev Y_X0_rope : XInf := (28, ⟨"WreckSharesLaw", "rope", "(LWreckShares;II[J)I"⟩, cX0_rope, 5, (Option.some Jvm.ClassFile.FieldType.int), [((0 : Nat), (10 : Nat), (13 : Nat), (25 : Nat))])
abbrev Y_X0_share : XInf := (29, ⟨"WreckSharesLaw", "share", "(LWreckShares;II[J)I"⟩, cX0_share, 5, (Option.some Jvm.ClassFile.FieldType.int), [((0 : Nat), (10 : Nat), (13 : Nat), (25 : Nat))])
abbrev Y_X0_size : XInf := (30, ⟨"WreckSharesLaw", "size", "(LWreckShares;I[J)I"⟩, cX0_size, 4, (Option.some Jvm.ClassFile.FieldType.int), [((0 : Nat), (9 : Nat), (12 : Nat), (13 : Nat))])
abbrev Y_X0_ticks : XInf := (31, ⟨"WreckSharesLaw", "ticks", "(LWreckShares;I[J)I"⟩, cX0_ticks, 4, (Option.some Jvm.ClassFile.FieldType.int), [((0 : Nat), (9 : Nat), (12 : Nat), (13 : Nat))])
abbrev Y_X0_unequal : XInf := (32, ⟨"WreckSharesLaw", "unequal", "(LWreckShares;I[J)I"⟩, cX0_unequal, 4, (Option.some Jvm.ClassFile.FieldType.int), [((0 : Nat), (9 : Nat), (12 : Nat), (25 : Nat))])
abbrev Y_X0_why : XInf := (33, ⟨"WreckSharesLaw", "why", "(LWreckShares;I[J)I"⟩, cX0_why, 4, (Option.some Jvm.ClassFile.FieldType.int), [((0 : Nat), (9 : Nat), (12 : Nat), (25 : Nat))])
abbrev Y_X0_whyDivide : XInf := (34, ⟨"WreckSharesLaw", "whyDivide", "(LWreckShares;I[J)I"⟩, cX0_whyDivide, 4, (Option.some Jvm.ClassFile.FieldType.int), [((0 : Nat), (9 : Nat), (12 : Nat), (25 : Nat))])
abbrev Y_X1_account : XInf := (35, ⟨"WreckShares", "account", "(I)I"⟩, cX1_account, 2, (Option.some Jvm.ClassFile.FieldType.int), [])
abbrev Y_X1_append : XInf := (36, ⟨"WreckShares", "append", "(I)V"⟩, cX1_append, 3, (Option.none : Option Jvm.ClassFile.FieldType), [])
abbrev Y_X1_asInt : XInf := (37, ⟨"WreckShares", "asInt", "(Z)I"⟩, cX1_asInt, 1, (Option.some Jvm.ClassFile.FieldType.int), [])
abbrev Y_X1_bestClaim : XInf := (38, ⟨"WreckShares", "bestClaim", "()I"⟩, cX1_bestClaim, 7, (Option.some Jvm.ClassFile.FieldType.int), [])
abbrev Y_X1_bestHaul : XInf := (39, ⟨"WreckShares", "bestHaul", "()I"⟩, cX1_bestHaul, 6, (Option.some Jvm.ClassFile.FieldType.int), [])
abbrev Y_X1_cause : XInf := (40, ⟨"WreckShares", "cause", "(I)I"⟩, cX1_cause, 3, (Option.some Jvm.ClassFile.FieldType.int), [])
abbrev Y_X1_claim : XInf := (41, ⟨"WreckShares", "claim", "(I)I"⟩, cX1_claim, 2, (Option.some Jvm.ClassFile.FieldType.int), [])
abbrev Y_X1_claimCosts : XInf := (42, ⟨"WreckShares", "claimCosts", "(I)I"⟩, cX1_claimCosts, 3, (Option.some Jvm.ClassFile.FieldType.int), [])
abbrev Y_X1_claimTime : XInf := (43, ⟨"WreckShares", "claimTime", "(I)I"⟩, cX1_claimTime, 3, (Option.some Jvm.ClassFile.FieldType.int), [])
abbrev Y_X1_claiming : XInf := (44, ⟨"WreckShares", "claiming", "(I)LWreckShares$Deed;"⟩, cX1_claiming, 1, (Option.some (Jvm.ClassFile.FieldType.object "WreckShares$Deed")), [])
abbrev Y_X1_count : XInf := (45, ⟨"WreckShares", "count", "(II)I"⟩, cX1_count, 6, (Option.some Jvm.ClassFile.FieldType.int), [])
abbrev Y_X1_crewsWith : XInf := (46, ⟨"WreckShares", "crewsWith", "(I)I"⟩, cX1_crewsWith, 5, (Option.some Jvm.ClassFile.FieldType.int), [])
abbrev Y_X1_crownPart : XInf := (47, ⟨"WreckShares", "crownPart", "()D"⟩, cX1_crownPart, 1, (Option.some Jvm.ClassFile.FieldType.double), [])
abbrev Y_X1_crownShare : XInf := (48, ⟨"WreckShares", "crownShare", "(I)I"⟩, cX1_crownShare, 2, (Option.some Jvm.ClassFile.FieldType.int), [])
abbrev Y_X1_divide : XInf := (49, ⟨"WreckShares", "divide", "(I)I"⟩, cX1_divide, 3, (Option.some Jvm.ClassFile.FieldType.int), [])
abbrev Y_X1_divideAll : XInf := (50, ⟨"WreckShares", "divideAll", "()I"⟩, cX1_divideAll, 1, (Option.some Jvm.ClassFile.FieldType.int), [])
abbrev Y_X1_dividing : XInf := (51, ⟨"WreckShares", "dividing", "(I)LWreckShares$Deed;"⟩, cX1_dividing, 1, (Option.some (Jvm.ClassFile.FieldType.object "WreckShares$Deed")), [])
abbrev Y_X1_dividingAll : XInf := (52, ⟨"WreckShares", "dividingAll", "()LWreckShares$Deed;"⟩, cX1_dividingAll, 0, (Option.some (Jvm.ClassFile.FieldType.object "WreckShares$Deed")), [])
abbrev Y_X1_done : XInf := (53, ⟨"WreckShares", "done", "(LWreckShares$Deed;)I"⟩, cX1_done, 4, (Option.some Jvm.ClassFile.FieldType.int), [])
abbrev Y_X1_dryIn : XInf := (54, ⟨"WreckShares", "dryIn", "(I)I"⟩, cX1_dryIn, 2, (Option.some Jvm.ClassFile.FieldType.int), [])
abbrev Y_X1_dryNow : XInf := (55, ⟨"WreckShares", "dryNow", "()I"⟩, cX1_dryNow, 4, (Option.some Jvm.ClassFile.FieldType.int), [])
abbrev Y_X1_dryTicks : XInf := (56, ⟨"WreckShares", "dryTicks", "(I)I"⟩, cX1_dryTicks, 2, (Option.some Jvm.ClassFile.FieldType.int), [])
abbrev Y_X1_earned : XInf := (57, ⟨"WreckShares", "earned", "(I)I"⟩, cX1_earned, 5, (Option.some Jvm.ClassFile.FieldType.int), [])
abbrev Y_X1_errorPosition : XInf := (58, ⟨"WreckShares", "errorPosition", "()I"⟩, cX1_errorPosition, 1, (Option.some Jvm.ClassFile.FieldType.int), [])
abbrev Y_X1_failed : XInf := (59, ⟨"WreckShares", "failed", "(LWreckShares$TextError;)I"⟩, cX1_failed, 2, (Option.some Jvm.ClassFile.FieldType.int), [])
abbrev Y_X1_feed : XInf := (60, ⟨"WreckShares", "feed", "(IIIII)I"⟩, cX1_feed, 6, (Option.some Jvm.ClassFile.FieldType.int), [])
abbrev Y_X1_finder : XInf := (61, ⟨"WreckShares", "finder", "(II)I"⟩, cX1_finder, 4, (Option.some Jvm.ClassFile.FieldType.int), [])
abbrev Y_X1_firstDue : XInf := (62, ⟨"WreckShares", "firstDue", "()I"⟩, cX1_firstDue, 4, (Option.some Jvm.ClassFile.FieldType.int), [])
abbrev Y_X1_format : XInf := (63, ⟨"WreckShares", "format", "(I)I"⟩, cX1_format, 6, (Option.some Jvm.ClassFile.FieldType.int), [])
abbrev Y_X1_formattedByte : XInf := (64, ⟨"WreckShares", "formattedByte", "(I)I"⟩, cX1_formattedByte, 2, (Option.some Jvm.ClassFile.FieldType.int), [])
abbrev Y_X1_gap : XInf := (65, ⟨"WreckShares", "gap", "()I"⟩, cX1_gap, 6, (Option.some Jvm.ClassFile.FieldType.int), [])
abbrev Y_X1_good : XInf := (66, ⟨"WreckShares", "good", "(II)I"⟩, cX1_good, 4, (Option.some Jvm.ClassFile.FieldType.int), [])
abbrev Y_X1_goodAt : XInf := (67, ⟨"WreckShares", "goodAt", "(I)LWreckShares$Good;"⟩, cX1_goodAt, 2, (Option.some (Jvm.ClassFile.FieldType.object "WreckShares$Good")), [])
abbrev Y_X1_hand : XInf := (68, ⟨"WreckShares", "hand", "(IIZ)I"⟩, cX1_hand, 5, (Option.some Jvm.ClassFile.FieldType.int), [])
abbrev Y_X1_has : XInf := (69, ⟨"WreckShares", "has", "([II)Z"⟩, cX1_has, 6, (Option.some Jvm.ClassFile.FieldType.boolean), [])
abbrev Y_X1_haul : XInf := (70, ⟨"WreckShares", "haul", "(I)I"⟩, cX1_haul, 3, (Option.some Jvm.ClassFile.FieldType.int), [])
abbrev Y_X1_hauling : XInf := (71, ⟨"WreckShares", "hauling", "(I)LWreckShares$Deed;"⟩, cX1_hauling, 1, (Option.some (Jvm.ClassFile.FieldType.object "WreckShares$Deed")), [])
abbrev Y_X1_inState : XInf := (72, ⟨"WreckShares", "inState", "(I)I"⟩, cX1_inState, 5, (Option.some Jvm.ClassFile.FieldType.int), [])
abbrev Y_X1_init : XInf := (73, ⟨"WreckShares", "<init>", "()V"⟩, cX1_init, 1, (Option.none : Option Jvm.ClassFile.FieldType), [])
abbrev Y_X1_isAhead : XInf := (74, ⟨"WreckShares", "isAhead", "(II)Z"⟩, cX1_isAhead, 3, (Option.some Jvm.ClassFile.FieldType.boolean), [])
abbrev Y_X1_isClaimable : XInf := (75, ⟨"WreckShares", "isClaimable", "(LWreckShares$Good;)Z"⟩, cX1_isClaimable, 2, (Option.some Jvm.ClassFile.FieldType.boolean), [])
abbrev Y_X1_isGood : XInf := (76, ⟨"WreckShares", "isGood", "(LWreckShares$Shore;I)Z"⟩, cX1_isGood, 2, (Option.some Jvm.ClassFile.FieldType.boolean), [])
abbrev Y_X1_isIn : XInf := (77, ⟨"WreckShares", "isIn", "(III)Z"⟩, cX1_isIn, 3, (Option.some Jvm.ClassFile.FieldType.boolean), [])
abbrev Y_X1_keeps : XInf := (78, ⟨"WreckShares", "keeps", "(LWreckShares$Shore;)V"⟩, cX1_keeps, 2, (Option.none : Option Jvm.ClassFile.FieldType), [])
abbrev Y_X1_lambda_claiming_5 : XInf := (79, ⟨"WreckShares", "lambda$claiming$5", "(ILWreckShares$Shore;)I"⟩, cX1_lambda_claiming_5, 2, (Option.some Jvm.ClassFile.FieldType.int), [])
abbrev Y_X1_lambda_crownShare_10 : XInf := (80, ⟨"WreckShares", "lambda$crownShare$10", "(LWreckShares$Part;)Z"⟩, cX1_lambda_crownShare_10, 1, (Option.some Jvm.ClassFile.FieldType.boolean), [])
abbrev Y_X1_lambda_dividingAll_7 : XInf := (81, ⟨"WreckShares", "lambda$dividingAll$7", "(LWreckShares$Shore;)I"⟩, cX1_lambda_dividingAll_7, 1, (Option.some Jvm.ClassFile.FieldType.int), [])
abbrev Y_X1_lambda_dividing_6 : XInf := (82, ⟨"WreckShares", "lambda$dividing$6", "(ILWreckShares$Shore;)I"⟩, cX1_lambda_dividing_6, 2, (Option.some Jvm.ClassFile.FieldType.int), [])
abbrev Y_X1_lambda_hauling_4 : XInf := (83, ⟨"WreckShares", "lambda$hauling$4", "(ILWreckShares$Shore;)I"⟩, cX1_lambda_hauling_4, 2, (Option.some Jvm.ClassFile.FieldType.int), [])
abbrev Y_X1_lambda_lettingAll_2 : XInf := (84, ⟨"WreckShares", "lambda$lettingAll$2", "(LWreckShares$Shore;)I"⟩, cX1_lambda_lettingAll_2, 1, (Option.some Jvm.ClassFile.FieldType.int), [])
abbrev Y_X1_lambda_letting_1 : XInf := (85, ⟨"WreckShares", "lambda$letting$1", "(ILWreckShares$Shore;)I"⟩, cX1_lambda_letting_1, 2, (Option.some Jvm.ClassFile.FieldType.int), [])
abbrev Y_X1_lambda_ownerShare_11 : XInf := (86, ⟨"WreckShares", "lambda$ownerShare$11", "(LWreckShares$Part;)Z"⟩, cX1_lambda_ownerShare_11, 1, (Option.some Jvm.ClassFile.FieldType.boolean), [])
abbrev Y_X1_lambda_passing_8 : XInf := (87, ⟨"WreckShares", "lambda$passing$8", "(ILWreckShares$Shore;)I"⟩, cX1_lambda_passing_8, 2, (Option.some Jvm.ClassFile.FieldType.int), [])
abbrev Y_X1_lambda_paying_3 : XInf := (88, ⟨"WreckShares", "lambda$paying$3", "(IIILWreckShares$Shore;)I"⟩, cX1_lambda_paying_3, 4, (Option.some Jvm.ClassFile.FieldType.int), [])
abbrev Y_X1_lambda_roping_0 : XInf := (89, ⟨"WreckShares", "lambda$roping$0", "(IILWreckShares$Shore;)I"⟩, cX1_lambda_roping_0, 3, (Option.some Jvm.ClassFile.FieldType.int), [])
abbrev Y_X1_lambda_shareOf_9 : XInf := (90, ⟨"WreckShares", "lambda$shareOf$9", "(ILWreckShares$Part;)Z"⟩, cX1_lambda_shareOf_9, 3, (Option.some Jvm.ClassFile.FieldType.boolean), [])
abbrev Y_X1_letting : XInf := (91, ⟨"WreckShares", "letting", "(I)LWreckShares$Deed;"⟩, cX1_letting, 1, (Option.some (Jvm.ClassFile.FieldType.object "WreckShares$Deed")), [])
abbrev Y_X1_lettingAll : XInf := (92, ⟨"WreckShares", "lettingAll", "()LWreckShares$Deed;"⟩, cX1_lettingAll, 0, (Option.some (Jvm.ClassFile.FieldType.object "WreckShares$Deed")), [])
abbrev Y_X1_level : XInf := (93, ⟨"WreckShares", "level", "(I)I"⟩, cX1_level, 2, (Option.some Jvm.ClassFile.FieldType.int), [])
abbrev Y_X1_load : XInf := (94, ⟨"WreckShares", "load", "(I)I"⟩, cX1_load, 4, (Option.some Jvm.ClassFile.FieldType.int), [((6 : Nat), (14 : Nat), (17 : Nat), (117 : Nat))])
abbrev Y_X1_lossIn : XInf := (95, ⟨"WreckShares", "lossIn", "(I)I"⟩, cX1_lossIn, 5, (Option.some Jvm.ClassFile.FieldType.int), [])
abbrev Y_X1_lostIn : XInf := (96, ⟨"WreckShares", "lostIn", "(I)I"⟩, cX1_lostIn, 2, (Option.some Jvm.ClassFile.FieldType.int), [])
abbrev Y_X1_marked : XInf := (97, ⟨"WreckShares", "marked", "(II)I"⟩, cX1_marked, 6, (Option.some Jvm.ClassFile.FieldType.int), [])
abbrev Y_X1_nextLost : XInf := (98, ⟨"WreckShares", "nextLost", "()I"⟩, cX1_nextLost, 6, (Option.some Jvm.ClassFile.FieldType.int), [])
abbrev Y_X1_off : XInf := (99, ⟨"WreckShares", "off", "(I)I"⟩, cX1_off, 2, (Option.some Jvm.ClassFile.FieldType.int), [])
abbrev Y_X1_offAll : XInf := (100, ⟨"WreckShares", "offAll", "()I"⟩, cX1_offAll, 1, (Option.some Jvm.ClassFile.FieldType.int), [])
abbrev Y_X1_owner : XInf := (101, ⟨"WreckShares", "owner", "(I)I"⟩, cX1_owner, 2, (Option.some Jvm.ClassFile.FieldType.int), [])
abbrev Y_X1_ownerShare : XInf := (102, ⟨"WreckShares", "ownerShare", "(I)I"⟩, cX1_ownerShare, 2, (Option.some Jvm.ClassFile.FieldType.int), [])
abbrev Y_X1_passing : XInf := (103, ⟨"WreckShares", "passing", "(I)LWreckShares$Deed;"⟩, cX1_passing, 1, (Option.some (Jvm.ClassFile.FieldType.object "WreckShares$Deed")), [])
abbrev Y_X1_pay : XInf := (104, ⟨"WreckShares", "pay", "(III)I"⟩, cX1_pay, 4, (Option.some Jvm.ClassFile.FieldType.int), [])
abbrev Y_X1_paying : XInf := (105, ⟨"WreckShares", "paying", "(III)LWreckShares$Deed;"⟩, cX1_paying, 3, (Option.some (Jvm.ClassFile.FieldType.object "WreckShares$Deed")), [])
abbrev Y_X1_plain : XInf := (106, ⟨"WreckShares", "plain", "()LWreckShares$Shore;"⟩, cX1_plain, 1, (Option.some (Jvm.ClassFile.FieldType.object "WreckShares$Shore")), [])
abbrev Y_X1_play : XInf := (107, ⟨"WreckShares", "play", "(I)I"⟩, cX1_play, 6, (Option.some Jvm.ClassFile.FieldType.int), [((6 : Nat), (11 : Nat), (14 : Nat), (117 : Nat))])
abbrev Y_X1_purseIf : XInf := (108, ⟨"WreckShares", "purseIf", "(I)I"⟩, cX1_purseIf, 5, (Option.some Jvm.ClassFile.FieldType.int), [])
abbrev Y_X1_ranked : XInf := (109, ⟨"WreckShares", "ranked", "(I)I"⟩, cX1_ranked, 5, (Option.some Jvm.ClassFile.FieldType.int), [])
abbrev Y_X1_reading : XInf := (110, ⟨"WreckShares", "reading", "(I)LWreckShares$Parser;"⟩, cX1_reading, 2, (Option.some (Jvm.ClassFile.FieldType.object "WreckShares$Parser")), [])
abbrev Y_X1_requireArgument : XInf := (111, ⟨"WreckShares", "requireArgument", "(Z)V"⟩, cX1_requireArgument, 1, (Option.none : Option Jvm.ClassFile.FieldType), [])
abbrev Y_X1_requireElement : XInf := (112, ⟨"WreckShares", "requireElement", "(Z)V"⟩, cX1_requireElement, 1, (Option.none : Option Jvm.ClassFile.FieldType), [])
abbrev Y_X1_requireFinder : XInf := (113, ⟨"WreckShares", "requireFinder", "(I)V"⟩, cX1_requireFinder, 2, (Option.none : Option Jvm.ClassFile.FieldType), [])
abbrev Y_X1_restoreSnapshot : XInf := (114, ⟨"WreckShares", "restoreSnapshot", "()Z"⟩, cX1_restoreSnapshot, 1, (Option.some Jvm.ClassFile.FieldType.boolean), [])
abbrev Y_X1_richest : XInf := (115, ⟨"WreckShares", "richest", "()I"⟩, cX1_richest, 3, (Option.some Jvm.ClassFile.FieldType.int), [])
abbrev Y_X1_rope : XInf := (116, ⟨"WreckShares", "rope", "(II)I"⟩, cX1_rope, 4, (Option.some Jvm.ClassFile.FieldType.int), [])
abbrev Y_X1_roping : XInf := (117, ⟨"WreckShares", "roping", "(II)LWreckShares$Deed;"⟩, cX1_roping, 2, (Option.some (Jvm.ClassFile.FieldType.object "WreckShares$Deed")), [])
abbrev Y_X1_saveSnapshot : XInf := (118, ⟨"WreckShares", "saveSnapshot", "()V"⟩, cX1_saveSnapshot, 1, (Option.none : Option Jvm.ClassFile.FieldType), [])
abbrev Y_X1_savedShare : XInf := (119, ⟨"WreckShares", "savedShare", "()F"⟩, cX1_savedShare, 2, (Option.some Jvm.ClassFile.FieldType.float), [])
abbrev Y_X1_share : XInf := (120, ⟨"WreckShares", "share", "(II)I"⟩, cX1_share, 4, (Option.some Jvm.ClassFile.FieldType.int), [])
abbrev Y_X1_shareOf : XInf := (121, ⟨"WreckShares", "shareOf", "(LWreckShares$Good;I)I"⟩, cX1_shareOf, 2, (Option.some Jvm.ClassFile.FieldType.int), [])
abbrev Y_X1_size : XInf := (122, ⟨"WreckShares", "size", "(I)I"⟩, cX1_size, 2, (Option.some Jvm.ClassFile.FieldType.int), [])
abbrev Y_X1_ticks : XInf := (123, ⟨"WreckShares", "ticks", "(I)I"⟩, cX1_ticks, 2, (Option.some Jvm.ClassFile.FieldType.int), [])
abbrev Y_X1_turnIn : XInf := (124, ⟨"WreckShares", "turnIn", "(Z)I"⟩, cX1_turnIn, 4, (Option.some Jvm.ClassFile.FieldType.int), [])
abbrev Y_X1_undo : XInf := (125, ⟨"WreckShares", "undo", "()I"⟩, cX1_undo, 1, (Option.some Jvm.ClassFile.FieldType.int), [])
abbrev Y_X1_undoCount : XInf := (126, ⟨"WreckShares", "undoCount", "()I"⟩, cX1_undoCount, 1, (Option.some Jvm.ClassFile.FieldType.int), [])
abbrev Y_X1_unequal : XInf := (127, ⟨"WreckShares", "unequal", "(I)I"⟩, cX1_unequal, 7, (Option.some Jvm.ClassFile.FieldType.int), [])
abbrev Y_X1_why : XInf := (128, ⟨"WreckShares", "why", "(I)I"⟩, cX1_why, 2, (Option.some Jvm.ClassFile.FieldType.int), [])
abbrev Y_X1_whyDivide : XInf := (129, ⟨"WreckShares", "whyDivide", "(I)I"⟩, cX1_whyDivide, 2, (Option.some Jvm.ClassFile.FieldType.int), [])
abbrev Y_X2_claims : XInf := (130, ⟨"WreckShares$Shore", "claims", "(I)I"⟩, cX2_claims, 5, (Option.some Jvm.ClassFile.FieldType.int), [])
abbrev Y_X2_copy : XInf := (131, ⟨"WreckShares$Shore", "copy", "()LWreckShares$Shore;"⟩, cX2_copy, 4, (Option.some (Jvm.ClassFile.FieldType.object "WreckShares$Shore")), [])
abbrev Y_X2_divides : XInf := (132, ⟨"WreckShares$Shore", "divides", "(LWreckShares$Good;)I"⟩, cX2_divides, 5, (Option.some Jvm.ClassFile.FieldType.int), [])
abbrev Y_X2_dividesAll : XInf := (133, ⟨"WreckShares$Shore", "dividesAll", "()I"⟩, cX2_dividesAll, 3, (Option.some Jvm.ClassFile.FieldType.int), [])
abbrev Y_X2_divisionRefusal : XInf := (134, ⟨"WreckShares$Shore", "divisionRefusal", "(LWreckShares$Good;)I"⟩, cX2_divisionRefusal, 2, (Option.some Jvm.ClassFile.FieldType.int), [])
abbrev Y_X2_dryIn : XInf := (135, ⟨"WreckShares$Shore", "dryIn", "(LWreckShares$Good;)I"⟩, cX2_dryIn, 3, (Option.some Jvm.ClassFile.FieldType.int), [])
abbrev Y_X2_freeFinders : XInf := (136, ⟨"WreckShares$Shore", "freeFinders", "()I"⟩, cX2_freeFinders, 3, (Option.some Jvm.ClassFile.FieldType.int), [])
abbrev Y_X2_gives : XInf := (137, ⟨"WreckShares$Shore", "gives", "(LWreckShares$Part;)V"⟩, cX2_gives, 3, (Option.none : Option Jvm.ClassFile.FieldType), [])
abbrev Y_X2_good : XInf := (138, ⟨"WreckShares$Shore", "good", "(I)LWreckShares$Good;"⟩, cX2_good, 2, (Option.some (Jvm.ClassFile.FieldType.object "WreckShares$Good")), [])
abbrev Y_X2_hauls : XInf := (139, ⟨"WreckShares$Shore", "hauls", "(LWreckShares$Good;)I"⟩, cX2_hauls, 3, (Option.some Jvm.ClassFile.FieldType.int), [])
abbrev Y_X2_init : XInf := (140, ⟨"WreckShares$Shore", "<init>", "(IIII)V"⟩, cX2_init, 5, (Option.none : Option Jvm.ClassFile.FieldType), [])
abbrev Y_X2_init_2 : XInf := (141, ⟨"WreckShares$Shore", "<init>", "(III[I[I[I)V"⟩, cX2_init_2, 7, (Option.none : Option Jvm.ClassFile.FieldType), [])
abbrev Y_X2_isDry : XInf := (142, ⟨"WreckShares$Shore", "isDry", "(LWreckShares$Good;I)Z"⟩, cX2_isDry, 3, (Option.some Jvm.ClassFile.FieldType.boolean), [])
abbrev Y_X2_lets : XInf := (143, ⟨"WreckShares$Shore", "lets", "(I)I"⟩, cX2_lets, 4, (Option.some Jvm.ClassFile.FieldType.int), [])
abbrev Y_X2_letsAll : XInf := (144, ⟨"WreckShares$Shore", "letsAll", "()I"⟩, cX2_letsAll, 3, (Option.some Jvm.ClassFile.FieldType.int), [])
abbrev Y_X2_level : XInf := (145, ⟨"WreckShares$Shore", "level", "(I)I"⟩, cX2_level, 3, (Option.some Jvm.ClassFile.FieldType.int), [])
abbrev Y_X2_lostIn : XInf := (146, ⟨"WreckShares$Shore", "lostIn", "(LWreckShares$Good;)I"⟩, cX2_lostIn, 4, (Option.some Jvm.ClassFile.FieldType.int), [])
abbrev Y_X2_passes : XInf := (147, ⟨"WreckShares$Shore", "passes", "(I)I"⟩, cX2_passes, 5, (Option.some Jvm.ClassFile.FieldType.int), [])
abbrev Y_X2_pays : XInf := (148, ⟨"WreckShares$Shore", "pays", "(III)I"⟩, cX2_pays, 4, (Option.some Jvm.ClassFile.FieldType.int), [])
abbrev Y_X2_refusal : XInf := (149, ⟨"WreckShares$Shore", "refusal", "(LWreckShares$Good;)I"⟩, cX2_refusal, 2, (Option.some Jvm.ClassFile.FieldType.int), [])
abbrev Y_X2_ropeOf : XInf := (150, ⟨"WreckShares$Shore", "ropeOf", "(I)LWreckShares$Good;"⟩, cX2_ropeOf, 3, (Option.some (Jvm.ClassFile.FieldType.object "WreckShares$Good")), [])
abbrev Y_X2_ropes : XInf := (151, ⟨"WreckShares$Shore", "ropes", "(ILWreckShares$Good;)I"⟩, cX2_ropes, 4, (Option.some Jvm.ClassFile.FieldType.int), [])
abbrev Y_X2_washes : XInf := (152, ⟨"WreckShares$Shore", "washes", "(LWreckShares$Good;)Z"⟩, cX2_washes, 2, (Option.some Jvm.ClassFile.FieldType.boolean), [])
abbrev Y_X2_wetTicks : XInf := (153, ⟨"WreckShares$Shore", "wetTicks", "(LWreckShares$Good;)I"⟩, cX2_wetTicks, 4, (Option.some Jvm.ClassFile.FieldType.int), [])
abbrev Y_X3_copy : XInf := (154, ⟨"WreckShares$Good", "copy", "()LWreckShares$Good;"⟩, cX3_copy, 4, (Option.some (Jvm.ClassFile.FieldType.object "WreckShares$Good")), [])
abbrev Y_X3_crown : XInf := (155, ⟨"WreckShares$Good", "crown", "(Z)I"⟩, cX3_crown, 2, (Option.some Jvm.ClassFile.FieldType.int), [])
abbrev Y_X3_hands : XInf := (156, ⟨"WreckShares$Good", "hands", "()[I"⟩, cX3_hands, 3, (Option.some (Jvm.ClassFile.FieldType.array Jvm.ClassFile.FieldType.int)), [])
abbrev Y_X3_init : XInf := (157, ⟨"WreckShares$Good", "<init>", "(ILWreckShares$Kind;IIII)V"⟩, cX3_init, 7, (Option.none : Option Jvm.ClassFile.FieldType), [])
abbrev Y_X3_leftOver : XInf := (158, ⟨"WreckShares$Good", "leftOver", "(I)I"⟩, cX3_leftOver, 4, (Option.some Jvm.ClassFile.FieldType.int), [])
abbrev Y_X3_owners : XInf := (159, ⟨"WreckShares$Good", "owners", "(Z)I"⟩, cX3_owners, 2, (Option.some Jvm.ClassFile.FieldType.int), [])
abbrev Y_X3_parts : XInf := (160, ⟨"WreckShares$Good", "parts", "()Ljava/util/List;"⟩, cX3_parts, 7, (Option.some (Jvm.ClassFile.FieldType.object "java/util/List")), [])
abbrev Y_X3_rest : XInf := (161, ⟨"WreckShares$Good", "rest", "(Z)I"⟩, cX3_rest, 2, (Option.some Jvm.ClassFile.FieldType.int), [])
abbrev Y_X3_salvage : XInf := (162, ⟨"WreckShares$Good", "salvage", "()I"⟩, cX3_salvage, 1, (Option.some Jvm.ClassFile.FieldType.int), [])
abbrev Y_X3_sum : XInf := (163, ⟨"WreckShares$Good", "sum", "(LWreckShares$Rule;)I"⟩, cX3_sum, 5, (Option.some Jvm.ClassFile.FieldType.int), [])
abbrev Y_X4_named : XInf := (164, ⟨"WreckShares$Kind", "named", "(Ljava/lang/String;)LWreckShares$Kind;"⟩, cX4_named, 3, (Option.some (Jvm.ClassFile.FieldType.object "WreckShares$Kind")), [])
abbrev Y_X4_of : XInf := (165, ⟨"WreckShares$Kind", "of", "(I)LWreckShares$Kind;"⟩, cX4_of, 1, (Option.some (Jvm.ClassFile.FieldType.object "WreckShares$Kind")), [])
abbrev Y_X4_values : XInf := (166, ⟨"WreckShares$Kind", "values", "()[LWreckShares$Kind;"⟩, cX4_values, 0, (Option.some (Jvm.ClassFile.FieldType.array (Jvm.ClassFile.FieldType.object "WreckShares$Kind"))), [])
abbrev Y_X5_accept : XInf := (167, ⟨"WreckSharesModel", "accept", "(Ljava/lang/String;)Z"⟩, cX5_accept, 3, (Option.some Jvm.ClassFile.FieldType.boolean), [])
abbrev Y_X5_account : XInf := (168, ⟨"WreckSharesModel", "account", "(I)I"⟩, cX5_account, 2, (Option.some Jvm.ClassFile.FieldType.int), [])
abbrev Y_X5_addGood : XInf := (169, ⟨"WreckSharesModel", "addGood", "(IIIII)V"⟩, cX5_addGood, 7, (Option.none : Option Jvm.ClassFile.FieldType), [])
abbrev Y_X5_addHand : XInf := (170, ⟨"WreckSharesModel", "addHand", "(II)V"⟩, cX5_addHand, 3, (Option.none : Option Jvm.ClassFile.FieldType), [])
abbrev Y_X5_advance : XInf := (171, ⟨"WreckSharesModel", "advance", "()V"⟩, cX5_advance, 1, (Option.none : Option Jvm.ClassFile.FieldType), [])
abbrev Y_X5_allPurses : XInf := (172, ⟨"WreckSharesModel", "allPurses", "()I"⟩, cX5_allPurses, 3, (Option.some Jvm.ClassFile.FieldType.int), [])
abbrev Y_X5_begin : XInf := (173, ⟨"WreckSharesModel", "begin", "(IIII)V"⟩, cX5_begin, 6, (Option.none : Option Jvm.ClassFile.FieldType), [])
abbrev Y_X5_bestClaim : XInf := (174, ⟨"WreckSharesModel", "bestClaim", "()I"⟩, cX5_bestClaim, 4, (Option.some Jvm.ClassFile.FieldType.int), [])
abbrev Y_X5_bestHaul : XInf := (175, ⟨"WreckSharesModel", "bestHaul", "()I"⟩, cX5_bestHaul, 5, (Option.some Jvm.ClassFile.FieldType.int), [])
abbrev Y_X5_byteAt : XInf := (176, ⟨"WreckSharesModel", "byteAt", "(I)I"⟩, cX5_byteAt, 2, (Option.some Jvm.ClassFile.FieldType.int), [])
abbrev Y_X5_cause : XInf := (177, ⟨"WreckSharesModel", "cause", "(I)I"⟩, cX5_cause, 2, (Option.some Jvm.ClassFile.FieldType.int), [])
abbrev Y_X5_check : XInf := (178, ⟨"WreckSharesModel", "check", "(ZI)V"⟩, cX5_check, 3, (Option.none : Option Jvm.ClassFile.FieldType), [])
abbrev Y_X5_claim : XInf := (179, ⟨"WreckSharesModel", "claim", "(I)I"⟩, cX5_claim, 2, (Option.some Jvm.ClassFile.FieldType.int), [])
abbrev Y_X5_claimCosts : XInf := (180, ⟨"WreckSharesModel", "claimCosts", "(I)I"⟩, cX5_claimCosts, 3, (Option.some Jvm.ClassFile.FieldType.int), [])
abbrev Y_X5_claimTime : XInf := (181, ⟨"WreckSharesModel", "claimTime", "(I)I"⟩, cX5_claimTime, 3, (Option.some Jvm.ClassFile.FieldType.int), [])
abbrev Y_X5_claimable : XInf := (182, ⟨"WreckSharesModel", "claimable", "(I)I"⟩, cX5_claimable, 5, (Option.some Jvm.ClassFile.FieldType.int), [])
abbrev Y_X5_copy : XInf := (183, ⟨"WreckSharesModel", "copy", "([II[II)V"⟩, cX5_copy, 4, (Option.none : Option Jvm.ClassFile.FieldType), [])
abbrev Y_X5_count : XInf := (184, ⟨"WreckSharesModel", "count", "(II)I"⟩, cX5_count, 5, (Option.some Jvm.ClassFile.FieldType.int), [])
abbrev Y_X5_countDry : XInf := (185, ⟨"WreckSharesModel", "countDry", "(I)I"⟩, cX5_countDry, 4, (Option.some Jvm.ClassFile.FieldType.int), [])
abbrev Y_X5_countDryNow : XInf := (186, ⟨"WreckSharesModel", "countDryNow", "()I"⟩, cX5_countDryNow, 3, (Option.some Jvm.ClassFile.FieldType.int), [])
abbrev Y_X5_countFree : XInf := (187, ⟨"WreckSharesModel", "countFree", "()I"⟩, cX5_countFree, 3, (Option.some Jvm.ClassFile.FieldType.int), [])
abbrev Y_X5_countState : XInf := (188, ⟨"WreckSharesModel", "countState", "(I)I"⟩, cX5_countState, 4, (Option.some Jvm.ClassFile.FieldType.int), [])
abbrev Y_X5_crewOf : XInf := (189, ⟨"WreckSharesModel", "crewOf", "(IZ)I"⟩, cX5_crewOf, 3, (Option.some Jvm.ClassFile.FieldType.int), [])
abbrev Y_X5_crewsWith : XInf := (190, ⟨"WreckSharesModel", "crewsWith", "(I)I"⟩, cX5_crewsWith, 4, (Option.some Jvm.ClassFile.FieldType.int), [])
abbrev Y_X5_crownOf : XInf := (191, ⟨"WreckSharesModel", "crownOf", "(IZ)I"⟩, cX5_crownOf, 3, (Option.some Jvm.ClassFile.FieldType.int), [])
abbrev Y_X5_crownPart : XInf := (192, ⟨"WreckSharesModel", "crownPart", "()D"⟩, cX5_crownPart, 2, (Option.some Jvm.ClassFile.FieldType.double), [])
abbrev Y_X5_crownShare : XInf := (193, ⟨"WreckSharesModel", "crownShare", "(I)I"⟩, cX5_crownShare, 2, (Option.some Jvm.ClassFile.FieldType.int), [])
abbrev Y_X5_divide : XInf := (194, ⟨"WreckSharesModel", "divide", "(I)I"⟩, cX5_divide, 2, (Option.some Jvm.ClassFile.FieldType.int), [])
abbrev Y_X5_divideAll : XInf := (195, ⟨"WreckSharesModel", "divideAll", "()I"⟩, cX5_divideAll, 1, (Option.some Jvm.ClassFile.FieldType.int), [])
abbrev Y_X5_divideNow : XInf := (196, ⟨"WreckSharesModel", "divideNow", "(I)V"⟩, cX5_divideNow, 4, (Option.none : Option Jvm.ClassFile.FieldType), [])
abbrev Y_X5_divideRefusal : XInf := (197, ⟨"WreckSharesModel", "divideRefusal", "(I)I"⟩, cX5_divideRefusal, 2, (Option.some Jvm.ClassFile.FieldType.int), [])
abbrev Y_X5_doClaim : XInf := (198, ⟨"WreckSharesModel", "doClaim", "(I)I"⟩, cX5_doClaim, 5, (Option.some Jvm.ClassFile.FieldType.int), [])
abbrev Y_X5_doDivide : XInf := (199, ⟨"WreckSharesModel", "doDivide", "(I)I"⟩, cX5_doDivide, 3, (Option.some Jvm.ClassFile.FieldType.int), [])
abbrev Y_X5_doDivideAll : XInf := (200, ⟨"WreckSharesModel", "doDivideAll", "()I"⟩, cX5_doDivideAll, 3, (Option.some Jvm.ClassFile.FieldType.int), [])
abbrev Y_X5_doHaul : XInf := (201, ⟨"WreckSharesModel", "doHaul", "(I)I"⟩, cX5_doHaul, 3, (Option.some Jvm.ClassFile.FieldType.int), [])
abbrev Y_X5_doOff : XInf := (202, ⟨"WreckSharesModel", "doOff", "(I)I"⟩, cX5_doOff, 3, (Option.some Jvm.ClassFile.FieldType.int), [])
abbrev Y_X5_doOffAll : XInf := (203, ⟨"WreckSharesModel", "doOffAll", "()I"⟩, cX5_doOffAll, 3, (Option.some Jvm.ClassFile.FieldType.int), [])
abbrev Y_X5_doPay : XInf := (204, ⟨"WreckSharesModel", "doPay", "(III)I"⟩, cX5_doPay, 4, (Option.some Jvm.ClassFile.FieldType.int), [])
abbrev Y_X5_doRope : XInf := (205, ⟨"WreckSharesModel", "doRope", "(II)I"⟩, cX5_doRope, 3, (Option.some Jvm.ClassFile.FieldType.int), [])
abbrev Y_X5_doTicks : XInf := (206, ⟨"WreckSharesModel", "doTicks", "(I)I"⟩, cX5_doTicks, 4, (Option.some Jvm.ClassFile.FieldType.int), [])
abbrev Y_X5_does : XInf := (207, ⟨"WreckSharesModel", "does", "(I)I"⟩, cX5_does, 4, (Option.some Jvm.ClassFile.FieldType.int), [])
abbrev Y_X5_dryIn : XInf := (208, ⟨"WreckSharesModel", "dryIn", "(I)I"⟩, cX5_dryIn, 2, (Option.some Jvm.ClassFile.FieldType.int), [])
abbrev Y_X5_dryTicks : XInf := (209, ⟨"WreckSharesModel", "dryTicks", "(I)I"⟩, cX5_dryTicks, 2, (Option.some Jvm.ClassFile.FieldType.int), [])
abbrev Y_X5_earned : XInf := (210, ⟨"WreckSharesModel", "earned", "(I)I"⟩, cX5_earned, 4, (Option.some Jvm.ClassFile.FieldType.int), [])
abbrev Y_X5_ends : XInf := (211, ⟨"WreckSharesModel", "ends", "(I)I"⟩, cX5_ends, 2, (Option.some Jvm.ClassFile.FieldType.int), [])
abbrev Y_X5_errorPosition : XInf := (212, ⟨"WreckSharesModel", "errorPosition", "()I"⟩, cX5_errorPosition, 1, (Option.some Jvm.ClassFile.FieldType.int), [])
abbrev Y_X5_expect : XInf := (213, ⟨"WreckSharesModel", "expect", "(I)V"⟩, cX5_expect, 2, (Option.none : Option Jvm.ClassFile.FieldType), [])
abbrev Y_X5_feed : XInf := (214, ⟨"WreckSharesModel", "feed", "(IIIII)I"⟩, cX5_feed, 8, (Option.some Jvm.ClassFile.FieldType.int), [])
abbrev Y_X5_finder : XInf := (215, ⟨"WreckSharesModel", "finder", "(II)I"⟩, cX5_finder, 4, (Option.some Jvm.ClassFile.FieldType.int), [])
abbrev Y_X5_finish : XInf := (216, ⟨"WreckSharesModel", "finish", "()I"⟩, cX5_finish, 1, (Option.some Jvm.ClassFile.FieldType.int), [])
abbrev Y_X5_firstDue : XInf := (217, ⟨"WreckSharesModel", "firstDue", "()I"⟩, cX5_firstDue, 4, (Option.some Jvm.ClassFile.FieldType.int), [])
abbrev Y_X5_format : XInf := (218, ⟨"WreckSharesModel", "format", "(I)I"⟩, cX5_format, 3, (Option.some Jvm.ClassFile.FieldType.int), [])
abbrev Y_X5_formattedByte : XInf := (219, ⟨"WreckSharesModel", "formattedByte", "(I)I"⟩, cX5_formattedByte, 2, (Option.some Jvm.ClassFile.FieldType.int), [])
abbrev Y_X5_gap : XInf := (220, ⟨"WreckSharesModel", "gap", "()I"⟩, cX5_gap, 4, (Option.some Jvm.ClassFile.FieldType.int), [])
abbrev Y_X5_good : XInf := (221, ⟨"WreckSharesModel", "good", "(II)I"⟩, cX5_good, 3, (Option.some Jvm.ClassFile.FieldType.int), [])
abbrev Y_X5_hand : XInf := (222, ⟨"WreckSharesModel", "hand", "(IIZ)I"⟩, cX5_hand, 5, (Option.some Jvm.ClassFile.FieldType.int), [])
abbrev Y_X5_handOf : XInf := (223, ⟨"WreckSharesModel", "handOf", "(II)I"⟩, cX5_handOf, 3, (Option.some Jvm.ClassFile.FieldType.int), [])
abbrev Y_X5_haul : XInf := (224, ⟨"WreckSharesModel", "haul", "(I)I"⟩, cX5_haul, 2, (Option.some Jvm.ClassFile.FieldType.int), [])
abbrev Y_X5_haulRefusal : XInf := (225, ⟨"WreckSharesModel", "haulRefusal", "(I)I"⟩, cX5_haulRefusal, 2, (Option.some Jvm.ClassFile.FieldType.int), [])
abbrev Y_X5_inRange : XInf := (226, ⟨"WreckSharesModel", "inRange", "(III)Z"⟩, cX5_inRange, 3, (Option.some Jvm.ClassFile.FieldType.boolean), [])
abbrev Y_X5_init : XInf := (227, ⟨"WreckSharesModel", "<init>", "()V"⟩, cX5_init, 1, (Option.none : Option Jvm.ClassFile.FieldType), [])
abbrev Y_X5_isClaimed : XInf := (228, ⟨"WreckSharesModel", "isClaimed", "(I)Z"⟩, cX5_isClaimed, 2, (Option.some Jvm.ClassFile.FieldType.boolean), [])
abbrev Y_X5_isDigit : XInf := (229, ⟨"WreckSharesModel", "isDigit", "(I)Z"⟩, cX5_isDigit, 2, (Option.some Jvm.ClassFile.FieldType.boolean), [])
abbrev Y_X5_isDry : XInf := (230, ⟨"WreckSharesModel", "isDry", "(II)Z"⟩, cX5_isDry, 3, (Option.some Jvm.ClassFile.FieldType.boolean), [])
abbrev Y_X5_isFinder : XInf := (231, ⟨"WreckSharesModel", "isFinder", "(I)Z"⟩, cX5_isFinder, 2, (Option.some Jvm.ClassFile.FieldType.boolean), [])
abbrev Y_X5_isGood : XInf := (232, ⟨"WreckSharesModel", "isGood", "(I)Z"⟩, cX5_isGood, 2, (Option.some Jvm.ClassFile.FieldType.boolean), [])
abbrev Y_X5_isIn : XInf := (233, ⟨"WreckSharesModel", "isIn", "(II)Z"⟩, cX5_isIn, 3, (Option.some Jvm.ClassFile.FieldType.boolean), [])
abbrev Y_X5_isLetter : XInf := (234, ⟨"WreckSharesModel", "isLetter", "(I)Z"⟩, cX5_isLetter, 2, (Option.some Jvm.ClassFile.FieldType.boolean), [])
abbrev Y_X5_isOwner : XInf := (235, ⟨"WreckSharesModel", "isOwner", "(I)Z"⟩, cX5_isOwner, 1, (Option.some Jvm.ClassFile.FieldType.boolean), [])
abbrev Y_X5_isSymbol : XInf := (236, ⟨"WreckSharesModel", "isSymbol", "(I)Z"⟩, cX5_isSymbol, 2, (Option.some Jvm.ClassFile.FieldType.boolean), [])
abbrev Y_X5_isWord : XInf := (237, ⟨"WreckSharesModel", "isWord", "(Ljava/lang/String;)Z"⟩, cX5_isWord, 4, (Option.some Jvm.ClassFile.FieldType.boolean), [])
abbrev Y_X5_keep : XInf := (238, ⟨"WreckSharesModel", "keep", "()V"⟩, cX5_keep, 1, (Option.none : Option Jvm.ClassFile.FieldType), [])
abbrev Y_X5_kindHere : XInf := (239, ⟨"WreckSharesModel", "kindHere", "()I"⟩, cX5_kindHere, 2, (Option.some Jvm.ClassFile.FieldType.int), [])
abbrev Y_X5_lacks : XInf := (240, ⟨"WreckSharesModel", "lacks", "(Z)Z"⟩, cX5_lacks, 2, (Option.some Jvm.ClassFile.FieldType.boolean), [])
abbrev Y_X5_lay : XInf := (241, ⟨"WreckSharesModel", "lay", "(III)V"⟩, cX5_lay, 4, (Option.none : Option Jvm.ClassFile.FieldType), [])
abbrev Y_X5_layFinder : XInf := (242, ⟨"WreckSharesModel", "layFinder", "(III)V"⟩, cX5_layFinder, 4, (Option.none : Option Jvm.ClassFile.FieldType), [])
abbrev Y_X5_letGo : XInf := (243, ⟨"WreckSharesModel", "letGo", "(I)V"⟩, cX5_letGo, 3, (Option.none : Option Jvm.ClassFile.FieldType), [])
abbrev Y_X5_level : XInf := (244, ⟨"WreckSharesModel", "level", "(I)I"⟩, cX5_level, 2, (Option.some Jvm.ClassFile.FieldType.int), [])
abbrev Y_X5_levelAt : XInf := (245, ⟨"WreckSharesModel", "levelAt", "(I)I"⟩, cX5_levelAt, 4, (Option.some Jvm.ClassFile.FieldType.int), [])
abbrev Y_X5_load : XInf := (246, ⟨"WreckSharesModel", "load", "(I)I"⟩, cX5_load, 2, (Option.some Jvm.ClassFile.FieldType.int), [])
abbrev Y_X5_look : XInf := (247, ⟨"WreckSharesModel", "look", "(II)I"⟩, cX5_look, 4, (Option.some Jvm.ClassFile.FieldType.int), [])
abbrev Y_X5_lose : XInf := (248, ⟨"WreckSharesModel", "lose", "(I)V"⟩, cX5_lose, 2, (Option.none : Option Jvm.ClassFile.FieldType), [])
abbrev Y_X5_lossIn : XInf := (249, ⟨"WreckSharesModel", "lossIn", "(I)I"⟩, cX5_lossIn, 5, (Option.some Jvm.ClassFile.FieldType.int), [])
abbrev Y_X5_lostIn : XInf := (250, ⟨"WreckSharesModel", "lostIn", "(I)I"⟩, cX5_lostIn, 2, (Option.some Jvm.ClassFile.FieldType.int), [])
abbrev Y_X5_marked : XInf := (251, ⟨"WreckSharesModel", "marked", "(II)I"⟩, cX5_marked, 5, (Option.some Jvm.ClassFile.FieldType.int), [])
abbrev Y_X5_nextLost : XInf := (252, ⟨"WreckSharesModel", "nextLost", "()I"⟩, cX5_nextLost, 5, (Option.some Jvm.ClassFile.FieldType.int), [])
abbrev Y_X5_of : XInf := (253, ⟨"WreckSharesModel", "of", "(II)I"⟩, cX5_of, 3, (Option.some Jvm.ClassFile.FieldType.int), [])
abbrev Y_X5_ofFinder : XInf := (254, ⟨"WreckSharesModel", "ofFinder", "(II)I"⟩, cX5_ofFinder, 3, (Option.some Jvm.ClassFile.FieldType.int), [])
abbrev Y_X5_off : XInf := (255, ⟨"WreckSharesModel", "off", "(I)I"⟩, cX5_off, 2, (Option.some Jvm.ClassFile.FieldType.int), [])
abbrev Y_X5_offAll : XInf := (256, ⟨"WreckSharesModel", "offAll", "()I"⟩, cX5_offAll, 1, (Option.some Jvm.ClassFile.FieldType.int), [])
abbrev Y_X5_orderHere : XInf := (257, ⟨"WreckSharesModel", "orderHere", "()I"⟩, cX5_orderHere, 2, (Option.some Jvm.ClassFile.FieldType.int), [])
abbrev Y_X5_owner : XInf := (258, ⟨"WreckSharesModel", "owner", "(I)I"⟩, cX5_owner, 2, (Option.some Jvm.ClassFile.FieldType.int), [])
abbrev Y_X5_ownerOf : XInf := (259, ⟨"WreckSharesModel", "ownerOf", "(IZ)I"⟩, cX5_ownerOf, 3, (Option.some Jvm.ClassFile.FieldType.int), [])
abbrev Y_X5_ownerShare : XInf := (260, ⟨"WreckSharesModel", "ownerShare", "(I)I"⟩, cX5_ownerShare, 2, (Option.some Jvm.ClassFile.FieldType.int), [])
abbrev Y_X5_partOf : XInf := (261, ⟨"WreckSharesModel", "partOf", "(II)I"⟩, cX5_partOf, 4, (Option.some Jvm.ClassFile.FieldType.int), [])
abbrev Y_X5_pay : XInf := (262, ⟨"WreckSharesModel", "pay", "(III)I"⟩, cX5_pay, 4, (Option.some Jvm.ClassFile.FieldType.int), [])
abbrev Y_X5_placeOf : XInf := (263, ⟨"WreckSharesModel", "placeOf", "(II)I"⟩, cX5_placeOf, 4, (Option.some Jvm.ClassFile.FieldType.int), [])
abbrev Y_X5_play : XInf := (264, ⟨"WreckSharesModel", "play", "(I)I"⟩, cX5_play, 3, (Option.some Jvm.ClassFile.FieldType.int), [])
abbrev Y_X5_purseIf : XInf := (265, ⟨"WreckSharesModel", "purseIf", "(I)I"⟩, cX5_purseIf, 4, (Option.some Jvm.ClassFile.FieldType.int), [])
abbrev Y_X5_raise : XInf := (266, ⟨"WreckSharesModel", "raise", "(I)I"⟩, cX5_raise, 2, (Option.some Jvm.ClassFile.FieldType.int), [])
abbrev Y_X5_rankOf : XInf := (267, ⟨"WreckSharesModel", "rankOf", "(I)I"⟩, cX5_rankOf, 5, (Option.some Jvm.ClassFile.FieldType.int), [])
abbrev Y_X5_ranked : XInf := (268, ⟨"WreckSharesModel", "ranked", "(I)I"⟩, cX5_ranked, 3, (Option.some Jvm.ClassFile.FieldType.int), [])
abbrev Y_X5_readFirst : XInf := (269, ⟨"WreckSharesModel", "readFirst", "(I)I"⟩, cX5_readFirst, 2, (Option.some Jvm.ClassFile.FieldType.int), [])
abbrev Y_X5_readGood : XInf := (270, ⟨"WreckSharesModel", "readGood", "()V"⟩, cX5_readGood, 6, (Option.none : Option Jvm.ClassFile.FieldType), [])
abbrev Y_X5_readNumber : XInf := (271, ⟨"WreckSharesModel", "readNumber", "(II)I"⟩, cX5_readNumber, 4, (Option.some Jvm.ClassFile.FieldType.int), [])
abbrev Y_X5_readOrder : XInf := (272, ⟨"WreckSharesModel", "readOrder", "()V"⟩, cX5_readOrder, 3, (Option.none : Option Jvm.ClassFile.FieldType), [])
abbrev Y_X5_readText : XInf := (273, ⟨"WreckSharesModel", "readText", "()V"⟩, cX5_readText, 5, (Option.none : Option Jvm.ClassFile.FieldType), [])
abbrev Y_X5_record : XInf := (274, ⟨"WreckSharesModel", "record", "()V"⟩, cX5_record, 2, (Option.none : Option Jvm.ClassFile.FieldType), [])
abbrev Y_X5_recorded : XInf := (275, ⟨"WreckSharesModel", "recorded", "(I)I"⟩, cX5_recorded, 2, (Option.some Jvm.ClassFile.FieldType.int), [])
abbrev Y_X5_removeHand : XInf := (276, ⟨"WreckSharesModel", "removeHand", "(I)V"⟩, cX5_removeHand, 5, (Option.none : Option Jvm.ClassFile.FieldType), [])
abbrev Y_X5_restOf : XInf := (277, ⟨"WreckSharesModel", "restOf", "(I)I"⟩, cX5_restOf, 4, (Option.some Jvm.ClassFile.FieldType.int), [])
abbrev Y_X5_restoreSnapshot : XInf := (278, ⟨"WreckSharesModel", "restoreSnapshot", "()Z"⟩, cX5_restoreSnapshot, 1, (Option.some Jvm.ClassFile.FieldType.boolean), [])
abbrev Y_X5_richest : XInf := (279, ⟨"WreckSharesModel", "richest", "()I"⟩, cX5_richest, 3, (Option.some Jvm.ClassFile.FieldType.int), [])
abbrev Y_X5_rope : XInf := (280, ⟨"WreckSharesModel", "rope", "(II)I"⟩, cX5_rope, 3, (Option.some Jvm.ClassFile.FieldType.int), [])
abbrev Y_X5_salvageOf : XInf := (281, ⟨"WreckSharesModel", "salvageOf", "(I)I"⟩, cX5_salvageOf, 2, (Option.some Jvm.ClassFile.FieldType.int), [])
abbrev Y_X5_saveSnapshot : XInf := (282, ⟨"WreckSharesModel", "saveSnapshot", "()V"⟩, cX5_saveSnapshot, 1, (Option.none : Option Jvm.ClassFile.FieldType), [])
abbrev Y_X5_savedShare : XInf := (283, ⟨"WreckSharesModel", "savedShare", "()F"⟩, cX5_savedShare, 2, (Option.some Jvm.ClassFile.FieldType.float), [])
abbrev Y_X5_scan : XInf := (284, ⟨"WreckSharesModel", "scan", "()V"⟩, cX5_scan, 1, (Option.none : Option Jvm.ClassFile.FieldType), [])
abbrev Y_X5_share : XInf := (285, ⟨"WreckSharesModel", "share", "(II)I"⟩, cX5_share, 3, (Option.some Jvm.ClassFile.FieldType.int), [])
abbrev Y_X5_shareAt : XInf := (286, ⟨"WreckSharesModel", "shareAt", "(II)I"⟩, cX5_shareAt, 3, (Option.some Jvm.ClassFile.FieldType.int), [])
abbrev Y_X5_shareOf : XInf := (287, ⟨"WreckSharesModel", "shareOf", "(II)I"⟩, cX5_shareOf, 4, (Option.some Jvm.ClassFile.FieldType.int), [])
abbrev Y_X5_size : XInf := (288, ⟨"WreckSharesModel", "size", "(I)I"⟩, cX5_size, 2, (Option.some Jvm.ClassFile.FieldType.int), [])
abbrev Y_X5_startText : XInf := (289, ⟨"WreckSharesModel", "startText", "(I)V"⟩, cX5_startText, 2, (Option.none : Option Jvm.ClassFile.FieldType), [])
abbrev Y_X5_tallied : XInf := (290, ⟨"WreckSharesModel", "tallied", "(I)I"⟩, cX5_tallied, 2, (Option.some Jvm.ClassFile.FieldType.int), [])
abbrev Y_X5_tally : XInf := (291, ⟨"WreckSharesModel", "tally", "(II)V"⟩, cX5_tally, 3, (Option.none : Option Jvm.ClassFile.FieldType), [])
abbrev Y_X5_thrown : XInf := (292, ⟨"WreckSharesModel", "thrown", "()I"⟩, cX5_thrown, 1, (Option.some Jvm.ClassFile.FieldType.int), [])
abbrev Y_X5_tick : XInf := (293, ⟨"WreckSharesModel", "tick", "()V"⟩, cX5_tick, 2, (Option.none : Option Jvm.ClassFile.FieldType), [])
abbrev Y_X5_ticks : XInf := (294, ⟨"WreckSharesModel", "ticks", "(I)I"⟩, cX5_ticks, 2, (Option.some Jvm.ClassFile.FieldType.int), [])
abbrev Y_X5_ticksToDry : XInf := (295, ⟨"WreckSharesModel", "ticksToDry", "(I)I"⟩, cX5_ticksToDry, 3, (Option.some Jvm.ClassFile.FieldType.int), [])
abbrev Y_X5_ticksToLoss : XInf := (296, ⟨"WreckSharesModel", "ticksToLoss", "(I)I"⟩, cX5_ticksToLoss, 4, (Option.some Jvm.ClassFile.FieldType.int), [])
abbrev Y_X5_turnIn : XInf := (297, ⟨"WreckSharesModel", "turnIn", "(Z)I"⟩, cX5_turnIn, 3, (Option.some Jvm.ClassFile.FieldType.int), [])
abbrev Y_X5_undo : XInf := (298, ⟨"WreckSharesModel", "undo", "()I"⟩, cX5_undo, 1, (Option.some Jvm.ClassFile.FieldType.int), [])
abbrev Y_X5_undoCount : XInf := (299, ⟨"WreckSharesModel", "undoCount", "()I"⟩, cX5_undoCount, 1, (Option.some Jvm.ClassFile.FieldType.int), [])
abbrev Y_X5_unequal : XInf := (300, ⟨"WreckSharesModel", "unequal", "(I)I"⟩, cX5_unequal, 3, (Option.some Jvm.ClassFile.FieldType.int), [])
abbrev Y_X5_value : XInf := (301, ⟨"WreckSharesModel", "value", "()I"⟩, cX5_value, 3, (Option.some Jvm.ClassFile.FieldType.int), [])
abbrev Y_X5_wash : XInf := (302, ⟨"WreckSharesModel", "wash", "(I)V"⟩, cX5_wash, 2, (Option.none : Option Jvm.ClassFile.FieldType), [])
abbrev Y_X5_why : XInf := (303, ⟨"WreckSharesModel", "why", "(I)I"⟩, cX5_why, 2, (Option.some Jvm.ClassFile.FieldType.int), [])
abbrev Y_X5_whyDivide : XInf := (304, ⟨"WreckSharesModel", "whyDivide", "(I)I"⟩, cX5_whyDivide, 2, (Option.some Jvm.ClassFile.FieldType.int), [])
abbrev Y_X5_write : XInf := (305, ⟨"WreckSharesModel", "write", "(I)V"⟩, cX5_write, 2, (Option.none : Option Jvm.ClassFile.FieldType), [])
abbrev Y_X5_writeNumber : XInf := (306, ⟨"WreckSharesModel", "writeNumber", "(I)V"⟩, cX5_writeNumber, 4, (Option.none : Option Jvm.ClassFile.FieldType), [])
abbrev Y_X6_accept : XInf := (307, ⟨"WreckShares$Parser", "accept", "(Ljava/lang/String;)Z"⟩, cX6_accept, 3, (Option.some Jvm.ClassFile.FieldType.boolean), [])
abbrev Y_X6_byteAt : XInf := (308, ⟨"WreckShares$Parser", "byteAt", "(I)I"⟩, cX6_byteAt, 2, (Option.some Jvm.ClassFile.FieldType.int), [])
abbrev Y_X6_check : XInf := (309, ⟨"WreckShares$Parser", "check", "(ZI)V"⟩, cX6_check, 3, (Option.none : Option Jvm.ClassFile.FieldType), [])
abbrev Y_X6_ends : XInf := (310, ⟨"WreckShares$Parser", "ends", "()V"⟩, cX6_ends, 1, (Option.none : Option Jvm.ClassFile.FieldType), [])
abbrev Y_X6_finderHere : XInf := (311, ⟨"WreckShares$Parser", "finderHere", "()I"⟩, cX6_finderHere, 1, (Option.some Jvm.ClassFile.FieldType.int), [])
abbrev Y_X6_good : XInf := (312, ⟨"WreckShares$Parser", "good", "(ILWreckShares$Kind;)LWreckShares$Good;"⟩, cX6_good, 6, (Option.some (Jvm.ClassFile.FieldType.object "WreckShares$Good")), [])
abbrev Y_X6_goodHere : XInf := (313, ⟨"WreckShares$Parser", "goodHere", "()I"⟩, cX6_goodHere, 1, (Option.some Jvm.ClassFile.FieldType.int), [])
abbrev Y_X6_init : XInf := (314, ⟨"WreckShares$Parser", "<init>", "(LWreckShares;I)V"⟩, cX6_init, 3, (Option.none : Option Jvm.ClassFile.FieldType), [])
abbrev Y_X6_isDigit : XInf := (315, ⟨"WreckShares$Parser", "isDigit", "(I)Z"⟩, cX6_isDigit, 1, (Option.some Jvm.ClassFile.FieldType.boolean), [])
abbrev Y_X6_isLetter : XInf := (316, ⟨"WreckShares$Parser", "isLetter", "(I)Z"⟩, cX6_isLetter, 1, (Option.some Jvm.ClassFile.FieldType.boolean), [])
abbrev Y_X6_isOrder : XInf := (317, ⟨"WreckShares$Parser", "isOrder", "(Ljava/lang/String;)Z"⟩, cX6_isOrder, 3, (Option.some Jvm.ClassFile.FieldType.boolean), [])
abbrev Y_X6_keyword : XInf := (318, ⟨"WreckShares$Parser", "keyword", "()Ljava/lang/String;"⟩, cX6_keyword, 1, (Option.some (Jvm.ClassFile.FieldType.object "java/lang/String")), [])
abbrev Y_X6_look : XInf := (319, ⟨"WreckShares$Parser", "look", "(II)I"⟩, cX6_look, 3, (Option.some Jvm.ClassFile.FieldType.int), [])
abbrev Y_X6_next : XInf := (320, ⟨"WreckShares$Parser", "next", "()V"⟩, cX6_next, 2, (Option.none : Option Jvm.ClassFile.FieldType), [])
abbrev Y_X6_number : XInf := (321, ⟨"WreckShares$Parser", "number", "(II)I"⟩, cX6_number, 4, (Option.some Jvm.ClassFile.FieldType.int), [])
abbrev Y_X6_order : XInf := (322, ⟨"WreckShares$Parser", "order", "(Ljava/lang/String;)LWreckShares$Deed;"⟩, cX6_order, 4, (Option.some (Jvm.ClassFile.FieldType.object "WreckShares$Deed")), [])
abbrev Y_X6_script : XInf := (323, ⟨"WreckShares$Parser", "script", "()[LWreckShares$Deed;"⟩, cX6_script, 3, (Option.some (Jvm.ClassFile.FieldType.array (Jvm.ClassFile.FieldType.object "WreckShares$Deed"))), [])
abbrev Y_X6_text : XInf := (324, ⟨"WreckShares$Parser", "text", "()LWreckShares$Shore;"⟩, cX6_text, 7, (Option.some (Jvm.ClassFile.FieldType.object "WreckShares$Shore")), [])
abbrev Y_X7_init : XInf := (325, ⟨"WreckShares$TextError", "<init>", "(II)V"⟩, cX7_init, 3, (Option.none : Option Jvm.ClassFile.FieldType), [])
abbrev Y_X8_amount : XInf := (326, ⟨"WreckShares$ToCrown", "amount", "()I"⟩, cX8_amount, 1, (Option.some Jvm.ClassFile.FieldType.int), [])
abbrev Y_X8_init : XInf := (327, ⟨"WreckShares$ToCrown", "<init>", "(I)V"⟩, cX8_init, 2, (Option.none : Option Jvm.ClassFile.FieldType), [])
abbrev Y_X9_amount : XInf := (328, ⟨"WreckShares$ToOwner", "amount", "()I"⟩, cX9_amount, 1, (Option.some Jvm.ClassFile.FieldType.int), [])
abbrev Y_X9_init : XInf := (329, ⟨"WreckShares$ToOwner", "<init>", "(II)V"⟩, cX9_init, 3, (Option.none : Option Jvm.ClassFile.FieldType), [])
abbrev Y_X9_owner : XInf := (330, ⟨"WreckShares$ToOwner", "owner", "()I"⟩, cX9_owner, 1, (Option.some Jvm.ClassFile.FieldType.int), [])
abbrev Y_X10_amount : XInf := (331, ⟨"WreckShares$ToFinder", "amount", "()I"⟩, cX10_amount, 1, (Option.some Jvm.ClassFile.FieldType.int), [])
abbrev Y_X10_finder : XInf := (332, ⟨"WreckShares$ToFinder", "finder", "()I"⟩, cX10_finder, 1, (Option.some Jvm.ClassFile.FieldType.int), [])
abbrev Y_X10_init : XInf := (333, ⟨"WreckShares$ToFinder", "<init>", "(II)V"⟩, cX10_init, 3, (Option.none : Option Jvm.ClassFile.FieldType), [])
abbrev Y_X11_init : XInf := (334, ⟨"WreckShares$Lying", "<init>", "(LWreckShares;)V"⟩, cX11_init, 4, (Option.none : Option Jvm.ClassFile.FieldType), [])
abbrev Y_X11_iterator : XInf := (335, ⟨"WreckShares$Lying", "iterator", "()Ljava/util/Iterator;"⟩, cX11_iterator, 1, (Option.some (Jvm.ClassFile.FieldType.object "java/util/Iterator")), [])
abbrev Y_X12_hasNext : XInf := (336, ⟨"WreckShares$Lying$1", "hasNext", "()Z"⟩, cX12_hasNext, 1, (Option.some Jvm.ClassFile.FieldType.boolean), [])
abbrev Y_X12_init : XInf := (337, ⟨"WreckShares$Lying$1", "<init>", "(LWreckShares$Lying;)V"⟩, cX12_init, 2, (Option.none : Option Jvm.ClassFile.FieldType), [])
abbrev Y_X12_next : XInf := (338, ⟨"WreckShares$Lying$1", "next", "()Ljava/lang/Object;"⟩, cX12_next, 1, (Option.some (Jvm.ClassFile.FieldType.object "java/lang/Object")), [])
abbrev Y_X12_next_2 : XInf := (339, ⟨"WreckShares$Lying$1", "next", "()LWreckShares$Good;"⟩, cX12_next_2, 2, (Option.some (Jvm.ClassFile.FieldType.object "WreckShares$Good")), [])
abbrev Y_J0_init : XInf := (340, ⟨"java/util/AbstractCollection", "<init>", "()V"⟩, cJ0_init, 1, (Option.none : Option Jvm.ClassFile.FieldType), [])
abbrev Y_J1_init : XInf := (341, ⟨"java/util/AbstractList", "<init>", "()V"⟩, cJ1_init, 1, (Option.none : Option Jvm.ClassFile.FieldType), [])
abbrev Y_J1_listIterator : XInf := (342, ⟨"java/util/AbstractList", "listIterator", "()Ljava/util/ListIterator;"⟩, cJ1_listIterator, 1, (Option.some (Jvm.ClassFile.FieldType.object "java/util/ListIterator")), [])
abbrev Y_J2_add : XInf := (343, ⟨"java/util/ArrayList", "add", "(Ljava/lang/Object;)Z"⟩, cJ2_add, 2, (Option.some Jvm.ClassFile.FieldType.boolean), [])
abbrev Y_J2_add_2 : XInf := (344, ⟨"java/util/ArrayList", "add", "(Ljava/lang/Object;[Ljava/lang/Object;I)V"⟩, cJ2_add_2, 4, (Option.none : Option Jvm.ClassFile.FieldType), [])
abbrev Y_J2_elementData : XInf := (345, ⟨"java/util/ArrayList", "elementData", "(I)Ljava/lang/Object;"⟩, cJ2_elementData, 2, (Option.some (Jvm.ClassFile.FieldType.object "java/lang/Object")), [])
abbrev Y_J2_get : XInf := (346, ⟨"java/util/ArrayList", "get", "(I)Ljava/lang/Object;"⟩, cJ2_get, 2, (Option.some (Jvm.ClassFile.FieldType.object "java/lang/Object")), [])
abbrev Y_J2_grow : XInf := (347, ⟨"java/util/ArrayList", "grow", "()[Ljava/lang/Object;"⟩, cJ2_grow, 1, (Option.some (Jvm.ClassFile.FieldType.array (Jvm.ClassFile.FieldType.object "java/lang/Object"))), [])
abbrev Y_J2_grow_2 : XInf := (348, ⟨"java/util/ArrayList", "grow", "(I)[Ljava/lang/Object;"⟩, cJ2_grow_2, 4, (Option.some (Jvm.ClassFile.FieldType.array (Jvm.ClassFile.FieldType.object "java/lang/Object"))), [])
abbrev Y_J2_init : XInf := (349, ⟨"java/util/ArrayList", "<init>", "(I)V"⟩, cJ2_init, 2, (Option.none : Option Jvm.ClassFile.FieldType), [])
abbrev Y_J2_init_2 : XInf := (350, ⟨"java/util/ArrayList", "<init>", "()V"⟩, cJ2_init_2, 1, (Option.none : Option Jvm.ClassFile.FieldType), [])
abbrev Y_J2_iterator : XInf := (351, ⟨"java/util/ArrayList", "iterator", "()Ljava/util/Iterator;"⟩, cJ2_iterator, 1, (Option.some (Jvm.ClassFile.FieldType.object "java/util/Iterator")), [])
abbrev Y_J2_size : XInf := (352, ⟨"java/util/ArrayList", "size", "()I"⟩, cJ2_size, 1, (Option.some Jvm.ClassFile.FieldType.int), [])
abbrev Y_J3_init_4 : XInf := (353, ⟨"java/lang/Throwable", "<init>", "(Ljava/lang/String;Ljava/lang/Throwable;ZZ)V"⟩, cJ3_init_4, 5, (Option.none : Option Jvm.ClassFile.FieldType), [])
abbrev Y_J4_init_4 : XInf := (354, ⟨"java/lang/Exception", "<init>", "(Ljava/lang/String;Ljava/lang/Throwable;ZZ)V"⟩, cJ4_init_4, 5, (Option.none : Option Jvm.ClassFile.FieldType), [])
abbrev Y_J7_append : XInf := (355, ⟨"java/lang/AbstractStringBuilder", "append", "(Ljava/lang/String;)Ljava/lang/AbstractStringBuilder;"⟩, cJ7_append, 3, (Option.some (Jvm.ClassFile.FieldType.object "java/lang/AbstractStringBuilder")), [])
abbrev Y_J7_append_2 : XInf := (356, ⟨"java/lang/AbstractStringBuilder", "append", "(I)Ljava/lang/AbstractStringBuilder;"⟩, cJ7_append_2, 4, (Option.some (Jvm.ClassFile.FieldType.object "java/lang/AbstractStringBuilder")), [])
abbrev Y_J7_append_3 : XInf := (357, ⟨"java/lang/AbstractStringBuilder", "append", "(C)Ljava/lang/AbstractStringBuilder;"⟩, cJ7_append_3, 2, (Option.some (Jvm.ClassFile.FieldType.object "java/lang/AbstractStringBuilder")), [])
abbrev Y_J7_ensureCapacityInternal : XInf := (358, ⟨"java/lang/AbstractStringBuilder", "ensureCapacityInternal", "(I)V"⟩, cJ7_ensureCapacityInternal, 3, (Option.none : Option Jvm.ClassFile.FieldType), [])
abbrev Y_J7_getValue : XInf := (359, ⟨"java/lang/AbstractStringBuilder", "getValue", "()[B"⟩, cJ7_getValue, 1, (Option.some (Jvm.ClassFile.FieldType.array Jvm.ClassFile.FieldType.byte)), [])
abbrev Y_J7_inflateIfNeededFor : XInf := (360, ⟨"java/lang/AbstractStringBuilder", "inflateIfNeededFor", "(Ljava/lang/String;)V"⟩, cJ7_inflateIfNeededFor, 2, (Option.none : Option Jvm.ClassFile.FieldType), [])
abbrev Y_J7_init : XInf := (361, ⟨"java/lang/AbstractStringBuilder", "<init>", "(I)V"⟩, cJ7_init, 2, (Option.none : Option Jvm.ClassFile.FieldType), [])
abbrev Y_J7_isLatin1 : XInf := (362, ⟨"java/lang/AbstractStringBuilder", "isLatin1", "()Z"⟩, cJ7_isLatin1, 1, (Option.some Jvm.ClassFile.FieldType.boolean), [])
abbrev Y_J7_length : XInf := (363, ⟨"java/lang/AbstractStringBuilder", "length", "()I"⟩, cJ7_length, 1, (Option.some Jvm.ClassFile.FieldType.int), [])
abbrev Y_J7_newCapacity : XInf := (364, ⟨"java/lang/AbstractStringBuilder", "newCapacity", "(I)I"⟩, cJ7_newCapacity, 6, (Option.some Jvm.ClassFile.FieldType.int), [])
abbrev Y_J7_putStringAt : XInf := (365, ⟨"java/lang/AbstractStringBuilder", "putStringAt", "(ILjava/lang/String;)V"⟩, cJ7_putStringAt, 3, (Option.none : Option Jvm.ClassFile.FieldType), [])
abbrev Y_J7_setLength : XInf := (366, ⟨"java/lang/AbstractStringBuilder", "setLength", "(I)V"⟩, cJ7_setLength, 2, (Option.none : Option Jvm.ClassFile.FieldType), [])
abbrev Y_J8_append : XInf := (367, ⟨"java/lang/StringBuilder", "append", "(Ljava/lang/String;)Ljava/lang/StringBuilder;"⟩, cJ8_append, 2, (Option.some (Jvm.ClassFile.FieldType.object "java/lang/StringBuilder")), [])
abbrev Y_J8_append_2 : XInf := (368, ⟨"java/lang/StringBuilder", "append", "(I)Ljava/lang/StringBuilder;"⟩, cJ8_append_2, 2, (Option.some (Jvm.ClassFile.FieldType.object "java/lang/StringBuilder")), [])
abbrev Y_J8_append_3 : XInf := (369, ⟨"java/lang/StringBuilder", "append", "(C)Ljava/lang/StringBuilder;"⟩, cJ8_append_3, 2, (Option.some (Jvm.ClassFile.FieldType.object "java/lang/StringBuilder")), [])
abbrev Y_J8_init : XInf := (370, ⟨"java/lang/StringBuilder", "<init>", "()V"⟩, cJ8_init, 1, (Option.none : Option Jvm.ClassFile.FieldType), [])
abbrev Y_J8_length : XInf := (371, ⟨"java/lang/StringBuilder", "length", "()I"⟩, cJ8_length, 1, (Option.some Jvm.ClassFile.FieldType.int), [])
abbrev Y_J8_setLength : XInf := (372, ⟨"java/lang/StringBuilder", "setLength", "(I)V"⟩, cJ8_setLength, 2, (Option.none : Option Jvm.ClassFile.FieldType), [])
abbrev Y_J8_toString : XInf := (373, ⟨"java/lang/StringBuilder", "toString", "()Ljava/lang/String;"⟩, cJ8_toString, 1, (Option.some (Jvm.ClassFile.FieldType.object "java/lang/String")), [])
abbrev Y_J9_charAt : XInf := (374, ⟨"java/lang/String", "charAt", "(I)C"⟩, cJ9_charAt, 2, (Option.some Jvm.ClassFile.FieldType.char), [])
abbrev Y_J9_checkIndex : XInf := (375, ⟨"java/lang/String", "checkIndex", "(II)V"⟩, cJ9_checkIndex, 2, (Option.none : Option Jvm.ClassFile.FieldType), [])
abbrev Y_J9_coder : XInf := (376, ⟨"java/lang/String", "coder", "()B"⟩, cJ9_coder, 1, (Option.some Jvm.ClassFile.FieldType.byte), [])
abbrev Y_J9_equals : XInf := (377, ⟨"java/lang/String", "equals", "(Ljava/lang/Object;)Z"⟩, cJ9_equals, 3, (Option.some Jvm.ClassFile.FieldType.boolean), [])
abbrev Y_J9_getBytes : XInf := (378, ⟨"java/lang/String", "getBytes", "([BIB)V"⟩, cJ9_getBytes, 4, (Option.none : Option Jvm.ClassFile.FieldType), [])
abbrev Y_J9_hashCode : XInf := (379, ⟨"java/lang/String", "hashCode", "()I"⟩, cJ9_hashCode, 2, (Option.some Jvm.ClassFile.FieldType.int), [])
abbrev Y_J9_init : XInf := (380, ⟨"java/lang/String", "<init>", "(Ljava/lang/StringBuilder;)V"⟩, cJ9_init, 2, (Option.none : Option Jvm.ClassFile.FieldType), [])
abbrev Y_J9_init_2 : XInf := (381, ⟨"java/lang/String", "<init>", "(Ljava/lang/AbstractStringBuilder;Ljava/lang/Void;)V"⟩, cJ9_init_2, 5, (Option.none : Option Jvm.ClassFile.FieldType), [])
abbrev Y_J9_isLatin1 : XInf := (382, ⟨"java/lang/String", "isLatin1", "()Z"⟩, cJ9_isLatin1, 1, (Option.some Jvm.ClassFile.FieldType.boolean), [])
abbrev Y_J9_length : XInf := (383, ⟨"java/lang/String", "length", "()I"⟩, cJ9_length, 1, (Option.some Jvm.ClassFile.FieldType.int), [])
abbrev Y_J11_hashCode_2 : XInf := (384, ⟨"jdk/internal/util/ArraysSupport", "hashCode", "(I[BII)I"⟩, cJ11_hashCode_2, 6, (Option.some Jvm.ClassFile.FieldType.int), [])
abbrev Y_J11_newLength : XInf := (385, ⟨"jdk/internal/util/ArraysSupport", "newLength", "(III)I"⟩, cJ11_newLength, 4, (Option.some Jvm.ClassFile.FieldType.int), [])
abbrev Y_J11_signedHashCode : XInf := (386, ⟨"jdk/internal/util/ArraysSupport", "signedHashCode", "(I[BII)I"⟩, cJ11_signedHashCode, 6, (Option.some Jvm.ClassFile.FieldType.int), [])
abbrev Y_J11_vectorizedHashCode : XInf := (387, ⟨"jdk/internal/util/ArraysSupport", "vectorizedHashCode", "(Ljava/lang/Object;IIII)I"⟩, cJ11_vectorizedHashCode, 5, (Option.some Jvm.ClassFile.FieldType.int), [])
abbrev Y_J12_max : XInf := (388, ⟨"java/lang/Math", "max", "(II)I"⟩, cJ12_max, 2, (Option.some Jvm.ClassFile.FieldType.int), [])
abbrev Y_J12_min : XInf := (389, ⟨"java/lang/Math", "min", "(II)I"⟩, cJ12_min, 2, (Option.some Jvm.ClassFile.FieldType.int), [])
abbrev Y_J13_copyOf : XInf := (390, ⟨"java/util/Arrays", "copyOf", "([BI)[B"⟩, cJ13_copyOf, 3, (Option.some (Jvm.ClassFile.FieldType.array Jvm.ClassFile.FieldType.byte)), [])
abbrev Y_J13_copyOfRange : XInf := (391, ⟨"java/util/Arrays", "copyOfRange", "([BII)[B"⟩, cJ13_copyOfRange, 3, (Option.some (Jvm.ClassFile.FieldType.array Jvm.ClassFile.FieldType.byte)), [])
abbrev Y_J13_copyOfRangeByte : XInf := (392, ⟨"java/util/Arrays", "copyOfRangeByte", "([BII)[B"⟩, cJ13_copyOfRangeByte, 5, (Option.some (Jvm.ClassFile.FieldType.array Jvm.ClassFile.FieldType.byte)), [])
abbrev Y_J13_fill : XInf := (393, ⟨"java/util/Arrays", "fill", "([BIIB)V"⟩, cJ13_fill, 5, (Option.none : Option Jvm.ClassFile.FieldType), [])
abbrev Y_J13_rangeCheck : XInf := (394, ⟨"java/util/Arrays", "rangeCheck", "(III)V"⟩, cJ13_rangeCheck, 3, (Option.none : Option Jvm.ClassFile.FieldType), [])
abbrev Y_J14_checkIndex : XInf := (395, ⟨"jdk/internal/util/Preconditions", "checkIndex", "(IILjava/util/function/BiFunction;)I"⟩, cJ14_checkIndex, 3, (Option.some Jvm.ClassFile.FieldType.int), [])
abbrev Y_J15_canEncode : XInf := (396, ⟨"java/lang/StringLatin1", "canEncode", "(C)Z"⟩, cJ15_canEncode, 1, (Option.some Jvm.ClassFile.FieldType.boolean), [])
abbrev Y_J15_charAt : XInf := (397, ⟨"java/lang/StringLatin1", "charAt", "([BI)C"⟩, cJ15_charAt, 2, (Option.some Jvm.ClassFile.FieldType.char), [])
abbrev Y_J15_equals : XInf := (398, ⟨"java/lang/StringLatin1", "equals", "([B[B)Z"⟩, cJ15_equals, 3, (Option.some Jvm.ClassFile.FieldType.boolean), [])
abbrev Y_J15_fillNull : XInf := (399, ⟨"java/lang/StringLatin1", "fillNull", "([BII)V"⟩, cJ15_fillNull, 3, (Option.none : Option Jvm.ClassFile.FieldType), [])
abbrev Y_J15_hashCode : XInf := (400, ⟨"java/lang/StringLatin1", "hashCode", "([B)I"⟩, cJ15_hashCode, 1, (Option.some Jvm.ClassFile.FieldType.int), [])
abbrev Y_J16_init : XInf := (401, ⟨"java/lang/Number", "<init>", "()V"⟩, cJ16_init, 1, (Option.none : Option Jvm.ClassFile.FieldType), [])
abbrev Y_J17_equals : XInf := (402, ⟨"java/lang/Integer", "equals", "(Ljava/lang/Object;)Z"⟩, cJ17_equals, 2, (Option.some Jvm.ClassFile.FieldType.boolean), [])
abbrev Y_J17_getChars : XInf := (403, ⟨"java/lang/Integer", "getChars", "(II[B)I"⟩, cJ17_getChars, 7, (Option.some Jvm.ClassFile.FieldType.int), [])
abbrev Y_J17_init : XInf := (404, ⟨"java/lang/Integer", "<init>", "(I)V"⟩, cJ17_init, 2, (Option.none : Option Jvm.ClassFile.FieldType), [])
abbrev Y_J17_intValue : XInf := (405, ⟨"java/lang/Integer", "intValue", "()I"⟩, cJ17_intValue, 1, (Option.some Jvm.ClassFile.FieldType.int), [])
abbrev Y_J17_numberOfTrailingZeros : XInf := (406, ⟨"java/lang/Integer", "numberOfTrailingZeros", "(I)I"⟩, cJ17_numberOfTrailingZeros, 2, (Option.some Jvm.ClassFile.FieldType.int), [])
abbrev Y_J17_stringSize : XInf := (407, ⟨"java/lang/Integer", "stringSize", "(I)I"⟩, cJ17_stringSize, 4, (Option.some Jvm.ClassFile.FieldType.int), [])
abbrev Y_J17_valueOf : XInf := (408, ⟨"java/lang/Integer", "valueOf", "(I)Ljava/lang/Integer;"⟩, cJ17_valueOf, 1, (Option.some (Jvm.ClassFile.FieldType.object "java/lang/Integer")), [])
abbrev Y_J18_ordinal : XInf := (409, ⟨"java/lang/Enum", "ordinal", "()I"⟩, cJ18_ordinal, 1, (Option.some Jvm.ClassFile.FieldType.int), [])
abbrev Y_J19_init : XInf := (410, ⟨"java/util/AbstractSequentialList", "<init>", "()V"⟩, cJ19_init, 1, (Option.none : Option Jvm.ClassFile.FieldType), [])
abbrev Y_J19_iterator : XInf := (411, ⟨"java/util/AbstractSequentialList", "iterator", "()Ljava/util/Iterator;"⟩, cJ19_iterator, 1, (Option.some (Jvm.ClassFile.FieldType.object "java/util/Iterator")), [])
abbrev Y_J20_add : XInf := (412, ⟨"java/util/LinkedList", "add", "(Ljava/lang/Object;)Z"⟩, cJ20_add, 2, (Option.some Jvm.ClassFile.FieldType.boolean), [])
abbrev Y_J20_addLast : XInf := (413, ⟨"java/util/LinkedList", "addLast", "(Ljava/lang/Object;)V"⟩, cJ20_addLast, 2, (Option.none : Option Jvm.ClassFile.FieldType), [])
abbrev Y_J20_checkElementIndex : XInf := (414, ⟨"java/util/LinkedList", "checkElementIndex", "(I)V"⟩, cJ20_checkElementIndex, 2, (Option.none : Option Jvm.ClassFile.FieldType), [])
abbrev Y_J20_checkPositionIndex : XInf := (415, ⟨"java/util/LinkedList", "checkPositionIndex", "(I)V"⟩, cJ20_checkPositionIndex, 2, (Option.none : Option Jvm.ClassFile.FieldType), [])
abbrev Y_J20_clear : XInf := (416, ⟨"java/util/LinkedList", "clear", "()V"⟩, cJ20_clear, 3, (Option.none : Option Jvm.ClassFile.FieldType), [])
abbrev Y_J20_contains : XInf := (417, ⟨"java/util/LinkedList", "contains", "(Ljava/lang/Object;)Z"⟩, cJ20_contains, 2, (Option.some Jvm.ClassFile.FieldType.boolean), [])
abbrev Y_J20_get : XInf := (418, ⟨"java/util/LinkedList", "get", "(I)Ljava/lang/Object;"⟩, cJ20_get, 2, (Option.some (Jvm.ClassFile.FieldType.object "java/lang/Object")), [])
abbrev Y_J20_indexOf : XInf := (419, ⟨"java/util/LinkedList", "indexOf", "(Ljava/lang/Object;)I"⟩, cJ20_indexOf, 4, (Option.some Jvm.ClassFile.FieldType.int), [])
abbrev Y_J20_init : XInf := (420, ⟨"java/util/LinkedList", "<init>", "()V"⟩, cJ20_init, 1, (Option.none : Option Jvm.ClassFile.FieldType), [])
abbrev Y_J20_isElementIndex : XInf := (421, ⟨"java/util/LinkedList", "isElementIndex", "(I)Z"⟩, cJ20_isElementIndex, 2, (Option.some Jvm.ClassFile.FieldType.boolean), [])
abbrev Y_J20_isPositionIndex : XInf := (422, ⟨"java/util/LinkedList", "isPositionIndex", "(I)Z"⟩, cJ20_isPositionIndex, 2, (Option.some Jvm.ClassFile.FieldType.boolean), [])
abbrev Y_J20_linkLast : XInf := (423, ⟨"java/util/LinkedList", "linkLast", "(Ljava/lang/Object;)V"⟩, cJ20_linkLast, 4, (Option.none : Option Jvm.ClassFile.FieldType), [])
abbrev Y_J20_listIterator : XInf := (424, ⟨"java/util/LinkedList", "listIterator", "(I)Ljava/util/ListIterator;"⟩, cJ20_listIterator, 2, (Option.some (Jvm.ClassFile.FieldType.object "java/util/ListIterator")), [])
abbrev Y_J20_node : XInf := (425, ⟨"java/util/LinkedList", "node", "(I)Ljava/util/LinkedList$Node;"⟩, cJ20_node, 4, (Option.some (Jvm.ClassFile.FieldType.object "java/util/LinkedList$Node")), [])
abbrev Y_J20_remove : XInf := (426, ⟨"java/util/LinkedList", "remove", "(Ljava/lang/Object;)Z"⟩, cJ20_remove, 3, (Option.some Jvm.ClassFile.FieldType.boolean), [])
abbrev Y_J20_removeFirstOccurrence : XInf := (427, ⟨"java/util/LinkedList", "removeFirstOccurrence", "(Ljava/lang/Object;)Z"⟩, cJ20_removeFirstOccurrence, 2, (Option.some Jvm.ClassFile.FieldType.boolean), [])
abbrev Y_J20_size : XInf := (428, ⟨"java/util/LinkedList", "size", "()I"⟩, cJ20_size, 1, (Option.some Jvm.ClassFile.FieldType.int), [])
abbrev Y_J20_unlink : XInf := (429, ⟨"java/util/LinkedList", "unlink", "(Ljava/util/LinkedList$Node;)Ljava/lang/Object;"⟩, cJ20_unlink, 5, (Option.some (Jvm.ClassFile.FieldType.object "java/lang/Object")), [])
abbrev Y_J21_init : XInf := (430, ⟨"java/util/LinkedList$Node", "<init>", "(Ljava/util/LinkedList$Node;Ljava/lang/Object;Ljava/util/LinkedList$Node;)V"⟩, cJ21_init, 4, (Option.none : Option Jvm.ClassFile.FieldType), [])
abbrev Y_J22_addLast : XInf := (431, ⟨"java/util/ArrayDeque", "addLast", "(Ljava/lang/Object;)V"⟩, cJ22_addLast, 3, (Option.none : Option Jvm.ClassFile.FieldType), [])
abbrev Y_J22_circularClear : XInf := (432, ⟨"java/util/ArrayDeque", "circularClear", "([Ljava/lang/Object;II)V"⟩, cJ22_circularClear, 4, (Option.none : Option Jvm.ClassFile.FieldType), [])
abbrev Y_J22_clear : XInf := (433, ⟨"java/util/ArrayDeque", "clear", "()V"⟩, cJ22_clear, 1, (Option.none : Option Jvm.ClassFile.FieldType), [])
abbrev Y_J22_dec : XInf := (434, ⟨"java/util/ArrayDeque", "dec", "(II)I"⟩, cJ22_dec, 2, (Option.some Jvm.ClassFile.FieldType.int), [])
abbrev Y_J22_elementAt : XInf := (435, ⟨"java/util/ArrayDeque", "elementAt", "([Ljava/lang/Object;I)Ljava/lang/Object;"⟩, cJ22_elementAt, 2, (Option.some (Jvm.ClassFile.FieldType.object "java/lang/Object")), [])
abbrev Y_J22_inc : XInf := (436, ⟨"java/util/ArrayDeque", "inc", "(II)I"⟩, cJ22_inc, 2, (Option.some Jvm.ClassFile.FieldType.int), [])
abbrev Y_J22_init : XInf := (437, ⟨"java/util/ArrayDeque", "<init>", "()V"⟩, cJ22_init, 1, (Option.none : Option Jvm.ClassFile.FieldType), [])
abbrev Y_J22_isEmpty : XInf := (438, ⟨"java/util/ArrayDeque", "isEmpty", "()Z"⟩, cJ22_isEmpty, 1, (Option.some Jvm.ClassFile.FieldType.boolean), [])
abbrev Y_J22_pollFirst : XInf := (439, ⟨"java/util/ArrayDeque", "pollFirst", "()Ljava/lang/Object;"⟩, cJ22_pollFirst, 4, (Option.some (Jvm.ClassFile.FieldType.object "java/lang/Object")), [])
abbrev Y_J22_pollLast : XInf := (440, ⟨"java/util/ArrayDeque", "pollLast", "()Ljava/lang/Object;"⟩, cJ22_pollLast, 4, (Option.some (Jvm.ClassFile.FieldType.object "java/lang/Object")), [])
abbrev Y_J22_removeFirst : XInf := (441, ⟨"java/util/ArrayDeque", "removeFirst", "()Ljava/lang/Object;"⟩, cJ22_removeFirst, 2, (Option.some (Jvm.ClassFile.FieldType.object "java/lang/Object")), [])
abbrev Y_J22_removeLast : XInf := (442, ⟨"java/util/ArrayDeque", "removeLast", "()Ljava/lang/Object;"⟩, cJ22_removeLast, 2, (Option.some (Jvm.ClassFile.FieldType.object "java/lang/Object")), [])
abbrev Y_J22_size : XInf := (443, ⟨"java/util/ArrayDeque", "size", "()I"⟩, cJ22_size, 1, (Option.some Jvm.ClassFile.FieldType.int), [])
abbrev Y_J22_sub : XInf := (444, ⟨"java/util/ArrayDeque", "sub", "(III)I"⟩, cJ22_sub, 3, (Option.some Jvm.ClassFile.FieldType.int), [])
abbrev Y_J23_checkForComodification : XInf := (445, ⟨"java/util/ArrayList$Itr", "checkForComodification", "()V"⟩, cJ23_checkForComodification, 1, (Option.none : Option Jvm.ClassFile.FieldType), [])
abbrev Y_J23_hasNext : XInf := (446, ⟨"java/util/ArrayList$Itr", "hasNext", "()Z"⟩, cJ23_hasNext, 1, (Option.some Jvm.ClassFile.FieldType.boolean), [])
abbrev Y_J23_init : XInf := (447, ⟨"java/util/ArrayList$Itr", "<init>", "(Ljava/util/ArrayList;)V"⟩, cJ23_init, 2, (Option.none : Option Jvm.ClassFile.FieldType), [])
abbrev Y_J23_next : XInf := (448, ⟨"java/util/ArrayList$Itr", "next", "()Ljava/lang/Object;"⟩, cJ23_next, 3, (Option.some (Jvm.ClassFile.FieldType.object "java/lang/Object")), [])
abbrev Y_J26_checkForComodification : XInf := (449, ⟨"java/util/LinkedList$ListItr", "checkForComodification", "()V"⟩, cJ26_checkForComodification, 1, (Option.none : Option Jvm.ClassFile.FieldType), [])
abbrev Y_J26_hasNext : XInf := (450, ⟨"java/util/LinkedList$ListItr", "hasNext", "()Z"⟩, cJ26_hasNext, 1, (Option.some Jvm.ClassFile.FieldType.boolean), [])
abbrev Y_J26_init : XInf := (451, ⟨"java/util/LinkedList$ListItr", "<init>", "(Ljava/util/LinkedList;I)V"⟩, cJ26_init, 3, (Option.none : Option Jvm.ClassFile.FieldType), [])
abbrev Y_J26_next : XInf := (452, ⟨"java/util/LinkedList$ListItr", "next", "()Ljava/lang/Object;"⟩, cJ26_next, 1, (Option.some (Jvm.ClassFile.FieldType.object "java/lang/Object")), [])
abbrev Y_J28_checkIndex : XInf := (453, ⟨"java/util/Objects", "checkIndex", "(II)I"⟩, cJ28_checkIndex, 2, (Option.some Jvm.ClassFile.FieldType.int), [])
abbrev Y_J29_checkInvariants : XInf := (454, ⟨"java/util/BitSet", "checkInvariants", "()V"⟩, cJ29_checkInvariants, 1, (Option.none : Option Jvm.ClassFile.FieldType), [])
abbrev Y_J29_clear : XInf := (455, ⟨"java/util/BitSet", "clear", "(I)V"⟩, cJ29_clear, 3, (Option.none : Option Jvm.ClassFile.FieldType), [])
abbrev Y_J29_ensureCapacity : XInf := (456, ⟨"java/util/BitSet", "ensureCapacity", "(I)V"⟩, cJ29_ensureCapacity, 3, (Option.none : Option Jvm.ClassFile.FieldType), [])
abbrev Y_J29_expandTo : XInf := (457, ⟨"java/util/BitSet", "expandTo", "(I)V"⟩, cJ29_expandTo, 3, (Option.none : Option Jvm.ClassFile.FieldType), [])
abbrev Y_J29_init : XInf := (458, ⟨"java/util/BitSet", "<init>", "(I)V"⟩, cJ29_init, 2, (Option.none : Option Jvm.ClassFile.FieldType), [])
abbrev Y_J29_initWords : XInf := (459, ⟨"java/util/BitSet", "initWords", "(I)V"⟩, cJ29_initWords, 2, (Option.none : Option Jvm.ClassFile.FieldType), [])
abbrev Y_J29_nextSetBit : XInf := (460, ⟨"java/util/BitSet", "nextSetBit", "(I)I"⟩, cJ29_nextSetBit, 5, (Option.some Jvm.ClassFile.FieldType.int), [])
abbrev Y_J29_recalculateWordsInUse : XInf := (461, ⟨"java/util/BitSet", "recalculateWordsInUse", "()V"⟩, cJ29_recalculateWordsInUse, 2, (Option.none : Option Jvm.ClassFile.FieldType), [])
abbrev Y_J29_set : XInf := (462, ⟨"java/util/BitSet", "set", "(IZ)V"⟩, cJ29_set, 3, (Option.none : Option Jvm.ClassFile.FieldType), [])
abbrev Y_J29_set_2 : XInf := (463, ⟨"java/util/BitSet", "set", "(I)V"⟩, cJ29_set_2, 3, (Option.none : Option Jvm.ClassFile.FieldType), [])
abbrev Y_J29_wordIndex : XInf := (464, ⟨"java/util/BitSet", "wordIndex", "(I)I"⟩, cJ29_wordIndex, 1, (Option.some Jvm.ClassFile.FieldType.int), [])
abbrev Y_J30_numberOfTrailingZeros : XInf := (465, ⟨"java/lang/Long", "numberOfTrailingZeros", "(J)I"⟩, cJ30_numberOfTrailingZeros, 3, (Option.some Jvm.ClassFile.FieldType.int), [])
abbrev Y_J31_init : XInf := (466, ⟨"java/lang/Record", "<init>", "()V"⟩, cJ31_init, 1, (Option.none : Option Jvm.ClassFile.FieldType), [])
def xI0 : List XInf := [Y_L_law, Y_X0_account, Y_X0_cause, Y_X0_claim, Y_X0_claimCosts, Y_X0_claimTime, Y_X0_count, Y_X0_crownShare, Y_X0_divide, Y_X0_dryIn, Y_X0_dryTicks, Y_X0_earned, Y_X0_finder, Y_X0_format, Y_X0_good, Y_X0_hand, Y_X0_haul, Y_X0_level, Y_X0_load, Y_X0_lossIn]
def xI1 : List XInf := [Y_X0_lostIn, Y_X0_marked, Y_X0_off, Y_X0_owner, Y_X0_ownerShare, Y_X0_pay, Y_X0_play, Y_X0_purseIf, Y_X0_rope, Y_X0_share, Y_X0_size, Y_X0_ticks, Y_X0_unequal, Y_X0_why, Y_X0_whyDivide, Y_X1_account, Y_X1_append, Y_X1_asInt, Y_X1_bestClaim, Y_X1_bestHaul]
def xI2 : List XInf := [Y_X1_cause, Y_X1_claim, Y_X1_claimCosts, Y_X1_claimTime, Y_X1_claiming, Y_X1_count, Y_X1_crewsWith, Y_X1_crownPart, Y_X1_crownShare, Y_X1_divide, Y_X1_divideAll, Y_X1_dividing, Y_X1_dividingAll, Y_X1_done, Y_X1_dryIn, Y_X1_dryNow, Y_X1_dryTicks, Y_X1_earned, Y_X1_errorPosition, Y_X1_failed]
def xI3 : List XInf := [Y_X1_feed, Y_X1_finder, Y_X1_firstDue, Y_X1_format, Y_X1_formattedByte, Y_X1_gap, Y_X1_good, Y_X1_goodAt, Y_X1_hand, Y_X1_has, Y_X1_haul, Y_X1_hauling, Y_X1_inState, Y_X1_init, Y_X1_isAhead, Y_X1_isClaimable, Y_X1_isGood, Y_X1_isIn, Y_X1_keeps, Y_X1_lambda_claiming_5]
def xI4 : List XInf := [Y_X1_lambda_crownShare_10, Y_X1_lambda_dividingAll_7, Y_X1_lambda_dividing_6, Y_X1_lambda_hauling_4, Y_X1_lambda_lettingAll_2, Y_X1_lambda_letting_1, Y_X1_lambda_ownerShare_11, Y_X1_lambda_passing_8, Y_X1_lambda_paying_3, Y_X1_lambda_roping_0, Y_X1_lambda_shareOf_9, Y_X1_letting, Y_X1_lettingAll, Y_X1_level, Y_X1_load, Y_X1_lossIn, Y_X1_lostIn, Y_X1_marked, Y_X1_nextLost, Y_X1_off]
def xI5 : List XInf := [Y_X1_offAll, Y_X1_owner, Y_X1_ownerShare, Y_X1_passing, Y_X1_pay, Y_X1_paying, Y_X1_plain, Y_X1_play, Y_X1_purseIf, Y_X1_ranked, Y_X1_reading, Y_X1_requireArgument, Y_X1_requireElement, Y_X1_requireFinder, Y_X1_restoreSnapshot, Y_X1_richest, Y_X1_rope, Y_X1_roping, Y_X1_saveSnapshot, Y_X1_savedShare]
def xI6 : List XInf := [Y_X1_share, Y_X1_shareOf, Y_X1_size, Y_X1_ticks, Y_X1_turnIn, Y_X1_undo, Y_X1_undoCount, Y_X1_unequal, Y_X1_why, Y_X1_whyDivide, Y_X2_claims, Y_X2_copy, Y_X2_divides, Y_X2_dividesAll, Y_X2_divisionRefusal, Y_X2_dryIn, Y_X2_freeFinders, Y_X2_gives, Y_X2_good, Y_X2_hauls]
def xI7 : List XInf := [Y_X2_init, Y_X2_init_2, Y_X2_isDry, Y_X2_lets, Y_X2_letsAll, Y_X2_level, Y_X2_lostIn, Y_X2_passes, Y_X2_pays, Y_X2_refusal, Y_X2_ropeOf, Y_X2_ropes, Y_X2_washes, Y_X2_wetTicks, Y_X3_copy, Y_X3_crown, Y_X3_hands, Y_X3_init, Y_X3_leftOver, Y_X3_owners]
def xI8 : List XInf := [Y_X3_parts, Y_X3_rest, Y_X3_salvage, Y_X3_sum, Y_X4_named, Y_X4_of, Y_X4_values, Y_X5_accept, Y_X5_account, Y_X5_addGood, Y_X5_addHand, Y_X5_advance, Y_X5_allPurses, Y_X5_begin, Y_X5_bestClaim, Y_X5_bestHaul, Y_X5_byteAt, Y_X5_cause, Y_X5_check, Y_X5_claim]
def xI9 : List XInf := [Y_X5_claimCosts, Y_X5_claimTime, Y_X5_claimable, Y_X5_copy, Y_X5_count, Y_X5_countDry, Y_X5_countDryNow, Y_X5_countFree, Y_X5_countState, Y_X5_crewOf, Y_X5_crewsWith, Y_X5_crownOf, Y_X5_crownPart, Y_X5_crownShare, Y_X5_divide, Y_X5_divideAll, Y_X5_divideNow, Y_X5_divideRefusal, Y_X5_doClaim, Y_X5_doDivide]
def xI10 : List XInf := [Y_X5_doDivideAll, Y_X5_doHaul, Y_X5_doOff, Y_X5_doOffAll, Y_X5_doPay, Y_X5_doRope, Y_X5_doTicks, Y_X5_does, Y_X5_dryIn, Y_X5_dryTicks, Y_X5_earned, Y_X5_ends, Y_X5_errorPosition, Y_X5_expect, Y_X5_feed, Y_X5_finder, Y_X5_finish, Y_X5_firstDue, Y_X5_format, Y_X5_formattedByte]
def xI11 : List XInf := [Y_X5_gap, Y_X5_good, Y_X5_hand, Y_X5_handOf, Y_X5_haul, Y_X5_haulRefusal, Y_X5_inRange, Y_X5_init, Y_X5_isClaimed, Y_X5_isDigit, Y_X5_isDry, Y_X5_isFinder, Y_X5_isGood, Y_X5_isIn, Y_X5_isLetter, Y_X5_isOwner, Y_X5_isSymbol, Y_X5_isWord, Y_X5_keep, Y_X5_kindHere]
def xI12 : List XInf := [Y_X5_lacks, Y_X5_lay, Y_X5_layFinder, Y_X5_letGo, Y_X5_level, Y_X5_levelAt, Y_X5_load, Y_X5_look, Y_X5_lose, Y_X5_lossIn, Y_X5_lostIn, Y_X5_marked, Y_X5_nextLost, Y_X5_of, Y_X5_ofFinder, Y_X5_off, Y_X5_offAll, Y_X5_orderHere, Y_X5_owner, Y_X5_ownerOf]
def xI13 : List XInf := [Y_X5_ownerShare, Y_X5_partOf, Y_X5_pay, Y_X5_placeOf, Y_X5_play, Y_X5_purseIf, Y_X5_raise, Y_X5_rankOf, Y_X5_ranked, Y_X5_readFirst, Y_X5_readGood, Y_X5_readNumber, Y_X5_readOrder, Y_X5_readText, Y_X5_record, Y_X5_recorded, Y_X5_removeHand, Y_X5_restOf, Y_X5_restoreSnapshot, Y_X5_richest]
def xI14 : List XInf := [Y_X5_rope, Y_X5_salvageOf, Y_X5_saveSnapshot, Y_X5_savedShare, Y_X5_scan, Y_X5_share, Y_X5_shareAt, Y_X5_shareOf, Y_X5_size, Y_X5_startText, Y_X5_tallied, Y_X5_tally, Y_X5_thrown, Y_X5_tick, Y_X5_ticks, Y_X5_ticksToDry, Y_X5_ticksToLoss, Y_X5_turnIn, Y_X5_undo, Y_X5_undoCount]
def xI15 : List XInf := [Y_X5_unequal, Y_X5_value, Y_X5_wash, Y_X5_why, Y_X5_whyDivide, Y_X5_write, Y_X5_writeNumber, Y_X6_accept, Y_X6_byteAt, Y_X6_check, Y_X6_ends, Y_X6_finderHere, Y_X6_good, Y_X6_goodHere, Y_X6_init, Y_X6_isDigit, Y_X6_isLetter, Y_X6_isOrder, Y_X6_keyword, Y_X6_look]
def xI16 : List XInf := [Y_X6_next, Y_X6_number, Y_X6_order, Y_X6_script, Y_X6_text, Y_X7_init, Y_X8_amount, Y_X8_init, Y_X9_amount, Y_X9_init, Y_X9_owner, Y_X10_amount, Y_X10_finder, Y_X10_init, Y_X11_init, Y_X11_iterator, Y_X12_hasNext, Y_X12_init, Y_X12_next, Y_X12_next_2]
def xI17 : List XInf := [Y_J0_init, Y_J1_init, Y_J1_listIterator, Y_J2_add, Y_J2_add_2, Y_J2_elementData, Y_J2_get, Y_J2_grow, Y_J2_grow_2, Y_J2_init, Y_J2_init_2, Y_J2_iterator, Y_J2_size, Y_J3_init_4, Y_J4_init_4, Y_J7_append, Y_J7_append_2, Y_J7_append_3, Y_J7_ensureCapacityInternal, Y_J7_getValue]
def xI18 : List XInf := [Y_J7_inflateIfNeededFor, Y_J7_init, Y_J7_isLatin1, Y_J7_length, Y_J7_newCapacity, Y_J7_putStringAt, Y_J7_setLength, Y_J8_append, Y_J8_append_2, Y_J8_append_3, Y_J8_init, Y_J8_length, Y_J8_setLength, Y_J8_toString, Y_J9_charAt, Y_J9_checkIndex, Y_J9_coder, Y_J9_equals, Y_J9_getBytes, Y_J9_hashCode]
def xI19 : List XInf := [Y_J9_init, Y_J9_init_2, Y_J9_isLatin1, Y_J9_length, Y_J11_hashCode_2, Y_J11_newLength, Y_J11_signedHashCode, Y_J11_vectorizedHashCode, Y_J12_max, Y_J12_min, Y_J13_copyOf, Y_J13_copyOfRange, Y_J13_copyOfRangeByte, Y_J13_fill, Y_J13_rangeCheck, Y_J14_checkIndex, Y_J15_canEncode, Y_J15_charAt, Y_J15_equals, Y_J15_fillNull]
def xI20 : List XInf := [Y_J15_hashCode, Y_J16_init, Y_J17_equals, Y_J17_getChars, Y_J17_init, Y_J17_intValue, Y_J17_numberOfTrailingZeros, Y_J17_stringSize, Y_J17_valueOf, Y_J18_ordinal, Y_J19_init, Y_J19_iterator, Y_J20_add, Y_J20_addLast, Y_J20_checkElementIndex, Y_J20_checkPositionIndex, Y_J20_clear, Y_J20_contains, Y_J20_get, Y_J20_indexOf]
def xI21 : List XInf := [Y_J20_init, Y_J20_isElementIndex, Y_J20_isPositionIndex, Y_J20_linkLast, Y_J20_listIterator, Y_J20_node, Y_J20_remove, Y_J20_removeFirstOccurrence, Y_J20_size, Y_J20_unlink, Y_J21_init, Y_J22_addLast, Y_J22_circularClear, Y_J22_clear, Y_J22_dec, Y_J22_elementAt, Y_J22_inc, Y_J22_init, Y_J22_isEmpty, Y_J22_pollFirst]
def xI22 : List XInf := [Y_J22_pollLast, Y_J22_removeFirst, Y_J22_removeLast, Y_J22_size, Y_J22_sub, Y_J23_checkForComodification, Y_J23_hasNext, Y_J23_init, Y_J23_next, Y_J26_checkForComodification, Y_J26_hasNext, Y_J26_init, Y_J26_next, Y_J28_checkIndex, Y_J29_checkInvariants, Y_J29_clear, Y_J29_ensureCapacity, Y_J29_expandTo, Y_J29_init, Y_J29_initWords]
def xI23 : List XInf := [Y_J29_nextSetBit, Y_J29_recalculateWordsInUse, Y_J29_set, Y_J29_set_2, Y_J29_wordIndex, Y_J30_numberOfTrailingZeros, Y_J31_init]
def xInf : List XInf := xI0 ++ (xI1 ++ (xI2 ++ (xI3 ++ (xI4 ++ (xI5 ++ (xI6 ++ (xI7 ++ (xI8 ++ (xI9 ++ (xI10 ++ (xI11 ++ (xI12 ++ (xI13 ++ (xI14 ++ (xI15 ++ (xI16 ++ (xI17 ++ (xI18 ++ (xI19 ++ (xI20 ++ (xI21 ++ (xI22 ++ (xI23)))))))))))))))))))))))
theorem xIm0 {q : XInf} (h : q ∈ xI0) : q ∈ xInf := List.mem_append_left _ h
theorem xIm1 {q : XInf} (h : q ∈ xI1) : q ∈ xInf := List.mem_append_right _ (List.mem_append_left _ h)
theorem xIm2 {q : XInf} (h : q ∈ xI2) : q ∈ xInf := List.mem_append_right _ (List.mem_append_right _ (List.mem_append_left _ h))
theorem xIm3 {q : XInf} (h : q ∈ xI3) : q ∈ xInf := List.mem_append_right _ (List.mem_append_right _ (List.mem_append_right _ (List.mem_append_left _ h)))
theorem xIm4 {q : XInf} (h : q ∈ xI4) : q ∈ xInf := List.mem_append_right _ (List.mem_append_right _ (List.mem_append_right _ (List.mem_append_right _ (List.mem_append_left _ h))))
theorem xIm5 {q : XInf} (h : q ∈ xI5) : q ∈ xInf := List.mem_append_right _ (List.mem_append_right _ (List.mem_append_right _ (List.mem_append_right _ (List.mem_append_right _ (List.mem_append_left _ h)))))
theorem xIm6 {q : XInf} (h : q ∈ xI6) : q ∈ xInf := List.mem_append_right _ (List.mem_append_right _ (List.mem_append_right _ (List.mem_append_right _ (List.mem_append_right _ (List.mem_append_right _ (List.mem_append_left _ h))))))
theorem xIm7 {q : XInf} (h : q ∈ xI7) : q ∈ xInf := List.mem_append_right _ (List.mem_append_right _ (List.mem_append_right _ (List.mem_append_right _ (List.mem_append_right _ (List.mem_append_right _ (List.mem_append_right _ (List.mem_append_left _ h)))))))
theorem xIm8 {q : XInf} (h : q ∈ xI8) : q ∈ xInf := List.mem_append_right _ (List.mem_append_right _ (List.mem_append_right _ (List.mem_append_right _ (List.mem_append_right _ (List.mem_append_right _ (List.mem_append_right _ (List.mem_append_right _ (List.mem_append_left _ h))))))))
theorem xIm9 {q : XInf} (h : q ∈ xI9) : q ∈ xInf := List.mem_append_right _ (List.mem_append_right _ (List.mem_append_right _ (List.mem_append_right _ (List.mem_append_right _ (List.mem_append_right _ (List.mem_append_right _ (List.mem_append_right _ (List.mem_append_right _ (List.mem_append_left _ h)))))))))
theorem xIm10 {q : XInf} (h : q ∈ xI10) : q ∈ xInf := List.mem_append_right _ (List.mem_append_right _ (List.mem_append_right _ (List.mem_append_right _ (List.mem_append_right _ (List.mem_append_right _ (List.mem_append_right _ (List.mem_append_right _ (List.mem_append_right _ (List.mem_append_right _ (List.mem_append_left _ h))))))))))
theorem xIm11 {q : XInf} (h : q ∈ xI11) : q ∈ xInf := List.mem_append_right _ (List.mem_append_right _ (List.mem_append_right _ (List.mem_append_right _ (List.mem_append_right _ (List.mem_append_right _ (List.mem_append_right _ (List.mem_append_right _ (List.mem_append_right _ (List.mem_append_right _ (List.mem_append_right _ (List.mem_append_left _ h)))))))))))
theorem xIm12 {q : XInf} (h : q ∈ xI12) : q ∈ xInf := List.mem_append_right _ (List.mem_append_right _ (List.mem_append_right _ (List.mem_append_right _ (List.mem_append_right _ (List.mem_append_right _ (List.mem_append_right _ (List.mem_append_right _ (List.mem_append_right _ (List.mem_append_right _ (List.mem_append_right _ (List.mem_append_right _ (List.mem_append_left _ h))))))))))))
theorem xIm13 {q : XInf} (h : q ∈ xI13) : q ∈ xInf := List.mem_append_right _ (List.mem_append_right _ (List.mem_append_right _ (List.mem_append_right _ (List.mem_append_right _ (List.mem_append_right _ (List.mem_append_right _ (List.mem_append_right _ (List.mem_append_right _ (List.mem_append_right _ (List.mem_append_right _ (List.mem_append_right _ (List.mem_append_right _ (List.mem_append_left _ h)))))))))))))
theorem xIm14 {q : XInf} (h : q ∈ xI14) : q ∈ xInf := List.mem_append_right _ (List.mem_append_right _ (List.mem_append_right _ (List.mem_append_right _ (List.mem_append_right _ (List.mem_append_right _ (List.mem_append_right _ (List.mem_append_right _ (List.mem_append_right _ (List.mem_append_right _ (List.mem_append_right _ (List.mem_append_right _ (List.mem_append_right _ (List.mem_append_right _ (List.mem_append_left _ h))))))))))))))
theorem xIm15 {q : XInf} (h : q ∈ xI15) : q ∈ xInf := List.mem_append_right _ (List.mem_append_right _ (List.mem_append_right _ (List.mem_append_right _ (List.mem_append_right _ (List.mem_append_right _ (List.mem_append_right _ (List.mem_append_right _ (List.mem_append_right _ (List.mem_append_right _ (List.mem_append_right _ (List.mem_append_right _ (List.mem_append_right _ (List.mem_append_right _ (List.mem_append_right _ (List.mem_append_left _ h)))))))))))))))
theorem xIm16 {q : XInf} (h : q ∈ xI16) : q ∈ xInf := List.mem_append_right _ (List.mem_append_right _ (List.mem_append_right _ (List.mem_append_right _ (List.mem_append_right _ (List.mem_append_right _ (List.mem_append_right _ (List.mem_append_right _ (List.mem_append_right _ (List.mem_append_right _ (List.mem_append_right _ (List.mem_append_right _ (List.mem_append_right _ (List.mem_append_right _ (List.mem_append_right _ (List.mem_append_right _ (List.mem_append_left _ h))))))))))))))))
theorem xIm17 {q : XInf} (h : q ∈ xI17) : q ∈ xInf := List.mem_append_right _ (List.mem_append_right _ (List.mem_append_right _ (List.mem_append_right _ (List.mem_append_right _ (List.mem_append_right _ (List.mem_append_right _ (List.mem_append_right _ (List.mem_append_right _ (List.mem_append_right _ (List.mem_append_right _ (List.mem_append_right _ (List.mem_append_right _ (List.mem_append_right _ (List.mem_append_right _ (List.mem_append_right _ (List.mem_append_right _ (List.mem_append_left _ h)))))))))))))))))
theorem xIm18 {q : XInf} (h : q ∈ xI18) : q ∈ xInf := List.mem_append_right _ (List.mem_append_right _ (List.mem_append_right _ (List.mem_append_right _ (List.mem_append_right _ (List.mem_append_right _ (List.mem_append_right _ (List.mem_append_right _ (List.mem_append_right _ (List.mem_append_right _ (List.mem_append_right _ (List.mem_append_right _ (List.mem_append_right _ (List.mem_append_right _ (List.mem_append_right _ (List.mem_append_right _ (List.mem_append_right _ (List.mem_append_right _ (List.mem_append_left _ h))))))))))))))))))
theorem xIm19 {q : XInf} (h : q ∈ xI19) : q ∈ xInf := List.mem_append_right _ (List.mem_append_right _ (List.mem_append_right _ (List.mem_append_right _ (List.mem_append_right _ (List.mem_append_right _ (List.mem_append_right _ (List.mem_append_right _ (List.mem_append_right _ (List.mem_append_right _ (List.mem_append_right _ (List.mem_append_right _ (List.mem_append_right _ (List.mem_append_right _ (List.mem_append_right _ (List.mem_append_right _ (List.mem_append_right _ (List.mem_append_right _ (List.mem_append_right _ (List.mem_append_left _ h)))))))))))))))))))
theorem xIm20 {q : XInf} (h : q ∈ xI20) : q ∈ xInf := List.mem_append_right _ (List.mem_append_right _ (List.mem_append_right _ (List.mem_append_right _ (List.mem_append_right _ (List.mem_append_right _ (List.mem_append_right _ (List.mem_append_right _ (List.mem_append_right _ (List.mem_append_right _ (List.mem_append_right _ (List.mem_append_right _ (List.mem_append_right _ (List.mem_append_right _ (List.mem_append_right _ (List.mem_append_right _ (List.mem_append_right _ (List.mem_append_right _ (List.mem_append_right _ (List.mem_append_right _ (List.mem_append_left _ h))))))))))))))))))))
theorem xIm21 {q : XInf} (h : q ∈ xI21) : q ∈ xInf := List.mem_append_right _ (List.mem_append_right _ (List.mem_append_right _ (List.mem_append_right _ (List.mem_append_right _ (List.mem_append_right _ (List.mem_append_right _ (List.mem_append_right _ (List.mem_append_right _ (List.mem_append_right _ (List.mem_append_right _ (List.mem_append_right _ (List.mem_append_right _ (List.mem_append_right _ (List.mem_append_right _ (List.mem_append_right _ (List.mem_append_right _ (List.mem_append_right _ (List.mem_append_right _ (List.mem_append_right _ (List.mem_append_right _ (List.mem_append_left _ h)))))))))))))))))))))
theorem xIm22 {q : XInf} (h : q ∈ xI22) : q ∈ xInf := List.mem_append_right _ (List.mem_append_right _ (List.mem_append_right _ (List.mem_append_right _ (List.mem_append_right _ (List.mem_append_right _ (List.mem_append_right _ (List.mem_append_right _ (List.mem_append_right _ (List.mem_append_right _ (List.mem_append_right _ (List.mem_append_right _ (List.mem_append_right _ (List.mem_append_right _ (List.mem_append_right _ (List.mem_append_right _ (List.mem_append_right _ (List.mem_append_right _ (List.mem_append_right _ (List.mem_append_right _ (List.mem_append_right _ (List.mem_append_right _ (List.mem_append_left _ h))))))))))))))))))))))
theorem xIm23 {q : XInf} (h : q ∈ xI23) : q ∈ xInf := List.mem_append_right _ (List.mem_append_right _ (List.mem_append_right _ (List.mem_append_right _ (List.mem_append_right _ (List.mem_append_right _ (List.mem_append_right _ (List.mem_append_right _ (List.mem_append_right _ (List.mem_append_right _ (List.mem_append_right _ (List.mem_append_right _ (List.mem_append_right _ (List.mem_append_right _ (List.mem_append_right _ (List.mem_append_right _ (List.mem_append_right _ (List.mem_append_right _ (List.mem_append_right _ (List.mem_append_right _ (List.mem_append_right _ (List.mem_append_right _ (List.mem_append_right _ (h)))))))))))))))))))))))
theorem Z_L_law : Y_L_law ∈ xInf := xIm0 (List.mem_of_getElem? (l := xI0) (i := 0) rfl)
theorem Z_X0_account : Y_X0_account ∈ xInf := xIm0 (List.mem_of_getElem? (l := xI0) (i := 1) rfl)
theorem Z_X0_cause : Y_X0_cause ∈ xInf := xIm0 (List.mem_of_getElem? (l := xI0) (i := 2) rfl)
theorem Z_X0_claim : Y_X0_claim ∈ xInf := xIm0 (List.mem_of_getElem? (l := xI0) (i := 3) rfl)
theorem Z_X0_claimCosts : Y_X0_claimCosts ∈ xInf := xIm0 (List.mem_of_getElem? (l := xI0) (i := 4) rfl)
theorem Z_X0_claimTime : Y_X0_claimTime ∈ xInf := xIm0 (List.mem_of_getElem? (l := xI0) (i := 5) rfl)
theorem Z_X0_count : Y_X0_count ∈ xInf := xIm0 (List.mem_of_getElem? (l := xI0) (i := 6) rfl)
theorem Z_X0_crownShare : Y_X0_crownShare ∈ xInf := xIm0 (List.mem_of_getElem? (l := xI0) (i := 7) rfl)
theorem Z_X0_divide : Y_X0_divide ∈ xInf := xIm0 (List.mem_of_getElem? (l := xI0) (i := 8) rfl)
theorem Z_X0_dryIn : Y_X0_dryIn ∈ xInf := xIm0 (List.mem_of_getElem? (l := xI0) (i := 9) rfl)
theorem Z_X0_dryTicks : Y_X0_dryTicks ∈ xInf := xIm0 (List.mem_of_getElem? (l := xI0) (i := 10) rfl)
theorem Z_X0_earned : Y_X0_earned ∈ xInf := xIm0 (List.mem_of_getElem? (l := xI0) (i := 11) rfl)
theorem Z_X0_finder : Y_X0_finder ∈ xInf := xIm0 (List.mem_of_getElem? (l := xI0) (i := 12) rfl)
theorem Z_X0_format : Y_X0_format ∈ xInf := xIm0 (List.mem_of_getElem? (l := xI0) (i := 13) rfl)
theorem Z_X0_good : Y_X0_good ∈ xInf := xIm0 (List.mem_of_getElem? (l := xI0) (i := 14) rfl)
theorem Z_X0_hand : Y_X0_hand ∈ xInf := xIm0 (List.mem_of_getElem? (l := xI0) (i := 15) rfl)
theorem Z_X0_haul : Y_X0_haul ∈ xInf := xIm0 (List.mem_of_getElem? (l := xI0) (i := 16) rfl)
theorem Z_X0_level : Y_X0_level ∈ xInf := xIm0 (List.mem_of_getElem? (l := xI0) (i := 17) rfl)
theorem Z_X0_load : Y_X0_load ∈ xInf := xIm0 (List.mem_of_getElem? (l := xI0) (i := 18) rfl)
theorem Z_X0_lossIn : Y_X0_lossIn ∈ xInf := xIm0 (List.mem_of_getElem? (l := xI0) (i := 19) rfl)
theorem Z_X0_lostIn : Y_X0_lostIn ∈ xInf := xIm1 (List.mem_of_getElem? (l := xI1) (i := 0) rfl)
theorem Z_X0_marked : Y_X0_marked ∈ xInf := xIm1 (List.mem_of_getElem? (l := xI1) (i := 1) rfl)
theorem Z_X0_off : Y_X0_off ∈ xInf := xIm1 (List.mem_of_getElem? (l := xI1) (i := 2) rfl)
theorem Z_X0_owner : Y_X0_owner ∈ xInf := xIm1 (List.mem_of_getElem? (l := xI1) (i := 3) rfl)
theorem Z_X0_ownerShare : Y_X0_ownerShare ∈ xInf := xIm1 (List.mem_of_getElem? (l := xI1) (i := 4) rfl)
theorem Z_X0_pay : Y_X0_pay ∈ xInf := xIm1 (List.mem_of_getElem? (l := xI1) (i := 5) rfl)
theorem Z_X0_play : Y_X0_play ∈ xInf := xIm1 (List.mem_of_getElem? (l := xI1) (i := 6) rfl)
theorem Z_X0_purseIf : Y_X0_purseIf ∈ xInf := xIm1 (List.mem_of_getElem? (l := xI1) (i := 7) rfl)
theorem Z_X0_rope : Y_X0_rope ∈ xInf := xIm1 (List.mem_of_getElem? (l := xI1) (i := 8) rfl)
theorem Z_X0_share : Y_X0_share ∈ xInf := xIm1 (List.mem_of_getElem? (l := xI1) (i := 9) rfl)
theorem Z_X0_size : Y_X0_size ∈ xInf := xIm1 (List.mem_of_getElem? (l := xI1) (i := 10) rfl)
theorem Z_X0_ticks : Y_X0_ticks ∈ xInf := xIm1 (List.mem_of_getElem? (l := xI1) (i := 11) rfl)
theorem Z_X0_unequal : Y_X0_unequal ∈ xInf := xIm1 (List.mem_of_getElem? (l := xI1) (i := 12) rfl)
theorem Z_X0_why : Y_X0_why ∈ xInf := xIm1 (List.mem_of_getElem? (l := xI1) (i := 13) rfl)
theorem Z_X0_whyDivide : Y_X0_whyDivide ∈ xInf := xIm1 (List.mem_of_getElem? (l := xI1) (i := 14) rfl)
theorem Z_X1_account : Y_X1_account ∈ xInf := xIm1 (List.mem_of_getElem? (l := xI1) (i := 15) rfl)
theorem Z_X1_append : Y_X1_append ∈ xInf := xIm1 (List.mem_of_getElem? (l := xI1) (i := 16) rfl)
theorem Z_X1_asInt : Y_X1_asInt ∈ xInf := xIm1 (List.mem_of_getElem? (l := xI1) (i := 17) rfl)
theorem Z_X1_bestClaim : Y_X1_bestClaim ∈ xInf := xIm1 (List.mem_of_getElem? (l := xI1) (i := 18) rfl)
theorem Z_X1_bestHaul : Y_X1_bestHaul ∈ xInf := xIm1 (List.mem_of_getElem? (l := xI1) (i := 19) rfl)
theorem Z_X1_cause : Y_X1_cause ∈ xInf := xIm2 (List.mem_of_getElem? (l := xI2) (i := 0) rfl)
theorem Z_X1_claim : Y_X1_claim ∈ xInf := xIm2 (List.mem_of_getElem? (l := xI2) (i := 1) rfl)
theorem Z_X1_claimCosts : Y_X1_claimCosts ∈ xInf := xIm2 (List.mem_of_getElem? (l := xI2) (i := 2) rfl)
theorem Z_X1_claimTime : Y_X1_claimTime ∈ xInf := xIm2 (List.mem_of_getElem? (l := xI2) (i := 3) rfl)
theorem Z_X1_claiming : Y_X1_claiming ∈ xInf := xIm2 (List.mem_of_getElem? (l := xI2) (i := 4) rfl)
theorem Z_X1_count : Y_X1_count ∈ xInf := xIm2 (List.mem_of_getElem? (l := xI2) (i := 5) rfl)
theorem Z_X1_crewsWith : Y_X1_crewsWith ∈ xInf := xIm2 (List.mem_of_getElem? (l := xI2) (i := 6) rfl)
theorem Z_X1_crownPart : Y_X1_crownPart ∈ xInf := xIm2 (List.mem_of_getElem? (l := xI2) (i := 7) rfl)
theorem Z_X1_crownShare : Y_X1_crownShare ∈ xInf := xIm2 (List.mem_of_getElem? (l := xI2) (i := 8) rfl)
theorem Z_X1_divide : Y_X1_divide ∈ xInf := xIm2 (List.mem_of_getElem? (l := xI2) (i := 9) rfl)
theorem Z_X1_divideAll : Y_X1_divideAll ∈ xInf := xIm2 (List.mem_of_getElem? (l := xI2) (i := 10) rfl)
theorem Z_X1_dividing : Y_X1_dividing ∈ xInf := xIm2 (List.mem_of_getElem? (l := xI2) (i := 11) rfl)
theorem Z_X1_dividingAll : Y_X1_dividingAll ∈ xInf := xIm2 (List.mem_of_getElem? (l := xI2) (i := 12) rfl)
theorem Z_X1_done : Y_X1_done ∈ xInf := xIm2 (List.mem_of_getElem? (l := xI2) (i := 13) rfl)
theorem Z_X1_dryIn : Y_X1_dryIn ∈ xInf := xIm2 (List.mem_of_getElem? (l := xI2) (i := 14) rfl)
theorem Z_X1_dryNow : Y_X1_dryNow ∈ xInf := xIm2 (List.mem_of_getElem? (l := xI2) (i := 15) rfl)
theorem Z_X1_dryTicks : Y_X1_dryTicks ∈ xInf := xIm2 (List.mem_of_getElem? (l := xI2) (i := 16) rfl)
theorem Z_X1_earned : Y_X1_earned ∈ xInf := xIm2 (List.mem_of_getElem? (l := xI2) (i := 17) rfl)
theorem Z_X1_errorPosition : Y_X1_errorPosition ∈ xInf := xIm2 (List.mem_of_getElem? (l := xI2) (i := 18) rfl)
theorem Z_X1_failed : Y_X1_failed ∈ xInf := xIm2 (List.mem_of_getElem? (l := xI2) (i := 19) rfl)
theorem Z_X1_feed : Y_X1_feed ∈ xInf := xIm3 (List.mem_of_getElem? (l := xI3) (i := 0) rfl)
theorem Z_X1_finder : Y_X1_finder ∈ xInf := xIm3 (List.mem_of_getElem? (l := xI3) (i := 1) rfl)
theorem Z_X1_firstDue : Y_X1_firstDue ∈ xInf := xIm3 (List.mem_of_getElem? (l := xI3) (i := 2) rfl)
theorem Z_X1_format : Y_X1_format ∈ xInf := xIm3 (List.mem_of_getElem? (l := xI3) (i := 3) rfl)
theorem Z_X1_formattedByte : Y_X1_formattedByte ∈ xInf := xIm3 (List.mem_of_getElem? (l := xI3) (i := 4) rfl)
theorem Z_X1_gap : Y_X1_gap ∈ xInf := xIm3 (List.mem_of_getElem? (l := xI3) (i := 5) rfl)
theorem Z_X1_good : Y_X1_good ∈ xInf := xIm3 (List.mem_of_getElem? (l := xI3) (i := 6) rfl)
theorem Z_X1_goodAt : Y_X1_goodAt ∈ xInf := xIm3 (List.mem_of_getElem? (l := xI3) (i := 7) rfl)
theorem Z_X1_hand : Y_X1_hand ∈ xInf := xIm3 (List.mem_of_getElem? (l := xI3) (i := 8) rfl)
theorem Z_X1_has : Y_X1_has ∈ xInf := xIm3 (List.mem_of_getElem? (l := xI3) (i := 9) rfl)
theorem Z_X1_haul : Y_X1_haul ∈ xInf := xIm3 (List.mem_of_getElem? (l := xI3) (i := 10) rfl)
theorem Z_X1_hauling : Y_X1_hauling ∈ xInf := xIm3 (List.mem_of_getElem? (l := xI3) (i := 11) rfl)
theorem Z_X1_inState : Y_X1_inState ∈ xInf := xIm3 (List.mem_of_getElem? (l := xI3) (i := 12) rfl)
theorem Z_X1_init : Y_X1_init ∈ xInf := xIm3 (List.mem_of_getElem? (l := xI3) (i := 13) rfl)
theorem Z_X1_isAhead : Y_X1_isAhead ∈ xInf := xIm3 (List.mem_of_getElem? (l := xI3) (i := 14) rfl)
theorem Z_X1_isClaimable : Y_X1_isClaimable ∈ xInf := xIm3 (List.mem_of_getElem? (l := xI3) (i := 15) rfl)
theorem Z_X1_isGood : Y_X1_isGood ∈ xInf := xIm3 (List.mem_of_getElem? (l := xI3) (i := 16) rfl)
theorem Z_X1_isIn : Y_X1_isIn ∈ xInf := xIm3 (List.mem_of_getElem? (l := xI3) (i := 17) rfl)
theorem Z_X1_keeps : Y_X1_keeps ∈ xInf := xIm3 (List.mem_of_getElem? (l := xI3) (i := 18) rfl)
theorem Z_X1_lambda_claiming_5 : Y_X1_lambda_claiming_5 ∈ xInf := xIm3 (List.mem_of_getElem? (l := xI3) (i := 19) rfl)
theorem Z_X1_lambda_crownShare_10 : Y_X1_lambda_crownShare_10 ∈ xInf := xIm4 (List.mem_of_getElem? (l := xI4) (i := 0) rfl)
theorem Z_X1_lambda_dividingAll_7 : Y_X1_lambda_dividingAll_7 ∈ xInf := xIm4 (List.mem_of_getElem? (l := xI4) (i := 1) rfl)
theorem Z_X1_lambda_dividing_6 : Y_X1_lambda_dividing_6 ∈ xInf := xIm4 (List.mem_of_getElem? (l := xI4) (i := 2) rfl)
theorem Z_X1_lambda_hauling_4 : Y_X1_lambda_hauling_4 ∈ xInf := xIm4 (List.mem_of_getElem? (l := xI4) (i := 3) rfl)
theorem Z_X1_lambda_lettingAll_2 : Y_X1_lambda_lettingAll_2 ∈ xInf := xIm4 (List.mem_of_getElem? (l := xI4) (i := 4) rfl)
theorem Z_X1_lambda_letting_1 : Y_X1_lambda_letting_1 ∈ xInf := xIm4 (List.mem_of_getElem? (l := xI4) (i := 5) rfl)
theorem Z_X1_lambda_ownerShare_11 : Y_X1_lambda_ownerShare_11 ∈ xInf := xIm4 (List.mem_of_getElem? (l := xI4) (i := 6) rfl)
theorem Z_X1_lambda_passing_8 : Y_X1_lambda_passing_8 ∈ xInf := xIm4 (List.mem_of_getElem? (l := xI4) (i := 7) rfl)
theorem Z_X1_lambda_paying_3 : Y_X1_lambda_paying_3 ∈ xInf := xIm4 (List.mem_of_getElem? (l := xI4) (i := 8) rfl)
theorem Z_X1_lambda_roping_0 : Y_X1_lambda_roping_0 ∈ xInf := xIm4 (List.mem_of_getElem? (l := xI4) (i := 9) rfl)
theorem Z_X1_lambda_shareOf_9 : Y_X1_lambda_shareOf_9 ∈ xInf := xIm4 (List.mem_of_getElem? (l := xI4) (i := 10) rfl)
theorem Z_X1_letting : Y_X1_letting ∈ xInf := xIm4 (List.mem_of_getElem? (l := xI4) (i := 11) rfl)
theorem Z_X1_lettingAll : Y_X1_lettingAll ∈ xInf := xIm4 (List.mem_of_getElem? (l := xI4) (i := 12) rfl)
theorem Z_X1_level : Y_X1_level ∈ xInf := xIm4 (List.mem_of_getElem? (l := xI4) (i := 13) rfl)
theorem Z_X1_load : Y_X1_load ∈ xInf := xIm4 (List.mem_of_getElem? (l := xI4) (i := 14) rfl)
theorem Z_X1_lossIn : Y_X1_lossIn ∈ xInf := xIm4 (List.mem_of_getElem? (l := xI4) (i := 15) rfl)
theorem Z_X1_lostIn : Y_X1_lostIn ∈ xInf := xIm4 (List.mem_of_getElem? (l := xI4) (i := 16) rfl)
theorem Z_X1_marked : Y_X1_marked ∈ xInf := xIm4 (List.mem_of_getElem? (l := xI4) (i := 17) rfl)
theorem Z_X1_nextLost : Y_X1_nextLost ∈ xInf := xIm4 (List.mem_of_getElem? (l := xI4) (i := 18) rfl)
theorem Z_X1_off : Y_X1_off ∈ xInf := xIm4 (List.mem_of_getElem? (l := xI4) (i := 19) rfl)
theorem Z_X1_offAll : Y_X1_offAll ∈ xInf := xIm5 (List.mem_of_getElem? (l := xI5) (i := 0) rfl)
theorem Z_X1_owner : Y_X1_owner ∈ xInf := xIm5 (List.mem_of_getElem? (l := xI5) (i := 1) rfl)
theorem Z_X1_ownerShare : Y_X1_ownerShare ∈ xInf := xIm5 (List.mem_of_getElem? (l := xI5) (i := 2) rfl)
theorem Z_X1_passing : Y_X1_passing ∈ xInf := xIm5 (List.mem_of_getElem? (l := xI5) (i := 3) rfl)
theorem Z_X1_pay : Y_X1_pay ∈ xInf := xIm5 (List.mem_of_getElem? (l := xI5) (i := 4) rfl)
theorem Z_X1_paying : Y_X1_paying ∈ xInf := xIm5 (List.mem_of_getElem? (l := xI5) (i := 5) rfl)
theorem Z_X1_plain : Y_X1_plain ∈ xInf := xIm5 (List.mem_of_getElem? (l := xI5) (i := 6) rfl)
theorem Z_X1_play : Y_X1_play ∈ xInf := xIm5 (List.mem_of_getElem? (l := xI5) (i := 7) rfl)
theorem Z_X1_purseIf : Y_X1_purseIf ∈ xInf := xIm5 (List.mem_of_getElem? (l := xI5) (i := 8) rfl)
theorem Z_X1_ranked : Y_X1_ranked ∈ xInf := xIm5 (List.mem_of_getElem? (l := xI5) (i := 9) rfl)
theorem Z_X1_reading : Y_X1_reading ∈ xInf := xIm5 (List.mem_of_getElem? (l := xI5) (i := 10) rfl)
theorem Z_X1_requireArgument : Y_X1_requireArgument ∈ xInf := xIm5 (List.mem_of_getElem? (l := xI5) (i := 11) rfl)
theorem Z_X1_requireElement : Y_X1_requireElement ∈ xInf := xIm5 (List.mem_of_getElem? (l := xI5) (i := 12) rfl)
theorem Z_X1_requireFinder : Y_X1_requireFinder ∈ xInf := xIm5 (List.mem_of_getElem? (l := xI5) (i := 13) rfl)
theorem Z_X1_restoreSnapshot : Y_X1_restoreSnapshot ∈ xInf := xIm5 (List.mem_of_getElem? (l := xI5) (i := 14) rfl)
theorem Z_X1_richest : Y_X1_richest ∈ xInf := xIm5 (List.mem_of_getElem? (l := xI5) (i := 15) rfl)
theorem Z_X1_rope : Y_X1_rope ∈ xInf := xIm5 (List.mem_of_getElem? (l := xI5) (i := 16) rfl)
theorem Z_X1_roping : Y_X1_roping ∈ xInf := xIm5 (List.mem_of_getElem? (l := xI5) (i := 17) rfl)
theorem Z_X1_saveSnapshot : Y_X1_saveSnapshot ∈ xInf := xIm5 (List.mem_of_getElem? (l := xI5) (i := 18) rfl)
theorem Z_X1_savedShare : Y_X1_savedShare ∈ xInf := xIm5 (List.mem_of_getElem? (l := xI5) (i := 19) rfl)
theorem Z_X1_share : Y_X1_share ∈ xInf := xIm6 (List.mem_of_getElem? (l := xI6) (i := 0) rfl)
theorem Z_X1_shareOf : Y_X1_shareOf ∈ xInf := xIm6 (List.mem_of_getElem? (l := xI6) (i := 1) rfl)
theorem Z_X1_size : Y_X1_size ∈ xInf := xIm6 (List.mem_of_getElem? (l := xI6) (i := 2) rfl)
theorem Z_X1_ticks : Y_X1_ticks ∈ xInf := xIm6 (List.mem_of_getElem? (l := xI6) (i := 3) rfl)
theorem Z_X1_turnIn : Y_X1_turnIn ∈ xInf := xIm6 (List.mem_of_getElem? (l := xI6) (i := 4) rfl)
theorem Z_X1_undo : Y_X1_undo ∈ xInf := xIm6 (List.mem_of_getElem? (l := xI6) (i := 5) rfl)
theorem Z_X1_undoCount : Y_X1_undoCount ∈ xInf := xIm6 (List.mem_of_getElem? (l := xI6) (i := 6) rfl)
theorem Z_X1_unequal : Y_X1_unequal ∈ xInf := xIm6 (List.mem_of_getElem? (l := xI6) (i := 7) rfl)
theorem Z_X1_why : Y_X1_why ∈ xInf := xIm6 (List.mem_of_getElem? (l := xI6) (i := 8) rfl)
theorem Z_X1_whyDivide : Y_X1_whyDivide ∈ xInf := xIm6 (List.mem_of_getElem? (l := xI6) (i := 9) rfl)
theorem Z_X2_claims : Y_X2_claims ∈ xInf := xIm6 (List.mem_of_getElem? (l := xI6) (i := 10) rfl)
theorem Z_X2_copy : Y_X2_copy ∈ xInf := xIm6 (List.mem_of_getElem? (l := xI6) (i := 11) rfl)
theorem Z_X2_divides : Y_X2_divides ∈ xInf := xIm6 (List.mem_of_getElem? (l := xI6) (i := 12) rfl)
theorem Z_X2_dividesAll : Y_X2_dividesAll ∈ xInf := xIm6 (List.mem_of_getElem? (l := xI6) (i := 13) rfl)
theorem Z_X2_divisionRefusal : Y_X2_divisionRefusal ∈ xInf := xIm6 (List.mem_of_getElem? (l := xI6) (i := 14) rfl)
theorem Z_X2_dryIn : Y_X2_dryIn ∈ xInf := xIm6 (List.mem_of_getElem? (l := xI6) (i := 15) rfl)
theorem Z_X2_freeFinders : Y_X2_freeFinders ∈ xInf := xIm6 (List.mem_of_getElem? (l := xI6) (i := 16) rfl)
theorem Z_X2_gives : Y_X2_gives ∈ xInf := xIm6 (List.mem_of_getElem? (l := xI6) (i := 17) rfl)
theorem Z_X2_good : Y_X2_good ∈ xInf := xIm6 (List.mem_of_getElem? (l := xI6) (i := 18) rfl)
theorem Z_X2_hauls : Y_X2_hauls ∈ xInf := xIm6 (List.mem_of_getElem? (l := xI6) (i := 19) rfl)
theorem Z_X2_init : Y_X2_init ∈ xInf := xIm7 (List.mem_of_getElem? (l := xI7) (i := 0) rfl)
theorem Z_X2_init_2 : Y_X2_init_2 ∈ xInf := xIm7 (List.mem_of_getElem? (l := xI7) (i := 1) rfl)
theorem Z_X2_isDry : Y_X2_isDry ∈ xInf := xIm7 (List.mem_of_getElem? (l := xI7) (i := 2) rfl)
theorem Z_X2_lets : Y_X2_lets ∈ xInf := xIm7 (List.mem_of_getElem? (l := xI7) (i := 3) rfl)
theorem Z_X2_letsAll : Y_X2_letsAll ∈ xInf := xIm7 (List.mem_of_getElem? (l := xI7) (i := 4) rfl)
theorem Z_X2_level : Y_X2_level ∈ xInf := xIm7 (List.mem_of_getElem? (l := xI7) (i := 5) rfl)
theorem Z_X2_lostIn : Y_X2_lostIn ∈ xInf := xIm7 (List.mem_of_getElem? (l := xI7) (i := 6) rfl)
theorem Z_X2_passes : Y_X2_passes ∈ xInf := xIm7 (List.mem_of_getElem? (l := xI7) (i := 7) rfl)
theorem Z_X2_pays : Y_X2_pays ∈ xInf := xIm7 (List.mem_of_getElem? (l := xI7) (i := 8) rfl)
theorem Z_X2_refusal : Y_X2_refusal ∈ xInf := xIm7 (List.mem_of_getElem? (l := xI7) (i := 9) rfl)
theorem Z_X2_ropeOf : Y_X2_ropeOf ∈ xInf := xIm7 (List.mem_of_getElem? (l := xI7) (i := 10) rfl)
theorem Z_X2_ropes : Y_X2_ropes ∈ xInf := xIm7 (List.mem_of_getElem? (l := xI7) (i := 11) rfl)
theorem Z_X2_washes : Y_X2_washes ∈ xInf := xIm7 (List.mem_of_getElem? (l := xI7) (i := 12) rfl)
theorem Z_X2_wetTicks : Y_X2_wetTicks ∈ xInf := xIm7 (List.mem_of_getElem? (l := xI7) (i := 13) rfl)
theorem Z_X3_copy : Y_X3_copy ∈ xInf := xIm7 (List.mem_of_getElem? (l := xI7) (i := 14) rfl)
theorem Z_X3_crown : Y_X3_crown ∈ xInf := xIm7 (List.mem_of_getElem? (l := xI7) (i := 15) rfl)
theorem Z_X3_hands : Y_X3_hands ∈ xInf := xIm7 (List.mem_of_getElem? (l := xI7) (i := 16) rfl)
theorem Z_X3_init : Y_X3_init ∈ xInf := xIm7 (List.mem_of_getElem? (l := xI7) (i := 17) rfl)
theorem Z_X3_leftOver : Y_X3_leftOver ∈ xInf := xIm7 (List.mem_of_getElem? (l := xI7) (i := 18) rfl)
theorem Z_X3_owners : Y_X3_owners ∈ xInf := xIm7 (List.mem_of_getElem? (l := xI7) (i := 19) rfl)
theorem Z_X3_parts : Y_X3_parts ∈ xInf := xIm8 (List.mem_of_getElem? (l := xI8) (i := 0) rfl)
theorem Z_X3_rest : Y_X3_rest ∈ xInf := xIm8 (List.mem_of_getElem? (l := xI8) (i := 1) rfl)
theorem Z_X3_salvage : Y_X3_salvage ∈ xInf := xIm8 (List.mem_of_getElem? (l := xI8) (i := 2) rfl)
theorem Z_X3_sum : Y_X3_sum ∈ xInf := xIm8 (List.mem_of_getElem? (l := xI8) (i := 3) rfl)
theorem Z_X4_named : Y_X4_named ∈ xInf := xIm8 (List.mem_of_getElem? (l := xI8) (i := 4) rfl)
theorem Z_X4_of : Y_X4_of ∈ xInf := xIm8 (List.mem_of_getElem? (l := xI8) (i := 5) rfl)
theorem Z_X4_values : Y_X4_values ∈ xInf := xIm8 (List.mem_of_getElem? (l := xI8) (i := 6) rfl)
theorem Z_X5_accept : Y_X5_accept ∈ xInf := xIm8 (List.mem_of_getElem? (l := xI8) (i := 7) rfl)
theorem Z_X5_account : Y_X5_account ∈ xInf := xIm8 (List.mem_of_getElem? (l := xI8) (i := 8) rfl)
theorem Z_X5_addGood : Y_X5_addGood ∈ xInf := xIm8 (List.mem_of_getElem? (l := xI8) (i := 9) rfl)
theorem Z_X5_addHand : Y_X5_addHand ∈ xInf := xIm8 (List.mem_of_getElem? (l := xI8) (i := 10) rfl)
theorem Z_X5_advance : Y_X5_advance ∈ xInf := xIm8 (List.mem_of_getElem? (l := xI8) (i := 11) rfl)
theorem Z_X5_allPurses : Y_X5_allPurses ∈ xInf := xIm8 (List.mem_of_getElem? (l := xI8) (i := 12) rfl)
theorem Z_X5_begin : Y_X5_begin ∈ xInf := xIm8 (List.mem_of_getElem? (l := xI8) (i := 13) rfl)
theorem Z_X5_bestClaim : Y_X5_bestClaim ∈ xInf := xIm8 (List.mem_of_getElem? (l := xI8) (i := 14) rfl)
theorem Z_X5_bestHaul : Y_X5_bestHaul ∈ xInf := xIm8 (List.mem_of_getElem? (l := xI8) (i := 15) rfl)
theorem Z_X5_byteAt : Y_X5_byteAt ∈ xInf := xIm8 (List.mem_of_getElem? (l := xI8) (i := 16) rfl)
theorem Z_X5_cause : Y_X5_cause ∈ xInf := xIm8 (List.mem_of_getElem? (l := xI8) (i := 17) rfl)
theorem Z_X5_check : Y_X5_check ∈ xInf := xIm8 (List.mem_of_getElem? (l := xI8) (i := 18) rfl)
theorem Z_X5_claim : Y_X5_claim ∈ xInf := xIm8 (List.mem_of_getElem? (l := xI8) (i := 19) rfl)
theorem Z_X5_claimCosts : Y_X5_claimCosts ∈ xInf := xIm9 (List.mem_of_getElem? (l := xI9) (i := 0) rfl)
theorem Z_X5_claimTime : Y_X5_claimTime ∈ xInf := xIm9 (List.mem_of_getElem? (l := xI9) (i := 1) rfl)
theorem Z_X5_claimable : Y_X5_claimable ∈ xInf := xIm9 (List.mem_of_getElem? (l := xI9) (i := 2) rfl)
theorem Z_X5_copy : Y_X5_copy ∈ xInf := xIm9 (List.mem_of_getElem? (l := xI9) (i := 3) rfl)
theorem Z_X5_count : Y_X5_count ∈ xInf := xIm9 (List.mem_of_getElem? (l := xI9) (i := 4) rfl)
theorem Z_X5_countDry : Y_X5_countDry ∈ xInf := xIm9 (List.mem_of_getElem? (l := xI9) (i := 5) rfl)
theorem Z_X5_countDryNow : Y_X5_countDryNow ∈ xInf := xIm9 (List.mem_of_getElem? (l := xI9) (i := 6) rfl)
theorem Z_X5_countFree : Y_X5_countFree ∈ xInf := xIm9 (List.mem_of_getElem? (l := xI9) (i := 7) rfl)
theorem Z_X5_countState : Y_X5_countState ∈ xInf := xIm9 (List.mem_of_getElem? (l := xI9) (i := 8) rfl)
theorem Z_X5_crewOf : Y_X5_crewOf ∈ xInf := xIm9 (List.mem_of_getElem? (l := xI9) (i := 9) rfl)
theorem Z_X5_crewsWith : Y_X5_crewsWith ∈ xInf := xIm9 (List.mem_of_getElem? (l := xI9) (i := 10) rfl)
theorem Z_X5_crownOf : Y_X5_crownOf ∈ xInf := xIm9 (List.mem_of_getElem? (l := xI9) (i := 11) rfl)
theorem Z_X5_crownPart : Y_X5_crownPart ∈ xInf := xIm9 (List.mem_of_getElem? (l := xI9) (i := 12) rfl)
theorem Z_X5_crownShare : Y_X5_crownShare ∈ xInf := xIm9 (List.mem_of_getElem? (l := xI9) (i := 13) rfl)
theorem Z_X5_divide : Y_X5_divide ∈ xInf := xIm9 (List.mem_of_getElem? (l := xI9) (i := 14) rfl)
theorem Z_X5_divideAll : Y_X5_divideAll ∈ xInf := xIm9 (List.mem_of_getElem? (l := xI9) (i := 15) rfl)
theorem Z_X5_divideNow : Y_X5_divideNow ∈ xInf := xIm9 (List.mem_of_getElem? (l := xI9) (i := 16) rfl)
theorem Z_X5_divideRefusal : Y_X5_divideRefusal ∈ xInf := xIm9 (List.mem_of_getElem? (l := xI9) (i := 17) rfl)
theorem Z_X5_doClaim : Y_X5_doClaim ∈ xInf := xIm9 (List.mem_of_getElem? (l := xI9) (i := 18) rfl)
theorem Z_X5_doDivide : Y_X5_doDivide ∈ xInf := xIm9 (List.mem_of_getElem? (l := xI9) (i := 19) rfl)
theorem Z_X5_doDivideAll : Y_X5_doDivideAll ∈ xInf := xIm10 (List.mem_of_getElem? (l := xI10) (i := 0) rfl)
theorem Z_X5_doHaul : Y_X5_doHaul ∈ xInf := xIm10 (List.mem_of_getElem? (l := xI10) (i := 1) rfl)
theorem Z_X5_doOff : Y_X5_doOff ∈ xInf := xIm10 (List.mem_of_getElem? (l := xI10) (i := 2) rfl)
theorem Z_X5_doOffAll : Y_X5_doOffAll ∈ xInf := xIm10 (List.mem_of_getElem? (l := xI10) (i := 3) rfl)
theorem Z_X5_doPay : Y_X5_doPay ∈ xInf := xIm10 (List.mem_of_getElem? (l := xI10) (i := 4) rfl)
theorem Z_X5_doRope : Y_X5_doRope ∈ xInf := xIm10 (List.mem_of_getElem? (l := xI10) (i := 5) rfl)
theorem Z_X5_doTicks : Y_X5_doTicks ∈ xInf := xIm10 (List.mem_of_getElem? (l := xI10) (i := 6) rfl)
theorem Z_X5_does : Y_X5_does ∈ xInf := xIm10 (List.mem_of_getElem? (l := xI10) (i := 7) rfl)
theorem Z_X5_dryIn : Y_X5_dryIn ∈ xInf := xIm10 (List.mem_of_getElem? (l := xI10) (i := 8) rfl)
theorem Z_X5_dryTicks : Y_X5_dryTicks ∈ xInf := xIm10 (List.mem_of_getElem? (l := xI10) (i := 9) rfl)
theorem Z_X5_earned : Y_X5_earned ∈ xInf := xIm10 (List.mem_of_getElem? (l := xI10) (i := 10) rfl)
theorem Z_X5_ends : Y_X5_ends ∈ xInf := xIm10 (List.mem_of_getElem? (l := xI10) (i := 11) rfl)
theorem Z_X5_errorPosition : Y_X5_errorPosition ∈ xInf := xIm10 (List.mem_of_getElem? (l := xI10) (i := 12) rfl)
theorem Z_X5_expect : Y_X5_expect ∈ xInf := xIm10 (List.mem_of_getElem? (l := xI10) (i := 13) rfl)
theorem Z_X5_feed : Y_X5_feed ∈ xInf := xIm10 (List.mem_of_getElem? (l := xI10) (i := 14) rfl)
theorem Z_X5_finder : Y_X5_finder ∈ xInf := xIm10 (List.mem_of_getElem? (l := xI10) (i := 15) rfl)
theorem Z_X5_finish : Y_X5_finish ∈ xInf := xIm10 (List.mem_of_getElem? (l := xI10) (i := 16) rfl)
theorem Z_X5_firstDue : Y_X5_firstDue ∈ xInf := xIm10 (List.mem_of_getElem? (l := xI10) (i := 17) rfl)
theorem Z_X5_format : Y_X5_format ∈ xInf := xIm10 (List.mem_of_getElem? (l := xI10) (i := 18) rfl)
theorem Z_X5_formattedByte : Y_X5_formattedByte ∈ xInf := xIm10 (List.mem_of_getElem? (l := xI10) (i := 19) rfl)
theorem Z_X5_gap : Y_X5_gap ∈ xInf := xIm11 (List.mem_of_getElem? (l := xI11) (i := 0) rfl)
theorem Z_X5_good : Y_X5_good ∈ xInf := xIm11 (List.mem_of_getElem? (l := xI11) (i := 1) rfl)
theorem Z_X5_hand : Y_X5_hand ∈ xInf := xIm11 (List.mem_of_getElem? (l := xI11) (i := 2) rfl)
theorem Z_X5_handOf : Y_X5_handOf ∈ xInf := xIm11 (List.mem_of_getElem? (l := xI11) (i := 3) rfl)
theorem Z_X5_haul : Y_X5_haul ∈ xInf := xIm11 (List.mem_of_getElem? (l := xI11) (i := 4) rfl)
theorem Z_X5_haulRefusal : Y_X5_haulRefusal ∈ xInf := xIm11 (List.mem_of_getElem? (l := xI11) (i := 5) rfl)
theorem Z_X5_inRange : Y_X5_inRange ∈ xInf := xIm11 (List.mem_of_getElem? (l := xI11) (i := 6) rfl)
theorem Z_X5_init : Y_X5_init ∈ xInf := xIm11 (List.mem_of_getElem? (l := xI11) (i := 7) rfl)
theorem Z_X5_isClaimed : Y_X5_isClaimed ∈ xInf := xIm11 (List.mem_of_getElem? (l := xI11) (i := 8) rfl)
theorem Z_X5_isDigit : Y_X5_isDigit ∈ xInf := xIm11 (List.mem_of_getElem? (l := xI11) (i := 9) rfl)
theorem Z_X5_isDry : Y_X5_isDry ∈ xInf := xIm11 (List.mem_of_getElem? (l := xI11) (i := 10) rfl)
theorem Z_X5_isFinder : Y_X5_isFinder ∈ xInf := xIm11 (List.mem_of_getElem? (l := xI11) (i := 11) rfl)
theorem Z_X5_isGood : Y_X5_isGood ∈ xInf := xIm11 (List.mem_of_getElem? (l := xI11) (i := 12) rfl)
theorem Z_X5_isIn : Y_X5_isIn ∈ xInf := xIm11 (List.mem_of_getElem? (l := xI11) (i := 13) rfl)
theorem Z_X5_isLetter : Y_X5_isLetter ∈ xInf := xIm11 (List.mem_of_getElem? (l := xI11) (i := 14) rfl)
theorem Z_X5_isOwner : Y_X5_isOwner ∈ xInf := xIm11 (List.mem_of_getElem? (l := xI11) (i := 15) rfl)
theorem Z_X5_isSymbol : Y_X5_isSymbol ∈ xInf := xIm11 (List.mem_of_getElem? (l := xI11) (i := 16) rfl)
theorem Z_X5_isWord : Y_X5_isWord ∈ xInf := xIm11 (List.mem_of_getElem? (l := xI11) (i := 17) rfl)
theorem Z_X5_keep : Y_X5_keep ∈ xInf := xIm11 (List.mem_of_getElem? (l := xI11) (i := 18) rfl)
theorem Z_X5_kindHere : Y_X5_kindHere ∈ xInf := xIm11 (List.mem_of_getElem? (l := xI11) (i := 19) rfl)
theorem Z_X5_lacks : Y_X5_lacks ∈ xInf := xIm12 (List.mem_of_getElem? (l := xI12) (i := 0) rfl)
theorem Z_X5_lay : Y_X5_lay ∈ xInf := xIm12 (List.mem_of_getElem? (l := xI12) (i := 1) rfl)
theorem Z_X5_layFinder : Y_X5_layFinder ∈ xInf := xIm12 (List.mem_of_getElem? (l := xI12) (i := 2) rfl)
theorem Z_X5_letGo : Y_X5_letGo ∈ xInf := xIm12 (List.mem_of_getElem? (l := xI12) (i := 3) rfl)
theorem Z_X5_level : Y_X5_level ∈ xInf := xIm12 (List.mem_of_getElem? (l := xI12) (i := 4) rfl)
theorem Z_X5_levelAt : Y_X5_levelAt ∈ xInf := xIm12 (List.mem_of_getElem? (l := xI12) (i := 5) rfl)
theorem Z_X5_load : Y_X5_load ∈ xInf := xIm12 (List.mem_of_getElem? (l := xI12) (i := 6) rfl)
theorem Z_X5_look : Y_X5_look ∈ xInf := xIm12 (List.mem_of_getElem? (l := xI12) (i := 7) rfl)
theorem Z_X5_lose : Y_X5_lose ∈ xInf := xIm12 (List.mem_of_getElem? (l := xI12) (i := 8) rfl)
theorem Z_X5_lossIn : Y_X5_lossIn ∈ xInf := xIm12 (List.mem_of_getElem? (l := xI12) (i := 9) rfl)
theorem Z_X5_lostIn : Y_X5_lostIn ∈ xInf := xIm12 (List.mem_of_getElem? (l := xI12) (i := 10) rfl)
theorem Z_X5_marked : Y_X5_marked ∈ xInf := xIm12 (List.mem_of_getElem? (l := xI12) (i := 11) rfl)
theorem Z_X5_nextLost : Y_X5_nextLost ∈ xInf := xIm12 (List.mem_of_getElem? (l := xI12) (i := 12) rfl)
theorem Z_X5_of : Y_X5_of ∈ xInf := xIm12 (List.mem_of_getElem? (l := xI12) (i := 13) rfl)
theorem Z_X5_ofFinder : Y_X5_ofFinder ∈ xInf := xIm12 (List.mem_of_getElem? (l := xI12) (i := 14) rfl)
theorem Z_X5_off : Y_X5_off ∈ xInf := xIm12 (List.mem_of_getElem? (l := xI12) (i := 15) rfl)
theorem Z_X5_offAll : Y_X5_offAll ∈ xInf := xIm12 (List.mem_of_getElem? (l := xI12) (i := 16) rfl)
theorem Z_X5_orderHere : Y_X5_orderHere ∈ xInf := xIm12 (List.mem_of_getElem? (l := xI12) (i := 17) rfl)
theorem Z_X5_owner : Y_X5_owner ∈ xInf := xIm12 (List.mem_of_getElem? (l := xI12) (i := 18) rfl)
theorem Z_X5_ownerOf : Y_X5_ownerOf ∈ xInf := xIm12 (List.mem_of_getElem? (l := xI12) (i := 19) rfl)
theorem Z_X5_ownerShare : Y_X5_ownerShare ∈ xInf := xIm13 (List.mem_of_getElem? (l := xI13) (i := 0) rfl)
theorem Z_X5_partOf : Y_X5_partOf ∈ xInf := xIm13 (List.mem_of_getElem? (l := xI13) (i := 1) rfl)
theorem Z_X5_pay : Y_X5_pay ∈ xInf := xIm13 (List.mem_of_getElem? (l := xI13) (i := 2) rfl)
theorem Z_X5_placeOf : Y_X5_placeOf ∈ xInf := xIm13 (List.mem_of_getElem? (l := xI13) (i := 3) rfl)
theorem Z_X5_play : Y_X5_play ∈ xInf := xIm13 (List.mem_of_getElem? (l := xI13) (i := 4) rfl)
theorem Z_X5_purseIf : Y_X5_purseIf ∈ xInf := xIm13 (List.mem_of_getElem? (l := xI13) (i := 5) rfl)
theorem Z_X5_raise : Y_X5_raise ∈ xInf := xIm13 (List.mem_of_getElem? (l := xI13) (i := 6) rfl)
theorem Z_X5_rankOf : Y_X5_rankOf ∈ xInf := xIm13 (List.mem_of_getElem? (l := xI13) (i := 7) rfl)
theorem Z_X5_ranked : Y_X5_ranked ∈ xInf := xIm13 (List.mem_of_getElem? (l := xI13) (i := 8) rfl)
theorem Z_X5_readFirst : Y_X5_readFirst ∈ xInf := xIm13 (List.mem_of_getElem? (l := xI13) (i := 9) rfl)
theorem Z_X5_readGood : Y_X5_readGood ∈ xInf := xIm13 (List.mem_of_getElem? (l := xI13) (i := 10) rfl)
theorem Z_X5_readNumber : Y_X5_readNumber ∈ xInf := xIm13 (List.mem_of_getElem? (l := xI13) (i := 11) rfl)
theorem Z_X5_readOrder : Y_X5_readOrder ∈ xInf := xIm13 (List.mem_of_getElem? (l := xI13) (i := 12) rfl)
theorem Z_X5_readText : Y_X5_readText ∈ xInf := xIm13 (List.mem_of_getElem? (l := xI13) (i := 13) rfl)
theorem Z_X5_record : Y_X5_record ∈ xInf := xIm13 (List.mem_of_getElem? (l := xI13) (i := 14) rfl)
theorem Z_X5_recorded : Y_X5_recorded ∈ xInf := xIm13 (List.mem_of_getElem? (l := xI13) (i := 15) rfl)
theorem Z_X5_removeHand : Y_X5_removeHand ∈ xInf := xIm13 (List.mem_of_getElem? (l := xI13) (i := 16) rfl)
theorem Z_X5_restOf : Y_X5_restOf ∈ xInf := xIm13 (List.mem_of_getElem? (l := xI13) (i := 17) rfl)
theorem Z_X5_restoreSnapshot : Y_X5_restoreSnapshot ∈ xInf := xIm13 (List.mem_of_getElem? (l := xI13) (i := 18) rfl)
theorem Z_X5_richest : Y_X5_richest ∈ xInf := xIm13 (List.mem_of_getElem? (l := xI13) (i := 19) rfl)
theorem Z_X5_rope : Y_X5_rope ∈ xInf := xIm14 (List.mem_of_getElem? (l := xI14) (i := 0) rfl)
theorem Z_X5_salvageOf : Y_X5_salvageOf ∈ xInf := xIm14 (List.mem_of_getElem? (l := xI14) (i := 1) rfl)
theorem Z_X5_saveSnapshot : Y_X5_saveSnapshot ∈ xInf := xIm14 (List.mem_of_getElem? (l := xI14) (i := 2) rfl)
theorem Z_X5_savedShare : Y_X5_savedShare ∈ xInf := xIm14 (List.mem_of_getElem? (l := xI14) (i := 3) rfl)
theorem Z_X5_scan : Y_X5_scan ∈ xInf := xIm14 (List.mem_of_getElem? (l := xI14) (i := 4) rfl)
theorem Z_X5_share : Y_X5_share ∈ xInf := xIm14 (List.mem_of_getElem? (l := xI14) (i := 5) rfl)
theorem Z_X5_shareAt : Y_X5_shareAt ∈ xInf := xIm14 (List.mem_of_getElem? (l := xI14) (i := 6) rfl)
theorem Z_X5_shareOf : Y_X5_shareOf ∈ xInf := xIm14 (List.mem_of_getElem? (l := xI14) (i := 7) rfl)
theorem Z_X5_size : Y_X5_size ∈ xInf := xIm14 (List.mem_of_getElem? (l := xI14) (i := 8) rfl)
theorem Z_X5_startText : Y_X5_startText ∈ xInf := xIm14 (List.mem_of_getElem? (l := xI14) (i := 9) rfl)
theorem Z_X5_tallied : Y_X5_tallied ∈ xInf := xIm14 (List.mem_of_getElem? (l := xI14) (i := 10) rfl)
theorem Z_X5_tally : Y_X5_tally ∈ xInf := xIm14 (List.mem_of_getElem? (l := xI14) (i := 11) rfl)
theorem Z_X5_thrown : Y_X5_thrown ∈ xInf := xIm14 (List.mem_of_getElem? (l := xI14) (i := 12) rfl)
theorem Z_X5_tick : Y_X5_tick ∈ xInf := xIm14 (List.mem_of_getElem? (l := xI14) (i := 13) rfl)
theorem Z_X5_ticks : Y_X5_ticks ∈ xInf := xIm14 (List.mem_of_getElem? (l := xI14) (i := 14) rfl)
theorem Z_X5_ticksToDry : Y_X5_ticksToDry ∈ xInf := xIm14 (List.mem_of_getElem? (l := xI14) (i := 15) rfl)
theorem Z_X5_ticksToLoss : Y_X5_ticksToLoss ∈ xInf := xIm14 (List.mem_of_getElem? (l := xI14) (i := 16) rfl)
theorem Z_X5_turnIn : Y_X5_turnIn ∈ xInf := xIm14 (List.mem_of_getElem? (l := xI14) (i := 17) rfl)
theorem Z_X5_undo : Y_X5_undo ∈ xInf := xIm14 (List.mem_of_getElem? (l := xI14) (i := 18) rfl)
theorem Z_X5_undoCount : Y_X5_undoCount ∈ xInf := xIm14 (List.mem_of_getElem? (l := xI14) (i := 19) rfl)
theorem Z_X5_unequal : Y_X5_unequal ∈ xInf := xIm15 (List.mem_of_getElem? (l := xI15) (i := 0) rfl)
theorem Z_X5_value : Y_X5_value ∈ xInf := xIm15 (List.mem_of_getElem? (l := xI15) (i := 1) rfl)
theorem Z_X5_wash : Y_X5_wash ∈ xInf := xIm15 (List.mem_of_getElem? (l := xI15) (i := 2) rfl)
theorem Z_X5_why : Y_X5_why ∈ xInf := xIm15 (List.mem_of_getElem? (l := xI15) (i := 3) rfl)
theorem Z_X5_whyDivide : Y_X5_whyDivide ∈ xInf := xIm15 (List.mem_of_getElem? (l := xI15) (i := 4) rfl)
theorem Z_X5_write : Y_X5_write ∈ xInf := xIm15 (List.mem_of_getElem? (l := xI15) (i := 5) rfl)
theorem Z_X5_writeNumber : Y_X5_writeNumber ∈ xInf := xIm15 (List.mem_of_getElem? (l := xI15) (i := 6) rfl)
theorem Z_X6_accept : Y_X6_accept ∈ xInf := xIm15 (List.mem_of_getElem? (l := xI15) (i := 7) rfl)
theorem Z_X6_byteAt : Y_X6_byteAt ∈ xInf := xIm15 (List.mem_of_getElem? (l := xI15) (i := 8) rfl)
theorem Z_X6_check : Y_X6_check ∈ xInf := xIm15 (List.mem_of_getElem? (l := xI15) (i := 9) rfl)
theorem Z_X6_ends : Y_X6_ends ∈ xInf := xIm15 (List.mem_of_getElem? (l := xI15) (i := 10) rfl)
theorem Z_X6_finderHere : Y_X6_finderHere ∈ xInf := xIm15 (List.mem_of_getElem? (l := xI15) (i := 11) rfl)
theorem Z_X6_good : Y_X6_good ∈ xInf := xIm15 (List.mem_of_getElem? (l := xI15) (i := 12) rfl)
theorem Z_X6_goodHere : Y_X6_goodHere ∈ xInf := xIm15 (List.mem_of_getElem? (l := xI15) (i := 13) rfl)
theorem Z_X6_init : Y_X6_init ∈ xInf := xIm15 (List.mem_of_getElem? (l := xI15) (i := 14) rfl)
theorem Z_X6_isDigit : Y_X6_isDigit ∈ xInf := xIm15 (List.mem_of_getElem? (l := xI15) (i := 15) rfl)
theorem Z_X6_isLetter : Y_X6_isLetter ∈ xInf := xIm15 (List.mem_of_getElem? (l := xI15) (i := 16) rfl)
theorem Z_X6_isOrder : Y_X6_isOrder ∈ xInf := xIm15 (List.mem_of_getElem? (l := xI15) (i := 17) rfl)
theorem Z_X6_keyword : Y_X6_keyword ∈ xInf := xIm15 (List.mem_of_getElem? (l := xI15) (i := 18) rfl)
theorem Z_X6_look : Y_X6_look ∈ xInf := xIm15 (List.mem_of_getElem? (l := xI15) (i := 19) rfl)
theorem Z_X6_next : Y_X6_next ∈ xInf := xIm16 (List.mem_of_getElem? (l := xI16) (i := 0) rfl)
theorem Z_X6_number : Y_X6_number ∈ xInf := xIm16 (List.mem_of_getElem? (l := xI16) (i := 1) rfl)
theorem Z_X6_order : Y_X6_order ∈ xInf := xIm16 (List.mem_of_getElem? (l := xI16) (i := 2) rfl)
theorem Z_X6_script : Y_X6_script ∈ xInf := xIm16 (List.mem_of_getElem? (l := xI16) (i := 3) rfl)
theorem Z_X6_text : Y_X6_text ∈ xInf := xIm16 (List.mem_of_getElem? (l := xI16) (i := 4) rfl)
theorem Z_X7_init : Y_X7_init ∈ xInf := xIm16 (List.mem_of_getElem? (l := xI16) (i := 5) rfl)
theorem Z_X8_amount : Y_X8_amount ∈ xInf := xIm16 (List.mem_of_getElem? (l := xI16) (i := 6) rfl)
theorem Z_X8_init : Y_X8_init ∈ xInf := xIm16 (List.mem_of_getElem? (l := xI16) (i := 7) rfl)
theorem Z_X9_amount : Y_X9_amount ∈ xInf := xIm16 (List.mem_of_getElem? (l := xI16) (i := 8) rfl)
theorem Z_X9_init : Y_X9_init ∈ xInf := xIm16 (List.mem_of_getElem? (l := xI16) (i := 9) rfl)
theorem Z_X9_owner : Y_X9_owner ∈ xInf := xIm16 (List.mem_of_getElem? (l := xI16) (i := 10) rfl)
theorem Z_X10_amount : Y_X10_amount ∈ xInf := xIm16 (List.mem_of_getElem? (l := xI16) (i := 11) rfl)
theorem Z_X10_finder : Y_X10_finder ∈ xInf := xIm16 (List.mem_of_getElem? (l := xI16) (i := 12) rfl)
theorem Z_X10_init : Y_X10_init ∈ xInf := xIm16 (List.mem_of_getElem? (l := xI16) (i := 13) rfl)
theorem Z_X11_init : Y_X11_init ∈ xInf := xIm16 (List.mem_of_getElem? (l := xI16) (i := 14) rfl)
theorem Z_X11_iterator : Y_X11_iterator ∈ xInf := xIm16 (List.mem_of_getElem? (l := xI16) (i := 15) rfl)
theorem Z_X12_hasNext : Y_X12_hasNext ∈ xInf := xIm16 (List.mem_of_getElem? (l := xI16) (i := 16) rfl)
theorem Z_X12_init : Y_X12_init ∈ xInf := xIm16 (List.mem_of_getElem? (l := xI16) (i := 17) rfl)
theorem Z_X12_next : Y_X12_next ∈ xInf := xIm16 (List.mem_of_getElem? (l := xI16) (i := 18) rfl)
theorem Z_X12_next_2 : Y_X12_next_2 ∈ xInf := xIm16 (List.mem_of_getElem? (l := xI16) (i := 19) rfl)
theorem Z_J0_init : Y_J0_init ∈ xInf := xIm17 (List.mem_of_getElem? (l := xI17) (i := 0) rfl)
theorem Z_J1_init : Y_J1_init ∈ xInf := xIm17 (List.mem_of_getElem? (l := xI17) (i := 1) rfl)
theorem Z_J1_listIterator : Y_J1_listIterator ∈ xInf := xIm17 (List.mem_of_getElem? (l := xI17) (i := 2) rfl)
theorem Z_J2_add : Y_J2_add ∈ xInf := xIm17 (List.mem_of_getElem? (l := xI17) (i := 3) rfl)
theorem Z_J2_add_2 : Y_J2_add_2 ∈ xInf := xIm17 (List.mem_of_getElem? (l := xI17) (i := 4) rfl)
theorem Z_J2_elementData : Y_J2_elementData ∈ xInf := xIm17 (List.mem_of_getElem? (l := xI17) (i := 5) rfl)
theorem Z_J2_get : Y_J2_get ∈ xInf := xIm17 (List.mem_of_getElem? (l := xI17) (i := 6) rfl)
theorem Z_J2_grow : Y_J2_grow ∈ xInf := xIm17 (List.mem_of_getElem? (l := xI17) (i := 7) rfl)
theorem Z_J2_grow_2 : Y_J2_grow_2 ∈ xInf := xIm17 (List.mem_of_getElem? (l := xI17) (i := 8) rfl)
theorem Z_J2_init : Y_J2_init ∈ xInf := xIm17 (List.mem_of_getElem? (l := xI17) (i := 9) rfl)
theorem Z_J2_init_2 : Y_J2_init_2 ∈ xInf := xIm17 (List.mem_of_getElem? (l := xI17) (i := 10) rfl)
theorem Z_J2_iterator : Y_J2_iterator ∈ xInf := xIm17 (List.mem_of_getElem? (l := xI17) (i := 11) rfl)
theorem Z_J2_size : Y_J2_size ∈ xInf := xIm17 (List.mem_of_getElem? (l := xI17) (i := 12) rfl)
theorem Z_J3_init_4 : Y_J3_init_4 ∈ xInf := xIm17 (List.mem_of_getElem? (l := xI17) (i := 13) rfl)
theorem Z_J4_init_4 : Y_J4_init_4 ∈ xInf := xIm17 (List.mem_of_getElem? (l := xI17) (i := 14) rfl)
theorem Z_J7_append : Y_J7_append ∈ xInf := xIm17 (List.mem_of_getElem? (l := xI17) (i := 15) rfl)
theorem Z_J7_append_2 : Y_J7_append_2 ∈ xInf := xIm17 (List.mem_of_getElem? (l := xI17) (i := 16) rfl)
theorem Z_J7_append_3 : Y_J7_append_3 ∈ xInf := xIm17 (List.mem_of_getElem? (l := xI17) (i := 17) rfl)
theorem Z_J7_ensureCapacityInternal : Y_J7_ensureCapacityInternal ∈ xInf := xIm17 (List.mem_of_getElem? (l := xI17) (i := 18) rfl)
theorem Z_J7_getValue : Y_J7_getValue ∈ xInf := xIm17 (List.mem_of_getElem? (l := xI17) (i := 19) rfl)
theorem Z_J7_inflateIfNeededFor : Y_J7_inflateIfNeededFor ∈ xInf := xIm18 (List.mem_of_getElem? (l := xI18) (i := 0) rfl)
theorem Z_J7_init : Y_J7_init ∈ xInf := xIm18 (List.mem_of_getElem? (l := xI18) (i := 1) rfl)
theorem Z_J7_isLatin1 : Y_J7_isLatin1 ∈ xInf := xIm18 (List.mem_of_getElem? (l := xI18) (i := 2) rfl)
theorem Z_J7_length : Y_J7_length ∈ xInf := xIm18 (List.mem_of_getElem? (l := xI18) (i := 3) rfl)
theorem Z_J7_newCapacity : Y_J7_newCapacity ∈ xInf := xIm18 (List.mem_of_getElem? (l := xI18) (i := 4) rfl)
theorem Z_J7_putStringAt : Y_J7_putStringAt ∈ xInf := xIm18 (List.mem_of_getElem? (l := xI18) (i := 5) rfl)
theorem Z_J7_setLength : Y_J7_setLength ∈ xInf := xIm18 (List.mem_of_getElem? (l := xI18) (i := 6) rfl)
theorem Z_J8_append : Y_J8_append ∈ xInf := xIm18 (List.mem_of_getElem? (l := xI18) (i := 7) rfl)
theorem Z_J8_append_2 : Y_J8_append_2 ∈ xInf := xIm18 (List.mem_of_getElem? (l := xI18) (i := 8) rfl)
theorem Z_J8_append_3 : Y_J8_append_3 ∈ xInf := xIm18 (List.mem_of_getElem? (l := xI18) (i := 9) rfl)
theorem Z_J8_init : Y_J8_init ∈ xInf := xIm18 (List.mem_of_getElem? (l := xI18) (i := 10) rfl)
theorem Z_J8_length : Y_J8_length ∈ xInf := xIm18 (List.mem_of_getElem? (l := xI18) (i := 11) rfl)
theorem Z_J8_setLength : Y_J8_setLength ∈ xInf := xIm18 (List.mem_of_getElem? (l := xI18) (i := 12) rfl)
theorem Z_J8_toString : Y_J8_toString ∈ xInf := xIm18 (List.mem_of_getElem? (l := xI18) (i := 13) rfl)
theorem Z_J9_charAt : Y_J9_charAt ∈ xInf := xIm18 (List.mem_of_getElem? (l := xI18) (i := 14) rfl)
theorem Z_J9_checkIndex : Y_J9_checkIndex ∈ xInf := xIm18 (List.mem_of_getElem? (l := xI18) (i := 15) rfl)
theorem Z_J9_coder : Y_J9_coder ∈ xInf := xIm18 (List.mem_of_getElem? (l := xI18) (i := 16) rfl)
theorem Z_J9_equals : Y_J9_equals ∈ xInf := xIm18 (List.mem_of_getElem? (l := xI18) (i := 17) rfl)
theorem Z_J9_getBytes : Y_J9_getBytes ∈ xInf := xIm18 (List.mem_of_getElem? (l := xI18) (i := 18) rfl)
theorem Z_J9_hashCode : Y_J9_hashCode ∈ xInf := xIm18 (List.mem_of_getElem? (l := xI18) (i := 19) rfl)
theorem Z_J9_init : Y_J9_init ∈ xInf := xIm19 (List.mem_of_getElem? (l := xI19) (i := 0) rfl)
theorem Z_J9_init_2 : Y_J9_init_2 ∈ xInf := xIm19 (List.mem_of_getElem? (l := xI19) (i := 1) rfl)
theorem Z_J9_isLatin1 : Y_J9_isLatin1 ∈ xInf := xIm19 (List.mem_of_getElem? (l := xI19) (i := 2) rfl)
theorem Z_J9_length : Y_J9_length ∈ xInf := xIm19 (List.mem_of_getElem? (l := xI19) (i := 3) rfl)
theorem Z_J11_hashCode_2 : Y_J11_hashCode_2 ∈ xInf := xIm19 (List.mem_of_getElem? (l := xI19) (i := 4) rfl)
theorem Z_J11_newLength : Y_J11_newLength ∈ xInf := xIm19 (List.mem_of_getElem? (l := xI19) (i := 5) rfl)
theorem Z_J11_signedHashCode : Y_J11_signedHashCode ∈ xInf := xIm19 (List.mem_of_getElem? (l := xI19) (i := 6) rfl)
theorem Z_J11_vectorizedHashCode : Y_J11_vectorizedHashCode ∈ xInf := xIm19 (List.mem_of_getElem? (l := xI19) (i := 7) rfl)
theorem Z_J12_max : Y_J12_max ∈ xInf := xIm19 (List.mem_of_getElem? (l := xI19) (i := 8) rfl)
theorem Z_J12_min : Y_J12_min ∈ xInf := xIm19 (List.mem_of_getElem? (l := xI19) (i := 9) rfl)
theorem Z_J13_copyOf : Y_J13_copyOf ∈ xInf := xIm19 (List.mem_of_getElem? (l := xI19) (i := 10) rfl)
theorem Z_J13_copyOfRange : Y_J13_copyOfRange ∈ xInf := xIm19 (List.mem_of_getElem? (l := xI19) (i := 11) rfl)
theorem Z_J13_copyOfRangeByte : Y_J13_copyOfRangeByte ∈ xInf := xIm19 (List.mem_of_getElem? (l := xI19) (i := 12) rfl)
theorem Z_J13_fill : Y_J13_fill ∈ xInf := xIm19 (List.mem_of_getElem? (l := xI19) (i := 13) rfl)
theorem Z_J13_rangeCheck : Y_J13_rangeCheck ∈ xInf := xIm19 (List.mem_of_getElem? (l := xI19) (i := 14) rfl)
theorem Z_J14_checkIndex : Y_J14_checkIndex ∈ xInf := xIm19 (List.mem_of_getElem? (l := xI19) (i := 15) rfl)
theorem Z_J15_canEncode : Y_J15_canEncode ∈ xInf := xIm19 (List.mem_of_getElem? (l := xI19) (i := 16) rfl)
theorem Z_J15_charAt : Y_J15_charAt ∈ xInf := xIm19 (List.mem_of_getElem? (l := xI19) (i := 17) rfl)
theorem Z_J15_equals : Y_J15_equals ∈ xInf := xIm19 (List.mem_of_getElem? (l := xI19) (i := 18) rfl)
theorem Z_J15_fillNull : Y_J15_fillNull ∈ xInf := xIm19 (List.mem_of_getElem? (l := xI19) (i := 19) rfl)
theorem Z_J15_hashCode : Y_J15_hashCode ∈ xInf := xIm20 (List.mem_of_getElem? (l := xI20) (i := 0) rfl)
theorem Z_J16_init : Y_J16_init ∈ xInf := xIm20 (List.mem_of_getElem? (l := xI20) (i := 1) rfl)
theorem Z_J17_equals : Y_J17_equals ∈ xInf := xIm20 (List.mem_of_getElem? (l := xI20) (i := 2) rfl)
theorem Z_J17_getChars : Y_J17_getChars ∈ xInf := xIm20 (List.mem_of_getElem? (l := xI20) (i := 3) rfl)
theorem Z_J17_init : Y_J17_init ∈ xInf := xIm20 (List.mem_of_getElem? (l := xI20) (i := 4) rfl)
theorem Z_J17_intValue : Y_J17_intValue ∈ xInf := xIm20 (List.mem_of_getElem? (l := xI20) (i := 5) rfl)
theorem Z_J17_numberOfTrailingZeros : Y_J17_numberOfTrailingZeros ∈ xInf := xIm20 (List.mem_of_getElem? (l := xI20) (i := 6) rfl)
theorem Z_J17_stringSize : Y_J17_stringSize ∈ xInf := xIm20 (List.mem_of_getElem? (l := xI20) (i := 7) rfl)
theorem Z_J17_valueOf : Y_J17_valueOf ∈ xInf := xIm20 (List.mem_of_getElem? (l := xI20) (i := 8) rfl)
theorem Z_J18_ordinal : Y_J18_ordinal ∈ xInf := xIm20 (List.mem_of_getElem? (l := xI20) (i := 9) rfl)
theorem Z_J19_init : Y_J19_init ∈ xInf := xIm20 (List.mem_of_getElem? (l := xI20) (i := 10) rfl)
theorem Z_J19_iterator : Y_J19_iterator ∈ xInf := xIm20 (List.mem_of_getElem? (l := xI20) (i := 11) rfl)
theorem Z_J20_add : Y_J20_add ∈ xInf := xIm20 (List.mem_of_getElem? (l := xI20) (i := 12) rfl)
theorem Z_J20_addLast : Y_J20_addLast ∈ xInf := xIm20 (List.mem_of_getElem? (l := xI20) (i := 13) rfl)
theorem Z_J20_checkElementIndex : Y_J20_checkElementIndex ∈ xInf := xIm20 (List.mem_of_getElem? (l := xI20) (i := 14) rfl)
theorem Z_J20_checkPositionIndex : Y_J20_checkPositionIndex ∈ xInf := xIm20 (List.mem_of_getElem? (l := xI20) (i := 15) rfl)
theorem Z_J20_clear : Y_J20_clear ∈ xInf := xIm20 (List.mem_of_getElem? (l := xI20) (i := 16) rfl)
theorem Z_J20_contains : Y_J20_contains ∈ xInf := xIm20 (List.mem_of_getElem? (l := xI20) (i := 17) rfl)
theorem Z_J20_get : Y_J20_get ∈ xInf := xIm20 (List.mem_of_getElem? (l := xI20) (i := 18) rfl)
theorem Z_J20_indexOf : Y_J20_indexOf ∈ xInf := xIm20 (List.mem_of_getElem? (l := xI20) (i := 19) rfl)
theorem Z_J20_init : Y_J20_init ∈ xInf := xIm21 (List.mem_of_getElem? (l := xI21) (i := 0) rfl)
theorem Z_J20_isElementIndex : Y_J20_isElementIndex ∈ xInf := xIm21 (List.mem_of_getElem? (l := xI21) (i := 1) rfl)
theorem Z_J20_isPositionIndex : Y_J20_isPositionIndex ∈ xInf := xIm21 (List.mem_of_getElem? (l := xI21) (i := 2) rfl)
theorem Z_J20_linkLast : Y_J20_linkLast ∈ xInf := xIm21 (List.mem_of_getElem? (l := xI21) (i := 3) rfl)
theorem Z_J20_listIterator : Y_J20_listIterator ∈ xInf := xIm21 (List.mem_of_getElem? (l := xI21) (i := 4) rfl)
theorem Z_J20_node : Y_J20_node ∈ xInf := xIm21 (List.mem_of_getElem? (l := xI21) (i := 5) rfl)
theorem Z_J20_remove : Y_J20_remove ∈ xInf := xIm21 (List.mem_of_getElem? (l := xI21) (i := 6) rfl)
theorem Z_J20_removeFirstOccurrence : Y_J20_removeFirstOccurrence ∈ xInf := xIm21 (List.mem_of_getElem? (l := xI21) (i := 7) rfl)
theorem Z_J20_size : Y_J20_size ∈ xInf := xIm21 (List.mem_of_getElem? (l := xI21) (i := 8) rfl)
theorem Z_J20_unlink : Y_J20_unlink ∈ xInf := xIm21 (List.mem_of_getElem? (l := xI21) (i := 9) rfl)
theorem Z_J21_init : Y_J21_init ∈ xInf := xIm21 (List.mem_of_getElem? (l := xI21) (i := 10) rfl)
theorem Z_J22_addLast : Y_J22_addLast ∈ xInf := xIm21 (List.mem_of_getElem? (l := xI21) (i := 11) rfl)
theorem Z_J22_circularClear : Y_J22_circularClear ∈ xInf := xIm21 (List.mem_of_getElem? (l := xI21) (i := 12) rfl)
theorem Z_J22_clear : Y_J22_clear ∈ xInf := xIm21 (List.mem_of_getElem? (l := xI21) (i := 13) rfl)
theorem Z_J22_dec : Y_J22_dec ∈ xInf := xIm21 (List.mem_of_getElem? (l := xI21) (i := 14) rfl)
theorem Z_J22_elementAt : Y_J22_elementAt ∈ xInf := xIm21 (List.mem_of_getElem? (l := xI21) (i := 15) rfl)
theorem Z_J22_inc : Y_J22_inc ∈ xInf := xIm21 (List.mem_of_getElem? (l := xI21) (i := 16) rfl)
theorem Z_J22_init : Y_J22_init ∈ xInf := xIm21 (List.mem_of_getElem? (l := xI21) (i := 17) rfl)
theorem Z_J22_isEmpty : Y_J22_isEmpty ∈ xInf := xIm21 (List.mem_of_getElem? (l := xI21) (i := 18) rfl)
theorem Z_J22_pollFirst : Y_J22_pollFirst ∈ xInf := xIm21 (List.mem_of_getElem? (l := xI21) (i := 19) rfl)
theorem Z_J22_pollLast : Y_J22_pollLast ∈ xInf := xIm22 (List.mem_of_getElem? (l := xI22) (i := 0) rfl)
theorem Z_J22_removeFirst : Y_J22_removeFirst ∈ xInf := xIm22 (List.mem_of_getElem? (l := xI22) (i := 1) rfl)
theorem Z_J22_removeLast : Y_J22_removeLast ∈ xInf := xIm22 (List.mem_of_getElem? (l := xI22) (i := 2) rfl)
theorem Z_J22_size : Y_J22_size ∈ xInf := xIm22 (List.mem_of_getElem? (l := xI22) (i := 3) rfl)
theorem Z_J22_sub : Y_J22_sub ∈ xInf := xIm22 (List.mem_of_getElem? (l := xI22) (i := 4) rfl)
theorem Z_J23_checkForComodification : Y_J23_checkForComodification ∈ xInf := xIm22 (List.mem_of_getElem? (l := xI22) (i := 5) rfl)
theorem Z_J23_hasNext : Y_J23_hasNext ∈ xInf := xIm22 (List.mem_of_getElem? (l := xI22) (i := 6) rfl)
theorem Z_J23_init : Y_J23_init ∈ xInf := xIm22 (List.mem_of_getElem? (l := xI22) (i := 7) rfl)
theorem Z_J23_next : Y_J23_next ∈ xInf := xIm22 (List.mem_of_getElem? (l := xI22) (i := 8) rfl)
theorem Z_J26_checkForComodification : Y_J26_checkForComodification ∈ xInf := xIm22 (List.mem_of_getElem? (l := xI22) (i := 9) rfl)
theorem Z_J26_hasNext : Y_J26_hasNext ∈ xInf := xIm22 (List.mem_of_getElem? (l := xI22) (i := 10) rfl)
theorem Z_J26_init : Y_J26_init ∈ xInf := xIm22 (List.mem_of_getElem? (l := xI22) (i := 11) rfl)
theorem Z_J26_next : Y_J26_next ∈ xInf := xIm22 (List.mem_of_getElem? (l := xI22) (i := 12) rfl)
theorem Z_J28_checkIndex : Y_J28_checkIndex ∈ xInf := xIm22 (List.mem_of_getElem? (l := xI22) (i := 13) rfl)
theorem Z_J29_checkInvariants : Y_J29_checkInvariants ∈ xInf := xIm22 (List.mem_of_getElem? (l := xI22) (i := 14) rfl)
theorem Z_J29_clear : Y_J29_clear ∈ xInf := xIm22 (List.mem_of_getElem? (l := xI22) (i := 15) rfl)
theorem Z_J29_ensureCapacity : Y_J29_ensureCapacity ∈ xInf := xIm22 (List.mem_of_getElem? (l := xI22) (i := 16) rfl)
theorem Z_J29_expandTo : Y_J29_expandTo ∈ xInf := xIm22 (List.mem_of_getElem? (l := xI22) (i := 17) rfl)
theorem Z_J29_init : Y_J29_init ∈ xInf := xIm22 (List.mem_of_getElem? (l := xI22) (i := 18) rfl)
theorem Z_J29_initWords : Y_J29_initWords ∈ xInf := xIm22 (List.mem_of_getElem? (l := xI22) (i := 19) rfl)
theorem Z_J29_nextSetBit : Y_J29_nextSetBit ∈ xInf := xIm23 (List.mem_of_getElem? (l := xI23) (i := 0) rfl)
theorem Z_J29_recalculateWordsInUse : Y_J29_recalculateWordsInUse ∈ xInf := xIm23 (List.mem_of_getElem? (l := xI23) (i := 1) rfl)
theorem Z_J29_set : Y_J29_set ∈ xInf := xIm23 (List.mem_of_getElem? (l := xI23) (i := 2) rfl)
theorem Z_J29_set_2 : Y_J29_set_2 ∈ xInf := xIm23 (List.mem_of_getElem? (l := xI23) (i := 3) rfl)
theorem Z_J29_wordIndex : Y_J29_wordIndex ∈ xInf := xIm23 (List.mem_of_getElem? (l := xI23) (i := 4) rfl)
theorem Z_J30_numberOfTrailingZeros : Y_J30_numberOfTrailingZeros ∈ xInf := xIm23 (List.mem_of_getElem? (l := xI23) (i := 5) rfl)
theorem Z_J31_init : Y_J31_init ∈ xInf := xIm23 (List.mem_of_getElem? (l := xI23) (i := 6) rfl)
theorem fd_7_1_0 : XFd "WreckShares" "counts" "[I" 7 false 1 RX1 TX1 8 6 := ⟨(List.mem_of_getElem? (l := xCls) (i := 0) rfl), by decide, rfl, rfl, rfl, rfl, in_X1, (Or.inl rfl), by decide, by decide⟩
theorem fd_4_1_0 : XFd "WreckShares" "now" "LWreckShares$Shore;" 4 false 1 RX1 TX1 8 3 := ⟨(List.mem_of_getElem? (l := xCls) (i := 0) rfl), by decide, rfl, rfl, rfl, rfl, in_X1, (Or.inl rfl), by decide, by decide⟩
theorem fd_15_2_0 : XFd "WreckShares$Shore" "sums" "[I" 15 false 2 RX2 TX2 9 6 := ⟨(List.mem_of_getElem? (l := xCls) (i := 1) rfl), by decide, rfl, rfl, rfl, rfl, in_X2, (Or.inl rfl), by decide, by decide⟩
theorem fd_1_1_0 : XFd "WreckShares" "buffer" "[B" 1 false 1 RX1 TX1 8 0 := ⟨(List.mem_of_getElem? (l := xCls) (i := 0) rfl), by decide, rfl, rfl, rfl, rfl, in_X1, (Or.inl rfl), by decide, by decide⟩
theorem fd_2_1_0 : XFd "WreckShares" "buffered" "I" 2 true 1 RX1 TX1 8 1 := ⟨(List.mem_of_getElem? (l := xCls) (i := 0) rfl), by decide, rfl, rfl, rfl, rfl, in_X1, (Or.inl rfl), by decide, by decide⟩
theorem fd_12_2_0 : XFd "WreckShares$Shore" "goods" "Ljava/util/List;" 12 false 2 RX2 TX2 9 3 := ⟨(List.mem_of_getElem? (l := xCls) (i := 1) rfl), by decide, rfl, rfl, rfl, rfl, in_X2, (Or.inl rfl), by decide, by decide⟩
theorem fd_20_3_0 : XFd "WreckShares$Good" "mark" "I" 20 true 3 RX3 TX3 12 2 := ⟨(List.mem_of_getElem? (l := xCls) (i := 2) rfl), by decide, rfl, rfl, rfl, rfl, in_X3, (Or.inl rfl), by decide, by decide⟩
theorem fd_19_3_0 : XFd "WreckShares$Good" "value" "I" 19 true 3 RX3 TX3 12 1 := ⟨(List.mem_of_getElem? (l := xCls) (i := 2) rfl), by decide, rfl, rfl, rfl, rfl, in_X3, (Or.inl rfl), by decide, by decide⟩
theorem fd_16_2_0 : XFd "WreckShares$Shore" "time" "I" 16 true 2 RX2 TX2 9 7 := ⟨(List.mem_of_getElem? (l := xCls) (i := 1) rfl), by decide, rfl, rfl, rfl, rfl, in_X2, (Or.inl rfl), by decide, by decide⟩
theorem fd_24_3_0 : XFd "WreckShares$Good" "rope" "Ljava/util/LinkedList;" 24 false 3 RX3 TX3 12 6 := ⟨(List.mem_of_getElem? (l := xCls) (i := 2) rfl), by decide, rfl, rfl, rfl, rfl, in_X3, (Or.inl rfl), by decide, by decide⟩
theorem fd_22_3_0 : XFd "WreckShares$Good" "need" "I" 22 true 3 RX3 TX3 12 4 := ⟨(List.mem_of_getElem? (l := xCls) (i := 2) rfl), by decide, rfl, rfl, rfl, rfl, in_X3, (Or.inl rfl), by decide, by decide⟩
theorem fd_18_3_0 : XFd "WreckShares$Good" "number" "I" 18 true 3 RX3 TX3 12 0 := ⟨(List.mem_of_getElem? (l := xCls) (i := 2) rfl), by decide, rfl, rfl, rfl, rfl, in_X3, (Or.inl rfl), by decide, by decide⟩
theorem fd_26_3_0 : XFd "WreckShares$Good" "state" "I" 26 true 3 RX3 TX3 12 8 := ⟨(List.mem_of_getElem? (l := xCls) (i := 2) rfl), by decide, rfl, rfl, rfl, rfl, in_X3, (Or.inl rfl), by decide, by decide⟩
theorem fd_28_3_0 : XFd "WreckShares$Good" "due" "I" 28 true 3 RX3 TX3 12 10 := ⟨(List.mem_of_getElem? (l := xCls) (i := 2) rfl), by decide, rfl, rfl, rfl, rfl, in_X3, (Or.inl rfl), by decide, by decide⟩
theorem fd_23_3_0 : XFd "WreckShares$Good" "kind" "LWreckShares$Kind;" 23 false 3 RX3 TX3 12 5 := ⟨(List.mem_of_getElem? (l := xCls) (i := 2) rfl), by decide, rfl, rfl, rfl, rfl, in_X3, (Or.inl rfl), by decide, by decide⟩
theorem fd_25_3_0 : XFd "WreckShares$Good" "crew" "[I" 25 false 3 RX3 TX3 12 7 := ⟨(List.mem_of_getElem? (l := xCls) (i := 2) rfl), by decide, rfl, rfl, rfl, rfl, in_X3, (Or.inl rfl), by decide, by decide⟩
theorem fd_17_2_0 : XFd "WreckShares$Shore" "crown" "I" 17 true 2 RX2 TX2 9 8 := ⟨(List.mem_of_getElem? (l := xCls) (i := 1) rfl), by decide, rfl, rfl, rfl, rfl, in_X2, (Or.inl rfl), by decide, by decide⟩
theorem fd_9_2_0 : XFd "WreckShares$Shore" "period" "I" 9 true 2 RX2 TX2 9 0 := ⟨(List.mem_of_getElem? (l := xCls) (i := 1) rfl), by decide, rfl, rfl, rfl, rfl, in_X2, (Or.inl rfl), by decide, by decide⟩
theorem fd_3_1_0 : XFd "WreckShares" "errorAt" "I" 3 true 1 RX1 TX1 8 2 := ⟨(List.mem_of_getElem? (l := xCls) (i := 0) rfl), by decide, rfl, rfl, rfl, rfl, in_X1, (Or.inl rfl), by decide, by decide⟩
theorem fd_75_6_0 : XFd "WreckShares$TextError" "position" "I" 75 true 6 RX7 TX7 8 7 := ⟨(List.mem_of_getElem? (l := xCls) (i := 5) rfl), by decide, rfl, rfl, rfl, rfl, in_X7, (Or.inl rfl), by decide, by decide⟩
theorem fd_74_6_0 : XFd "WreckShares$TextError" "code" "I" 74 true 6 RX7 TX7 8 6 := ⟨(List.mem_of_getElem? (l := xCls) (i := 5) rfl), by decide, rfl, rfl, rfl, rfl, in_X7, (Or.inl rfl), by decide, by decide⟩
theorem fd_13_2_0 : XFd "WreckShares$Shore" "purses" "[I" 13 false 2 RX2 TX2 9 4 := ⟨(List.mem_of_getElem? (l := xCls) (i := 1) rfl), by decide, rfl, rfl, rfl, rfl, in_X2, (Or.inl rfl), by decide, by decide⟩
theorem fd_29_3_0 : XFd "WreckShares$Good" "isClaimed" "Z" 29 true 3 RX3 TX3 12 11 := ⟨(List.mem_of_getElem? (l := xCls) (i := 2) rfl), by decide, rfl, rfl, rfl, rfl, in_X3, (Or.inl rfl), by decide, by decide⟩
theorem fd_8_1_0 : XFd "WreckShares" "formatted" "Ljava/lang/String;" 8 false 1 RX1 TX1 8 7 := ⟨(List.mem_of_getElem? (l := xCls) (i := 0) rfl), by decide, rfl, rfl, rfl, rfl, in_X1, (Or.inl rfl), by decide, by decide⟩
theorem fd_14_2_0 : XFd "WreckShares$Shore" "owners" "[I" 14 false 2 RX2 TX2 9 5 := ⟨(List.mem_of_getElem? (l := xCls) (i := 1) rfl), by decide, rfl, rfl, rfl, rfl, in_X2, (Or.inl rfl), by decide, by decide⟩
theorem fd_27_3_0 : XFd "WreckShares$Good" "washed" "I" 27 true 3 RX3 TX3 12 9 := ⟨(List.mem_of_getElem? (l := xCls) (i := 2) rfl), by decide, rfl, rfl, rfl, rfl, in_X3, (Or.inl rfl), by decide, by decide⟩
theorem fd_10_2_0 : XFd "WreckShares$Shore" "stay" "I" 10 true 2 RX2 TX2 9 1 := ⟨(List.mem_of_getElem? (l := xCls) (i := 1) rfl), by decide, rfl, rfl, rfl, rfl, in_X2, (Or.inl rfl), by decide, by decide⟩
theorem fd_21_3_0 : XFd "WreckShares$Good" "height" "I" 21 true 3 RX3 TX3 12 3 := ⟨(List.mem_of_getElem? (l := xCls) (i := 2) rfl), by decide, rfl, rfl, rfl, rfl, in_X3, (Or.inl rfl), by decide, by decide⟩
theorem fd_6_1_0 : XFd "WreckShares" "history" "Ljava/util/ArrayDeque;" 6 false 1 RX1 TX1 8 5 := ⟨(List.mem_of_getElem? (l := xCls) (i := 0) rfl), by decide, rfl, rfl, rfl, rfl, in_X1, (Or.inl rfl), by decide, by decide⟩
theorem fd_5_1_0 : XFd "WreckShares" "snapshot" "LWreckShares$Shore;" 5 false 1 RX1 TX1 8 4 := ⟨(List.mem_of_getElem? (l := xCls) (i := 0) rfl), by decide, rfl, rfl, rfl, rfl, in_X1, (Or.inl rfl), by decide, by decide⟩
theorem fd_65_5_0 : XFd "WreckShares$Parser" "many" "I" 65 true 5 RX6 TX6 9 6 := ⟨(List.mem_of_getElem? (l := xCls) (i := 4) rfl), by decide, rfl, rfl, rfl, rfl, in_X6, (Or.inl rfl), by decide, by decide⟩
theorem fd_11_2_0 : XFd "WreckShares$Shore" "wait" "I" 11 true 2 RX2 TX2 9 2 := ⟨(List.mem_of_getElem? (l := xCls) (i := 1) rfl), by decide, rfl, rfl, rfl, rfl, in_X2, (Or.inl rfl), by decide, by decide⟩
theorem fd_35_4_0 : XFd "WreckSharesModel" "accounts" "[I" 35 false 4 RX5 TX5 29 5 := ⟨(List.mem_of_getElem? (l := xCls) (i := 3) rfl), by decide, rfl, rfl, rfl, rfl, in_X5, (Or.inl rfl), by decide, by decide⟩
theorem fd_40_4_0 : XFd "WreckSharesModel" "row" "[I" 40 false 4 RX5 TX5 29 10 := ⟨(List.mem_of_getElem? (l := xCls) (i := 3) rfl), by decide, rfl, rfl, rfl, rfl, in_X5, (Or.inl rfl), by decide, by decide⟩
theorem fd_52_4_0 : XFd "WreckSharesModel" "error" "I" 52 true 4 RX5 TX5 29 22 := ⟨(List.mem_of_getElem? (l := xCls) (i := 3) rfl), by decide, rfl, rfl, rfl, rfl, in_X5, (Or.inl rfl), by decide, by decide⟩
theorem fd_42_4_0 : XFd "WreckSharesModel" "thrown" "I" 42 true 4 RX5 TX5 29 12 := ⟨(List.mem_of_getElem? (l := xCls) (i := 3) rfl), by decide, rfl, rfl, rfl, rfl, in_X5, (Or.inl rfl), by decide, by decide⟩
theorem fd_48_4_0 : XFd "WreckSharesModel" "limit" "I" 48 true 4 RX5 TX5 29 18 := ⟨(List.mem_of_getElem? (l := xCls) (i := 3) rfl), by decide, rfl, rfl, rfl, rfl, in_X5, (Or.inl rfl), by decide, by decide⟩
theorem fd_46_4_0 : XFd "WreckSharesModel" "buffer" "[I" 46 false 4 RX5 TX5 29 16 := ⟨(List.mem_of_getElem? (l := xCls) (i := 3) rfl), by decide, rfl, rfl, rfl, rfl, in_X5, (Or.inl rfl), by decide, by decide⟩
theorem fd_50_4_0 : XFd "WreckSharesModel" "beginsAt" "I" 50 true 4 RX5 TX5 29 20 := ⟨(List.mem_of_getElem? (l := xCls) (i := 3) rfl), by decide, rfl, rfl, rfl, rfl, in_X5, (Or.inl rfl), by decide, by decide⟩
theorem fd_53_4_0 : XFd "WreckSharesModel" "errorAt" "I" 53 true 4 RX5 TX5 29 23 := ⟨(List.mem_of_getElem? (l := xCls) (i := 3) rfl), by decide, rfl, rfl, rfl, rfl, in_X5, (Or.inl rfl), by decide, by decide⟩
theorem fd_56_4_0 : XFd "WreckSharesModel" "orders" "[I" 56 false 4 RX5 TX5 29 26 := ⟨(List.mem_of_getElem? (l := xCls) (i := 3) rfl), by decide, rfl, rfl, rfl, rfl, in_X5, (Or.inl rfl), by decide, by decide⟩
theorem fd_54_4_0 : XFd "WreckSharesModel" "errorPosition" "I" 54 true 4 RX5 TX5 29 24 := ⟨(List.mem_of_getElem? (l := xCls) (i := 3) rfl), by decide, rfl, rfl, rfl, rfl, in_X5, (Or.inl rfl), by decide, by decide⟩
theorem fd_47_4_0 : XFd "WreckSharesModel" "bufferLength" "I" 47 true 4 RX5 TX5 29 17 := ⟨(List.mem_of_getElem? (l := xCls) (i := 3) rfl), by decide, rfl, rfl, rfl, rfl, in_X5, (Or.inl rfl), by decide, by decide⟩
theorem fd_45_4_0 : XFd "WreckSharesModel" "formattedLength" "I" 45 true 4 RX5 TX5 29 15 := ⟨(List.mem_of_getElem? (l := xCls) (i := 3) rfl), by decide, rfl, rfl, rfl, rfl, in_X5, (Or.inl rfl), by decide, by decide⟩
theorem fd_37_4_0 : XFd "WreckSharesModel" "letters" "[I" 37 false 4 RX5 TX5 29 7 := ⟨(List.mem_of_getElem? (l := xCls) (i := 3) rfl), by decide, rfl, rfl, rfl, rfl, in_X5, (Or.inl rfl), by decide, by decide⟩
theorem fd_38_4_0 : XFd "WreckSharesModel" "signs" "[I" 38 false 4 RX5 TX5 29 8 := ⟨(List.mem_of_getElem? (l := xCls) (i := 3) rfl), by decide, rfl, rfl, rfl, rfl, in_X5, (Or.inl rfl), by decide, by decide⟩
theorem fd_44_4_0 : XFd "WreckSharesModel" "formatted" "[I" 44 false 4 RX5 TX5 29 14 := ⟨(List.mem_of_getElem? (l := xCls) (i := 3) rfl), by decide, rfl, rfl, rfl, rfl, in_X5, (Or.inl rfl), by decide, by decide⟩
theorem fd_30_4_0 : XFd "WreckSharesModel" "now" "[I" 30 false 4 RX5 TX5 29 0 := ⟨(List.mem_of_getElem? (l := xCls) (i := 3) rfl), by decide, rfl, rfl, rfl, rfl, in_X5, (Or.inl rfl), by decide, by decide⟩
theorem fd_31_4_0 : XFd "WreckSharesModel" "draft" "[I" 31 false 4 RX5 TX5 29 1 := ⟨(List.mem_of_getElem? (l := xCls) (i := 3) rfl), by decide, rfl, rfl, rfl, rfl, in_X5, (Or.inl rfl), by decide, by decide⟩
theorem fd_32_4_0 : XFd "WreckSharesModel" "kept" "[I" 32 false 4 RX5 TX5 29 2 := ⟨(List.mem_of_getElem? (l := xCls) (i := 3) rfl), by decide, rfl, rfl, rfl, rfl, in_X5, (Or.inl rfl), by decide, by decide⟩
theorem fd_33_4_0 : XFd "WreckSharesModel" "snapshot" "[I" 33 false 4 RX5 TX5 29 3 := ⟨(List.mem_of_getElem? (l := xCls) (i := 3) rfl), by decide, rfl, rfl, rfl, rfl, in_X5, (Or.inl rfl), by decide, by decide⟩
theorem fd_34_4_0 : XFd "WreckSharesModel" "history" "[I" 34 false 4 RX5 TX5 29 4 := ⟨(List.mem_of_getElem? (l := xCls) (i := 3) rfl), by decide, rfl, rfl, rfl, rfl, in_X5, (Or.inl rfl), by decide, by decide⟩
theorem fd_36_4_0 : XFd "WreckSharesModel" "rates" "[I" 36 false 4 RX5 TX5 29 6 := ⟨(List.mem_of_getElem? (l := xCls) (i := 3) rfl), by decide, rfl, rfl, rfl, rfl, in_X5, (Or.inl rfl), by decide, by decide⟩
theorem fd_39_4_0 : XFd "WreckSharesModel" "kinds" "[Ljava/lang/String;" 39 false 4 RX5 TX5 29 9 := ⟨(List.mem_of_getElem? (l := xCls) (i := 3) rfl), by decide, rfl, rfl, rfl, rfl, in_X5, (Or.inl rfl), by decide, by decide⟩
theorem fd_57_4_0 : XFd "WreckSharesModel" "orderWords" "[Ljava/lang/String;" 57 false 4 RX5 TX5 29 27 := ⟨(List.mem_of_getElem? (l := xCls) (i := 3) rfl), by decide, rfl, rfl, rfl, rfl, in_X5, (Or.inl rfl), by decide, by decide⟩
theorem fd_51_4_0 : XFd "WreckSharesModel" "token" "I" 51 true 4 RX5 TX5 29 21 := ⟨(List.mem_of_getElem? (l := xCls) (i := 3) rfl), by decide, rfl, rfl, rfl, rfl, in_X5, (Or.inl rfl), by decide, by decide⟩
theorem fd_49_4_0 : XFd "WreckSharesModel" "next" "I" 49 true 4 RX5 TX5 29 19 := ⟨(List.mem_of_getElem? (l := xCls) (i := 3) rfl), by decide, rfl, rfl, rfl, rfl, in_X5, (Or.inl rfl), by decide, by decide⟩
theorem fd_41_4_0 : XFd "WreckSharesModel" "undoCount" "I" 41 true 4 RX5 TX5 29 11 := ⟨(List.mem_of_getElem? (l := xCls) (i := 3) rfl), by decide, rfl, rfl, rfl, rfl, in_X5, (Or.inl rfl), by decide, by decide⟩
theorem fd_43_4_0 : XFd "WreckSharesModel" "hasSnapshot" "Z" 43 true 4 RX5 TX5 29 13 := ⟨(List.mem_of_getElem? (l := xCls) (i := 3) rfl), by decide, rfl, rfl, rfl, rfl, in_X5, (Or.inl rfl), by decide, by decide⟩
theorem fd_58_4_0 : XFd "WreckSharesModel" "orderCount" "I" 58 true 4 RX5 TX5 29 28 := ⟨(List.mem_of_getElem? (l := xCls) (i := 3) rfl), by decide, rfl, rfl, rfl, rfl, in_X5, (Or.inl rfl), by decide, by decide⟩
theorem fd_55_4_0 : XFd "WreckSharesModel" "nested" "I" 55 true 4 RX5 TX5 29 25 := ⟨(List.mem_of_getElem? (l := xCls) (i := 3) rfl), by decide, rfl, rfl, rfl, rfl, in_X5, (Or.inl rfl), by decide, by decide⟩
theorem fd_60_5_0 : XFd "WreckShares$Parser" "end" "I" 60 true 5 RX6 TX6 9 1 := ⟨(List.mem_of_getElem? (l := xCls) (i := 4) rfl), by decide, rfl, rfl, rfl, rfl, in_X6, (Or.inl rfl), by decide, by decide⟩
theorem fd_67_5_0 : XFd "WreckShares$Parser" "this$0" "LWreckShares;" 67 false 5 RX6 TX6 9 8 := ⟨(List.mem_of_getElem? (l := xCls) (i := 4) rfl), by decide, rfl, rfl, rfl, rfl, in_X6, (Or.inl rfl), by decide, by decide⟩
theorem fd_62_5_0 : XFd "WreckShares$Parser" "begin" "I" 62 true 5 RX6 TX6 9 3 := ⟨(List.mem_of_getElem? (l := xCls) (i := 4) rfl), by decide, rfl, rfl, rfl, rfl, in_X6, (Or.inl rfl), by decide, by decide⟩
theorem fd_66_5_0 : XFd "WreckShares$Parser" "token" "LWreckShares$Token;" 66 false 5 RX6 TX6 9 7 := ⟨(List.mem_of_getElem? (l := xCls) (i := 4) rfl), by decide, rfl, rfl, rfl, rfl, in_X6, (Or.inl rfl), by decide, by decide⟩
theorem fd_64_5_0 : XFd "WreckShares$Parser" "sign" "I" 64 true 5 RX6 TX6 9 5 := ⟨(List.mem_of_getElem? (l := xCls) (i := 4) rfl), by decide, rfl, rfl, rfl, rfl, in_X6, (Or.inl rfl), by decide, by decide⟩
theorem fd_59_5_0 : XFd "WreckShares$Parser" "word" "Ljava/lang/StringBuilder;" 59 false 5 RX6 TX6 9 0 := ⟨(List.mem_of_getElem? (l := xCls) (i := 4) rfl), by decide, rfl, rfl, rfl, rfl, in_X6, (Or.inl rfl), by decide, by decide⟩
theorem fd_63_5_0 : XFd "WreckShares$Parser" "value" "I" 63 true 5 RX6 TX6 9 4 := ⟨(List.mem_of_getElem? (l := xCls) (i := 4) rfl), by decide, rfl, rfl, rfl, rfl, in_X6, (Or.inl rfl), by decide, by decide⟩
theorem fd_61_5_0 : XFd "WreckShares$Parser" "at" "I" 61 true 5 RX6 TX6 9 2 := ⟨(List.mem_of_getElem? (l := xCls) (i := 4) rfl), by decide, rfl, rfl, rfl, rfl, in_X6, (Or.inl rfl), by decide, by decide⟩
theorem fd_78_8_0 : XFd "WreckShares$ToCrown" "amount" "I" 78 true 8 RX8 TX8 1 0 := ⟨(List.mem_of_getElem? (l := xCls) (i := 7) rfl), by decide, rfl, rfl, rfl, rfl, in_X8, (Or.inl rfl), by decide, by decide⟩
theorem fd_77_7_0 : XFd "WreckShares$ToOwner" "amount" "I" 77 true 7 RX9 TX9 2 1 := ⟨(List.mem_of_getElem? (l := xCls) (i := 6) rfl), by decide, rfl, rfl, rfl, rfl, in_X9, (Or.inl rfl), by decide, by decide⟩
theorem fd_76_7_0 : XFd "WreckShares$ToOwner" "owner" "I" 76 true 7 RX9 TX9 2 0 := ⟨(List.mem_of_getElem? (l := xCls) (i := 6) rfl), by decide, rfl, rfl, rfl, rfl, in_X9, (Or.inl rfl), by decide, by decide⟩
theorem fd_80_9_0 : XFd "WreckShares$ToFinder" "amount" "I" 80 true 9 RX10 TX10 2 1 := ⟨(List.mem_of_getElem? (l := xCls) (i := 8) rfl), by decide, rfl, rfl, rfl, rfl, in_X10, (Or.inl rfl), by decide, by decide⟩
theorem fd_79_9_0 : XFd "WreckShares$ToFinder" "finder" "I" 79 true 9 RX10 TX10 2 0 := ⟨(List.mem_of_getElem? (l := xCls) (i := 8) rfl), by decide, rfl, rfl, rfl, rfl, in_X10, (Or.inl rfl), by decide, by decide⟩
theorem fd_82_10_0 : XFd "WreckShares$Lying" "this$0" "LWreckShares;" 82 false 10 RX11 TX11 2 1 := ⟨(List.mem_of_getElem? (l := xCls) (i := 9) rfl), by decide, rfl, rfl, rfl, rfl, in_X11, (Or.inl rfl), by decide, by decide⟩
theorem fd_81_10_0 : XFd "WreckShares$Lying" "all" "Ljava/util/BitSet;" 81 false 10 RX11 TX11 2 0 := ⟨(List.mem_of_getElem? (l := xCls) (i := 9) rfl), by decide, rfl, rfl, rfl, rfl, in_X11, (Or.inl rfl), by decide, by decide⟩
theorem fd_83_11_0 : XFd "WreckShares$Lying$1" "next" "I" 83 true 11 RX12 TX12 2 0 := ⟨(List.mem_of_getElem? (l := xCls) (i := 10) rfl), by decide, rfl, rfl, rfl, rfl, in_X12, (Or.inl rfl), by decide, by decide⟩
theorem fd_84_11_0 : XFd "WreckShares$Lying$1" "this$1" "LWreckShares$Lying;" 84 false 11 RX12 TX12 2 1 := ⟨(List.mem_of_getElem? (l := xCls) (i := 10) rfl), by decide, rfl, rfl, rfl, rfl, in_X12, (Or.inl rfl), by decide, by decide⟩
theorem fd_85_13_0 : XFd "java/util/AbstractList" "modCount" "I" 85 true 13 RJ20 TJ20 4 0 := ⟨(List.mem_of_getElem? (l := xCls) (i := 12) rfl), by decide, rfl, rfl, rfl, rfl, in_J20, (Or.inl rfl), by decide, by decide⟩
theorem fd_85_12_0 : XFd "java/util/AbstractList" "modCount" "I" 85 true 12 RJ2 TJ2 3 0 := ⟨(List.mem_of_getElem? (l := xCls) (i := 11) rfl), by decide, rfl, rfl, rfl, rfl, in_J2, (Or.inl rfl), by decide, by decide⟩
theorem fd_85_12_1 : XFd "java/util/ArrayList" "modCount" "I" 85 true 12 RJ2 TJ2 3 0 := ⟨(List.mem_of_getElem? (l := xCls) (i := 11) rfl), by decide, rfl, rfl, rfl, rfl, in_J2, (Or.inr q533), by decide, by decide⟩
theorem fd_86_12_0 : XFd "java/util/ArrayList" "elementData" "[Ljava/lang/Object;" 86 false 12 RJ2 TJ2 3 1 := ⟨(List.mem_of_getElem? (l := xCls) (i := 11) rfl), by decide, rfl, rfl, rfl, rfl, in_J2, (Or.inl rfl), by decide, by decide⟩
theorem fd_87_12_0 : XFd "java/util/ArrayList" "size" "I" 87 true 12 RJ2 TJ2 3 2 := ⟨(List.mem_of_getElem? (l := xCls) (i := 11) rfl), by decide, rfl, rfl, rfl, rfl, in_J2, (Or.inl rfl), by decide, by decide⟩
theorem fd_68_6_0 : XFd "java/lang/Throwable" "cause" "Ljava/lang/Throwable;" 68 false 6 RX7 TX7 8 0 := ⟨(List.mem_of_getElem? (l := xCls) (i := 5) rfl), by decide, rfl, rfl, rfl, rfl, in_X7, (Or.inl rfl), by decide, by decide⟩
theorem fd_69_6_0 : XFd "java/lang/Throwable" "stackTrace" "[Ljava/lang/StackTraceElement;" 69 false 6 RX7 TX7 8 1 := ⟨(List.mem_of_getElem? (l := xCls) (i := 5) rfl), by decide, rfl, rfl, rfl, rfl, in_X7, (Or.inl rfl), by decide, by decide⟩
theorem fd_70_6_0 : XFd "java/lang/Throwable" "suppressedExceptions" "Ljava/util/List;" 70 false 6 RX7 TX7 8 2 := ⟨(List.mem_of_getElem? (l := xCls) (i := 5) rfl), by decide, rfl, rfl, rfl, rfl, in_X7, (Or.inl rfl), by decide, by decide⟩
theorem fd_71_6_0 : XFd "java/lang/Throwable" "detailMessage" "Ljava/lang/String;" 71 false 6 RX7 TX7 8 3 := ⟨(List.mem_of_getElem? (l := xCls) (i := 5) rfl), by decide, rfl, rfl, rfl, rfl, in_X7, (Or.inl rfl), by decide, by decide⟩
theorem fd_112_19_0 : XFd "java/lang/AbstractStringBuilder" "count" "I" 112 true 19 RJ8 TJ8 4 3 := ⟨(List.mem_of_getElem? (l := xCls) (i := 18) rfl), by decide, rfl, rfl, rfl, rfl, in_J8, (Or.inl rfl), by decide, by decide⟩
theorem fd_109_19_0 : XFd "java/lang/AbstractStringBuilder" "value" "[B" 109 false 19 RJ8 TJ8 4 0 := ⟨(List.mem_of_getElem? (l := xCls) (i := 18) rfl), by decide, rfl, rfl, rfl, rfl, in_J8, (Or.inl rfl), by decide, by decide⟩
theorem fd_110_19_0 : XFd "java/lang/AbstractStringBuilder" "coder" "B" 110 true 19 RJ8 TJ8 4 1 := ⟨(List.mem_of_getElem? (l := xCls) (i := 18) rfl), by decide, rfl, rfl, rfl, rfl, in_J8, (Or.inl rfl), by decide, by decide⟩
theorem fd_111_19_0 : XFd "java/lang/AbstractStringBuilder" "maybeLatin1" "Z" 111 true 19 RJ8 TJ8 4 2 := ⟨(List.mem_of_getElem? (l := xCls) (i := 18) rfl), by decide, rfl, rfl, rfl, rfl, in_J8, (Or.inl rfl), by decide, by decide⟩
theorem fd_113_20_0 : XFd "java/lang/String" "value" "[B" 113 false 20 RJ9 TJ9 4 0 := ⟨(List.mem_of_getElem? (l := xCls) (i := 19) rfl), by decide, rfl, rfl, rfl, rfl, in_J9, (Or.inl rfl), by decide, by decide⟩
theorem fd_114_20_0 : XFd "java/lang/String" "coder" "B" 114 true 20 RJ9 TJ9 4 1 := ⟨(List.mem_of_getElem? (l := xCls) (i := 19) rfl), by decide, rfl, rfl, rfl, rfl, in_J9, (Or.inl rfl), by decide, by decide⟩
theorem fd_115_20_0 : XFd "java/lang/String" "hash" "I" 115 true 20 RJ9 TJ9 4 2 := ⟨(List.mem_of_getElem? (l := xCls) (i := 19) rfl), by decide, rfl, rfl, rfl, rfl, in_J9, (Or.inl rfl), by decide, by decide⟩
theorem fd_116_20_0 : XFd "java/lang/String" "hashIsZero" "Z" 116 true 20 RJ9 TJ9 4 3 := ⟨(List.mem_of_getElem? (l := xCls) (i := 19) rfl), by decide, rfl, rfl, rfl, rfl, in_J9, (Or.inl rfl), by decide, by decide⟩
theorem fd_117_21_0 : XFd "java/lang/Integer" "value" "I" 117 true 21 RJ17 TJ17 1 0 := ⟨(List.mem_of_getElem? (l := xCls) (i := 20) rfl), by decide, rfl, rfl, rfl, rfl, in_J17, (Or.inl rfl), by decide, by decide⟩
theorem fd_89_13_0 : XFd "java/util/LinkedList" "first" "Ljava/util/LinkedList$Node;" 89 false 13 RJ20 TJ20 4 2 := ⟨(List.mem_of_getElem? (l := xCls) (i := 12) rfl), by decide, rfl, rfl, rfl, rfl, in_J20, (Or.inl rfl), by decide, by decide⟩
theorem fd_92_14_0 : XFd "java/util/LinkedList$Node" "next" "Ljava/util/LinkedList$Node;" 92 false 14 RJ21 TJ21 3 1 := ⟨(List.mem_of_getElem? (l := xCls) (i := 13) rfl), by decide, rfl, rfl, rfl, rfl, in_J21, (Or.inl rfl), by decide, by decide⟩
theorem fd_91_14_0 : XFd "java/util/LinkedList$Node" "item" "Ljava/lang/Object;" 91 false 14 RJ21 TJ21 3 0 := ⟨(List.mem_of_getElem? (l := xCls) (i := 13) rfl), by decide, rfl, rfl, rfl, rfl, in_J21, (Or.inl rfl), by decide, by decide⟩
theorem fd_93_14_0 : XFd "java/util/LinkedList$Node" "prev" "Ljava/util/LinkedList$Node;" 93 false 14 RJ21 TJ21 3 2 := ⟨(List.mem_of_getElem? (l := xCls) (i := 13) rfl), by decide, rfl, rfl, rfl, rfl, in_J21, (Or.inl rfl), by decide, by decide⟩
theorem fd_90_13_0 : XFd "java/util/LinkedList" "last" "Ljava/util/LinkedList$Node;" 90 false 13 RJ20 TJ20 4 3 := ⟨(List.mem_of_getElem? (l := xCls) (i := 12) rfl), by decide, rfl, rfl, rfl, rfl, in_J20, (Or.inl rfl), by decide, by decide⟩
theorem fd_88_13_0 : XFd "java/util/LinkedList" "size" "I" 88 true 13 RJ20 TJ20 4 1 := ⟨(List.mem_of_getElem? (l := xCls) (i := 12) rfl), by decide, rfl, rfl, rfl, rfl, in_J20, (Or.inl rfl), by decide, by decide⟩
theorem fd_85_13_1 : XFd "java/util/LinkedList" "modCount" "I" 85 true 13 RJ20 TJ20 4 0 := ⟨(List.mem_of_getElem? (l := xCls) (i := 12) rfl), by decide, rfl, rfl, rfl, rfl, in_J20, (Or.inr q531), by decide, by decide⟩
theorem fd_94_15_0 : XFd "java/util/ArrayDeque" "elements" "[Ljava/lang/Object;" 94 false 15 RJ22 TJ22 3 0 := ⟨(List.mem_of_getElem? (l := xCls) (i := 14) rfl), by decide, rfl, rfl, rfl, rfl, in_J22, (Or.inl rfl), by decide, by decide⟩
theorem fd_96_15_0 : XFd "java/util/ArrayDeque" "tail" "I" 96 true 15 RJ22 TJ22 3 2 := ⟨(List.mem_of_getElem? (l := xCls) (i := 14) rfl), by decide, rfl, rfl, rfl, rfl, in_J22, (Or.inl rfl), by decide, by decide⟩
theorem fd_95_15_0 : XFd "java/util/ArrayDeque" "head" "I" 95 true 15 RJ22 TJ22 3 1 := ⟨(List.mem_of_getElem? (l := xCls) (i := 14) rfl), by decide, rfl, rfl, rfl, rfl, in_J22, (Or.inl rfl), by decide, by decide⟩
theorem fd_100_16_0 : XFd "java/util/ArrayList$Itr" "this$0" "Ljava/util/ArrayList;" 100 false 16 RJ23 TJ23 4 3 := ⟨(List.mem_of_getElem? (l := xCls) (i := 15) rfl), by decide, rfl, rfl, rfl, rfl, in_J23, (Or.inl rfl), by decide, by decide⟩
theorem fd_99_16_0 : XFd "java/util/ArrayList$Itr" "expectedModCount" "I" 99 true 16 RJ23 TJ23 4 2 := ⟨(List.mem_of_getElem? (l := xCls) (i := 15) rfl), by decide, rfl, rfl, rfl, rfl, in_J23, (Or.inl rfl), by decide, by decide⟩
theorem fd_97_16_0 : XFd "java/util/ArrayList$Itr" "cursor" "I" 97 true 16 RJ23 TJ23 4 0 := ⟨(List.mem_of_getElem? (l := xCls) (i := 15) rfl), by decide, rfl, rfl, rfl, rfl, in_J23, (Or.inl rfl), by decide, by decide⟩
theorem fd_98_16_0 : XFd "java/util/ArrayList$Itr" "lastRet" "I" 98 true 16 RJ23 TJ23 4 1 := ⟨(List.mem_of_getElem? (l := xCls) (i := 15) rfl), by decide, rfl, rfl, rfl, rfl, in_J23, (Or.inl rfl), by decide, by decide⟩
theorem fd_105_17_0 : XFd "java/util/LinkedList$ListItr" "this$0" "Ljava/util/LinkedList;" 105 false 17 RJ26 TJ26 5 4 := ⟨(List.mem_of_getElem? (l := xCls) (i := 16) rfl), by decide, rfl, rfl, rfl, rfl, in_J26, (Or.inl rfl), by decide, by decide⟩
theorem fd_104_17_0 : XFd "java/util/LinkedList$ListItr" "expectedModCount" "I" 104 true 17 RJ26 TJ26 5 3 := ⟨(List.mem_of_getElem? (l := xCls) (i := 16) rfl), by decide, rfl, rfl, rfl, rfl, in_J26, (Or.inl rfl), by decide, by decide⟩
theorem fd_103_17_0 : XFd "java/util/LinkedList$ListItr" "nextIndex" "I" 103 true 17 RJ26 TJ26 5 2 := ⟨(List.mem_of_getElem? (l := xCls) (i := 16) rfl), by decide, rfl, rfl, rfl, rfl, in_J26, (Or.inl rfl), by decide, by decide⟩
theorem fd_102_17_0 : XFd "java/util/LinkedList$ListItr" "next" "Ljava/util/LinkedList$Node;" 102 false 17 RJ26 TJ26 5 1 := ⟨(List.mem_of_getElem? (l := xCls) (i := 16) rfl), by decide, rfl, rfl, rfl, rfl, in_J26, (Or.inl rfl), by decide, by decide⟩
theorem fd_101_17_0 : XFd "java/util/LinkedList$ListItr" "lastReturned" "Ljava/util/LinkedList$Node;" 101 false 17 RJ26 TJ26 5 0 := ⟨(List.mem_of_getElem? (l := xCls) (i := 16) rfl), by decide, rfl, rfl, rfl, rfl, in_J26, (Or.inl rfl), by decide, by decide⟩
theorem fd_107_18_0 : XFd "java/util/BitSet" "wordsInUse" "I" 107 true 18 RJ29 TJ29 3 1 := ⟨(List.mem_of_getElem? (l := xCls) (i := 17) rfl), by decide, rfl, rfl, rfl, rfl, in_J29, (Or.inl rfl), by decide, by decide⟩
theorem fd_106_18_0 : XFd "java/util/BitSet" "words" "[J" 106 false 18 RJ29 TJ29 3 0 := ⟨(List.mem_of_getElem? (l := xCls) (i := 17) rfl), by decide, rfl, rfl, rfl, rfl, in_J29, (Or.inl rfl), by decide, by decide⟩
theorem fd_108_18_0 : XFd "java/util/BitSet" "sizeIsSticky" "Z" 108 true 18 RJ29 TJ29 3 2 := ⟨(List.mem_of_getElem? (l := xCls) (i := 17) rfl), by decide, rfl, rfl, rfl, rfl, in_J29, (Or.inl rfl), by decide, by decide⟩
theorem hy_0 : XyOk ⟨"WreckShares", "<init>", "()V"⟩ 0 := ⟨by decide +kernel, by decide +kernel, by decide +kernel⟩
theorem hy_1 : XyOk ⟨"WreckSharesModel", "<init>", "()V"⟩ 0 := ⟨by decide +kernel, by decide +kernel, by decide +kernel⟩
theorem hy_2 : XyOk ⟨"WreckShares", "feed", "(IIIII)I"⟩ 5 := ⟨by decide +kernel, by decide +kernel, by decide +kernel⟩
theorem hy_3 : XyOk ⟨"WreckSharesModel", "feed", "(IIIII)I"⟩ 5 := ⟨by decide +kernel, by decide +kernel, by decide +kernel⟩
theorem hy_4 : XyOk ⟨"WreckSharesLaw", "load", "(LWreckShares;I[J)I"⟩ 3 := ⟨by decide +kernel, by decide +kernel, by decide +kernel⟩
theorem hy_5 : XyOk ⟨"WreckSharesModel", "load", "(I)I"⟩ 1 := ⟨by decide +kernel, by decide +kernel, by decide +kernel⟩
theorem hy_6 : XyOk ⟨"WreckSharesModel", "thrown", "()I"⟩ 0 := ⟨by decide +kernel, by decide +kernel, by decide +kernel⟩
theorem hy_7 : XyOk ⟨"WreckShares", "errorPosition", "()I"⟩ 0 := ⟨by decide +kernel, by decide +kernel, by decide +kernel⟩
theorem hy_8 : XyOk ⟨"WreckSharesModel", "errorPosition", "()I"⟩ 0 := ⟨by decide +kernel, by decide +kernel, by decide +kernel⟩
theorem hy_9 : XyOk ⟨"WreckSharesLaw", "size", "(LWreckShares;I[J)I"⟩ 3 := ⟨by decide +kernel, by decide +kernel, by decide +kernel⟩
theorem hy_10 : XyOk ⟨"WreckSharesModel", "size", "(I)I"⟩ 1 := ⟨by decide +kernel, by decide +kernel, by decide +kernel⟩
theorem hy_11 : XyOk ⟨"WreckSharesLaw", "account", "(LWreckShares;I[J)I"⟩ 3 := ⟨by decide +kernel, by decide +kernel, by decide +kernel⟩
theorem hy_12 : XyOk ⟨"WreckSharesModel", "account", "(I)I"⟩ 1 := ⟨by decide +kernel, by decide +kernel, by decide +kernel⟩
theorem hy_13 : XyOk ⟨"WreckSharesLaw", "good", "(LWreckShares;II[J)I"⟩ 4 := ⟨by decide +kernel, by decide +kernel, by decide +kernel⟩
theorem hy_14 : XyOk ⟨"WreckSharesModel", "good", "(II)I"⟩ 2 := ⟨by decide +kernel, by decide +kernel, by decide +kernel⟩
theorem hy_15 : XyOk ⟨"WreckSharesLaw", "finder", "(LWreckShares;II[J)I"⟩ 4 := ⟨by decide +kernel, by decide +kernel, by decide +kernel⟩
theorem hy_16 : XyOk ⟨"WreckSharesModel", "finder", "(II)I"⟩ 2 := ⟨by decide +kernel, by decide +kernel, by decide +kernel⟩
theorem hy_17 : XyOk ⟨"WreckSharesLaw", "owner", "(LWreckShares;I[J)I"⟩ 3 := ⟨by decide +kernel, by decide +kernel, by decide +kernel⟩
theorem hy_18 : XyOk ⟨"WreckSharesModel", "owner", "(I)I"⟩ 1 := ⟨by decide +kernel, by decide +kernel, by decide +kernel⟩
theorem hy_19 : XyOk ⟨"WreckSharesLaw", "hand", "(LWreckShares;IIZ[J)I"⟩ 5 := ⟨by decide +kernel, by decide +kernel, by decide +kernel⟩
theorem hy_20 : XyOk ⟨"WreckSharesModel", "hand", "(IIZ)I"⟩ 3 := ⟨by decide +kernel, by decide +kernel, by decide +kernel⟩
theorem hy_21 : XyOk ⟨"WreckSharesLaw", "count", "(LWreckShares;II[J)I"⟩ 4 := ⟨by decide +kernel, by decide +kernel, by decide +kernel⟩
theorem hy_22 : XyOk ⟨"WreckSharesModel", "count", "(II)I"⟩ 2 := ⟨by decide +kernel, by decide +kernel, by decide +kernel⟩
theorem hy_23 : XyOk ⟨"WreckSharesLaw", "marked", "(LWreckShares;II[J)I"⟩ 4 := ⟨by decide +kernel, by decide +kernel, by decide +kernel⟩
theorem hy_24 : XyOk ⟨"WreckSharesModel", "marked", "(II)I"⟩ 2 := ⟨by decide +kernel, by decide +kernel, by decide +kernel⟩
theorem hy_25 : XyOk ⟨"WreckShares", "ranked", "(I)I"⟩ 1 := ⟨by decide +kernel, by decide +kernel, by decide +kernel⟩
theorem hy_26 : XyOk ⟨"WreckSharesModel", "ranked", "(I)I"⟩ 1 := ⟨by decide +kernel, by decide +kernel, by decide +kernel⟩
theorem hy_27 : XyOk ⟨"WreckSharesLaw", "earned", "(LWreckShares;I[J)I"⟩ 3 := ⟨by decide +kernel, by decide +kernel, by decide +kernel⟩
theorem hy_28 : XyOk ⟨"WreckSharesModel", "earned", "(I)I"⟩ 1 := ⟨by decide +kernel, by decide +kernel, by decide +kernel⟩
theorem hy_29 : XyOk ⟨"WreckShares", "richest", "()I"⟩ 0 := ⟨by decide +kernel, by decide +kernel, by decide +kernel⟩
theorem hy_30 : XyOk ⟨"WreckSharesModel", "richest", "()I"⟩ 0 := ⟨by decide +kernel, by decide +kernel, by decide +kernel⟩
theorem hy_31 : XyOk ⟨"WreckShares", "gap", "()I"⟩ 0 := ⟨by decide +kernel, by decide +kernel, by decide +kernel⟩
theorem hy_32 : XyOk ⟨"WreckSharesModel", "gap", "()I"⟩ 0 := ⟨by decide +kernel, by decide +kernel, by decide +kernel⟩
theorem hy_33 : XyOk ⟨"WreckSharesLaw", "level", "(LWreckShares;I[J)I"⟩ 3 := ⟨by decide +kernel, by decide +kernel, by decide +kernel⟩
theorem hy_34 : XyOk ⟨"WreckSharesModel", "level", "(I)I"⟩ 1 := ⟨by decide +kernel, by decide +kernel, by decide +kernel⟩
theorem hy_35 : XyOk ⟨"WreckShares", "turnIn", "(Z)I"⟩ 1 := ⟨by decide +kernel, by decide +kernel, by decide +kernel⟩
theorem hy_36 : XyOk ⟨"WreckSharesModel", "turnIn", "(Z)I"⟩ 1 := ⟨by decide +kernel, by decide +kernel, by decide +kernel⟩
theorem hy_37 : XyOk ⟨"WreckSharesLaw", "dryIn", "(LWreckShares;I[J)I"⟩ 3 := ⟨by decide +kernel, by decide +kernel, by decide +kernel⟩
theorem hy_38 : XyOk ⟨"WreckSharesModel", "dryIn", "(I)I"⟩ 1 := ⟨by decide +kernel, by decide +kernel, by decide +kernel⟩
theorem hy_39 : XyOk ⟨"WreckSharesLaw", "dryTicks", "(LWreckShares;I[J)I"⟩ 3 := ⟨by decide +kernel, by decide +kernel, by decide +kernel⟩
theorem hy_40 : XyOk ⟨"WreckSharesModel", "dryTicks", "(I)I"⟩ 1 := ⟨by decide +kernel, by decide +kernel, by decide +kernel⟩
theorem hy_41 : XyOk ⟨"WreckSharesLaw", "lostIn", "(LWreckShares;I[J)I"⟩ 3 := ⟨by decide +kernel, by decide +kernel, by decide +kernel⟩
theorem hy_42 : XyOk ⟨"WreckSharesModel", "lostIn", "(I)I"⟩ 1 := ⟨by decide +kernel, by decide +kernel, by decide +kernel⟩
theorem hy_43 : XyOk ⟨"WreckShares", "nextLost", "()I"⟩ 0 := ⟨by decide +kernel, by decide +kernel, by decide +kernel⟩
theorem hy_44 : XyOk ⟨"WreckSharesModel", "nextLost", "()I"⟩ 0 := ⟨by decide +kernel, by decide +kernel, by decide +kernel⟩
theorem hy_45 : XyOk ⟨"WreckSharesLaw", "lossIn", "(LWreckShares;I[J)I"⟩ 3 := ⟨by decide +kernel, by decide +kernel, by decide +kernel⟩
theorem hy_46 : XyOk ⟨"WreckSharesModel", "lossIn", "(I)I"⟩ 1 := ⟨by decide +kernel, by decide +kernel, by decide +kernel⟩
theorem hy_47 : XyOk ⟨"WreckSharesLaw", "share", "(LWreckShares;II[J)I"⟩ 4 := ⟨by decide +kernel, by decide +kernel, by decide +kernel⟩
theorem hy_48 : XyOk ⟨"WreckSharesModel", "share", "(II)I"⟩ 2 := ⟨by decide +kernel, by decide +kernel, by decide +kernel⟩
theorem hy_49 : XyOk ⟨"WreckSharesLaw", "crownShare", "(LWreckShares;I[J)I"⟩ 3 := ⟨by decide +kernel, by decide +kernel, by decide +kernel⟩
theorem hy_50 : XyOk ⟨"WreckSharesModel", "crownShare", "(I)I"⟩ 1 := ⟨by decide +kernel, by decide +kernel, by decide +kernel⟩
theorem hy_51 : XyOk ⟨"WreckSharesLaw", "ownerShare", "(LWreckShares;I[J)I"⟩ 3 := ⟨by decide +kernel, by decide +kernel, by decide +kernel⟩
theorem hy_52 : XyOk ⟨"WreckSharesModel", "ownerShare", "(I)I"⟩ 1 := ⟨by decide +kernel, by decide +kernel, by decide +kernel⟩
theorem hy_53 : XyOk ⟨"WreckSharesLaw", "unequal", "(LWreckShares;I[J)I"⟩ 3 := ⟨by decide +kernel, by decide +kernel, by decide +kernel⟩
theorem hy_54 : XyOk ⟨"WreckSharesModel", "unequal", "(I)I"⟩ 1 := ⟨by decide +kernel, by decide +kernel, by decide +kernel⟩
theorem hy_55 : XyOk ⟨"WreckSharesLaw", "claimTime", "(LWreckShares;I[J)I"⟩ 3 := ⟨by decide +kernel, by decide +kernel, by decide +kernel⟩
theorem hy_56 : XyOk ⟨"WreckSharesModel", "claimTime", "(I)I"⟩ 1 := ⟨by decide +kernel, by decide +kernel, by decide +kernel⟩
theorem hy_57 : XyOk ⟨"WreckShares", "bestClaim", "()I"⟩ 0 := ⟨by decide +kernel, by decide +kernel, by decide +kernel⟩
theorem hy_58 : XyOk ⟨"WreckSharesModel", "bestClaim", "()I"⟩ 0 := ⟨by decide +kernel, by decide +kernel, by decide +kernel⟩
theorem hy_59 : XyOk ⟨"WreckShares", "firstDue", "()I"⟩ 0 := ⟨by decide +kernel, by decide +kernel, by decide +kernel⟩
theorem hy_60 : XyOk ⟨"WreckSharesModel", "firstDue", "()I"⟩ 0 := ⟨by decide +kernel, by decide +kernel, by decide +kernel⟩
theorem hy_61 : XyOk ⟨"WreckSharesLaw", "claimCosts", "(LWreckShares;I[J)I"⟩ 3 := ⟨by decide +kernel, by decide +kernel, by decide +kernel⟩
theorem hy_62 : XyOk ⟨"WreckSharesModel", "claimCosts", "(I)I"⟩ 1 := ⟨by decide +kernel, by decide +kernel, by decide +kernel⟩
theorem hy_63 : XyOk ⟨"WreckSharesLaw", "purseIf", "(LWreckShares;I[J)I"⟩ 3 := ⟨by decide +kernel, by decide +kernel, by decide +kernel⟩
theorem hy_64 : XyOk ⟨"WreckSharesModel", "purseIf", "(I)I"⟩ 1 := ⟨by decide +kernel, by decide +kernel, by decide +kernel⟩
theorem hy_65 : XyOk ⟨"WreckSharesLaw", "why", "(LWreckShares;I[J)I"⟩ 3 := ⟨by decide +kernel, by decide +kernel, by decide +kernel⟩
theorem hy_66 : XyOk ⟨"WreckSharesModel", "why", "(I)I"⟩ 1 := ⟨by decide +kernel, by decide +kernel, by decide +kernel⟩
theorem hy_67 : XyOk ⟨"WreckSharesLaw", "cause", "(LWreckShares;I[J)I"⟩ 3 := ⟨by decide +kernel, by decide +kernel, by decide +kernel⟩
theorem hy_68 : XyOk ⟨"WreckSharesModel", "cause", "(I)I"⟩ 1 := ⟨by decide +kernel, by decide +kernel, by decide +kernel⟩
theorem hy_69 : XyOk ⟨"WreckSharesLaw", "whyDivide", "(LWreckShares;I[J)I"⟩ 3 := ⟨by decide +kernel, by decide +kernel, by decide +kernel⟩
theorem hy_70 : XyOk ⟨"WreckSharesModel", "whyDivide", "(I)I"⟩ 1 := ⟨by decide +kernel, by decide +kernel, by decide +kernel⟩
theorem hy_71 : XyOk ⟨"WreckShares", "bestHaul", "()I"⟩ 0 := ⟨by decide +kernel, by decide +kernel, by decide +kernel⟩
theorem hy_72 : XyOk ⟨"WreckSharesModel", "bestHaul", "()I"⟩ 0 := ⟨by decide +kernel, by decide +kernel, by decide +kernel⟩
theorem hy_73 : XyOk ⟨"WreckShares", "savedShare", "()F"⟩ 0 := ⟨by decide +kernel, by decide +kernel, by decide +kernel⟩
theorem hy_74 : XyOk ⟨"WreckSharesModel", "savedShare", "()F"⟩ 0 := ⟨by decide +kernel, by decide +kernel, by decide +kernel⟩
theorem hy_75 : XyOk ⟨"WreckShares", "crownPart", "()D"⟩ 0 := ⟨by decide +kernel, by decide +kernel, by decide +kernel⟩
theorem hy_76 : XyOk ⟨"WreckSharesModel", "crownPart", "()D"⟩ 0 := ⟨by decide +kernel, by decide +kernel, by decide +kernel⟩
theorem hy_77 : XyOk ⟨"WreckSharesLaw", "rope", "(LWreckShares;II[J)I"⟩ 4 := ⟨by decide +kernel, by decide +kernel, by decide +kernel⟩
theorem hy_78 : XyOk ⟨"WreckSharesModel", "rope", "(II)I"⟩ 2 := ⟨by decide +kernel, by decide +kernel, by decide +kernel⟩
theorem hy_79 : XyOk ⟨"WreckSharesLaw", "off", "(LWreckShares;I[J)I"⟩ 3 := ⟨by decide +kernel, by decide +kernel, by decide +kernel⟩
theorem hy_80 : XyOk ⟨"WreckSharesModel", "off", "(I)I"⟩ 1 := ⟨by decide +kernel, by decide +kernel, by decide +kernel⟩
theorem hy_81 : XyOk ⟨"WreckShares", "offAll", "()I"⟩ 0 := ⟨by decide +kernel, by decide +kernel, by decide +kernel⟩
theorem hy_82 : XyOk ⟨"WreckSharesModel", "offAll", "()I"⟩ 0 := ⟨by decide +kernel, by decide +kernel, by decide +kernel⟩
theorem hy_83 : XyOk ⟨"WreckSharesLaw", "pay", "(LWreckShares;III[J)I"⟩ 5 := ⟨by decide +kernel, by decide +kernel, by decide +kernel⟩
theorem hy_84 : XyOk ⟨"WreckSharesModel", "pay", "(III)I"⟩ 3 := ⟨by decide +kernel, by decide +kernel, by decide +kernel⟩
theorem hy_85 : XyOk ⟨"WreckSharesLaw", "haul", "(LWreckShares;I[J)I"⟩ 3 := ⟨by decide +kernel, by decide +kernel, by decide +kernel⟩
theorem hy_86 : XyOk ⟨"WreckSharesModel", "haul", "(I)I"⟩ 1 := ⟨by decide +kernel, by decide +kernel, by decide +kernel⟩
theorem hy_87 : XyOk ⟨"WreckSharesLaw", "claim", "(LWreckShares;I[J)I"⟩ 3 := ⟨by decide +kernel, by decide +kernel, by decide +kernel⟩
theorem hy_88 : XyOk ⟨"WreckSharesModel", "claim", "(I)I"⟩ 1 := ⟨by decide +kernel, by decide +kernel, by decide +kernel⟩
theorem hy_89 : XyOk ⟨"WreckSharesLaw", "divide", "(LWreckShares;I[J)I"⟩ 3 := ⟨by decide +kernel, by decide +kernel, by decide +kernel⟩
theorem hy_90 : XyOk ⟨"WreckSharesModel", "divide", "(I)I"⟩ 1 := ⟨by decide +kernel, by decide +kernel, by decide +kernel⟩
theorem hy_91 : XyOk ⟨"WreckShares", "divideAll", "()I"⟩ 0 := ⟨by decide +kernel, by decide +kernel, by decide +kernel⟩
theorem hy_92 : XyOk ⟨"WreckSharesModel", "divideAll", "()I"⟩ 0 := ⟨by decide +kernel, by decide +kernel, by decide +kernel⟩
theorem hy_93 : XyOk ⟨"WreckSharesLaw", "ticks", "(LWreckShares;I[J)I"⟩ 3 := ⟨by decide +kernel, by decide +kernel, by decide +kernel⟩
theorem hy_94 : XyOk ⟨"WreckSharesModel", "ticks", "(I)I"⟩ 1 := ⟨by decide +kernel, by decide +kernel, by decide +kernel⟩
theorem hy_95 : XyOk ⟨"WreckSharesLaw", "play", "(LWreckShares;I[J)I"⟩ 3 := ⟨by decide +kernel, by decide +kernel, by decide +kernel⟩
theorem hy_96 : XyOk ⟨"WreckSharesModel", "play", "(I)I"⟩ 1 := ⟨by decide +kernel, by decide +kernel, by decide +kernel⟩
theorem hy_97 : XyOk ⟨"WreckSharesLaw", "format", "(LWreckShares;I[J)I"⟩ 3 := ⟨by decide +kernel, by decide +kernel, by decide +kernel⟩
theorem hy_98 : XyOk ⟨"WreckSharesModel", "format", "(I)I"⟩ 1 := ⟨by decide +kernel, by decide +kernel, by decide +kernel⟩
theorem hy_99 : XyOk ⟨"WreckShares", "formattedByte", "(I)I"⟩ 1 := ⟨by decide +kernel, by decide +kernel, by decide +kernel⟩
theorem hy_100 : XyOk ⟨"WreckSharesModel", "formattedByte", "(I)I"⟩ 1 := ⟨by decide +kernel, by decide +kernel, by decide +kernel⟩
theorem hy_101 : XyOk ⟨"WreckShares", "undoCount", "()I"⟩ 0 := ⟨by decide +kernel, by decide +kernel, by decide +kernel⟩
theorem hy_102 : XyOk ⟨"WreckSharesModel", "undoCount", "()I"⟩ 0 := ⟨by decide +kernel, by decide +kernel, by decide +kernel⟩
theorem hy_103 : XyOk ⟨"WreckShares", "undo", "()I"⟩ 0 := ⟨by decide +kernel, by decide +kernel, by decide +kernel⟩
theorem hy_104 : XyOk ⟨"WreckSharesModel", "undo", "()I"⟩ 0 := ⟨by decide +kernel, by decide +kernel, by decide +kernel⟩
theorem hy_105 : XyOk ⟨"WreckShares", "saveSnapshot", "()V"⟩ 0 := ⟨by decide +kernel, by decide +kernel, by decide +kernel⟩
theorem hy_106 : XyOk ⟨"WreckSharesModel", "saveSnapshot", "()V"⟩ 0 := ⟨by decide +kernel, by decide +kernel, by decide +kernel⟩
theorem hy_107 : XyOk ⟨"WreckShares", "restoreSnapshot", "()Z"⟩ 0 := ⟨by decide +kernel, by decide +kernel, by decide +kernel⟩
theorem hy_108 : XyOk ⟨"WreckSharesModel", "restoreSnapshot", "()Z"⟩ 0 := ⟨by decide +kernel, by decide +kernel, by decide +kernel⟩
theorem hy_109 : XyOk ⟨"WreckShares", "account", "(I)I"⟩ 1 := ⟨by decide +kernel, by decide +kernel, by decide +kernel⟩
theorem hy_110 : XyOk ⟨"WreckShares", "cause", "(I)I"⟩ 1 := ⟨by decide +kernel, by decide +kernel, by decide +kernel⟩
theorem hy_111 : XyOk ⟨"WreckShares", "claim", "(I)I"⟩ 1 := ⟨by decide +kernel, by decide +kernel, by decide +kernel⟩
theorem hy_112 : XyOk ⟨"WreckShares", "claimCosts", "(I)I"⟩ 1 := ⟨by decide +kernel, by decide +kernel, by decide +kernel⟩
theorem hy_113 : XyOk ⟨"WreckShares", "claimTime", "(I)I"⟩ 1 := ⟨by decide +kernel, by decide +kernel, by decide +kernel⟩
theorem hy_114 : XyOk ⟨"WreckShares", "count", "(II)I"⟩ 2 := ⟨by decide +kernel, by decide +kernel, by decide +kernel⟩
theorem hy_115 : XyOk ⟨"WreckShares", "crownShare", "(I)I"⟩ 1 := ⟨by decide +kernel, by decide +kernel, by decide +kernel⟩
theorem hy_116 : XyOk ⟨"WreckShares", "divide", "(I)I"⟩ 1 := ⟨by decide +kernel, by decide +kernel, by decide +kernel⟩
theorem hy_117 : XyOk ⟨"WreckShares", "dryIn", "(I)I"⟩ 1 := ⟨by decide +kernel, by decide +kernel, by decide +kernel⟩
theorem hy_118 : XyOk ⟨"WreckShares", "dryTicks", "(I)I"⟩ 1 := ⟨by decide +kernel, by decide +kernel, by decide +kernel⟩
theorem hy_119 : XyOk ⟨"WreckShares", "earned", "(I)I"⟩ 1 := ⟨by decide +kernel, by decide +kernel, by decide +kernel⟩
theorem hy_120 : XyOk ⟨"WreckShares", "finder", "(II)I"⟩ 2 := ⟨by decide +kernel, by decide +kernel, by decide +kernel⟩
theorem hy_121 : XyOk ⟨"WreckShares", "format", "(I)I"⟩ 1 := ⟨by decide +kernel, by decide +kernel, by decide +kernel⟩
theorem hy_122 : XyOk ⟨"WreckShares", "good", "(II)I"⟩ 2 := ⟨by decide +kernel, by decide +kernel, by decide +kernel⟩
theorem hy_123 : XyOk ⟨"WreckShares", "hand", "(IIZ)I"⟩ 3 := ⟨by decide +kernel, by decide +kernel, by decide +kernel⟩
theorem hy_124 : XyOk ⟨"WreckShares", "haul", "(I)I"⟩ 1 := ⟨by decide +kernel, by decide +kernel, by decide +kernel⟩
theorem hy_125 : XyOk ⟨"WreckShares", "level", "(I)I"⟩ 1 := ⟨by decide +kernel, by decide +kernel, by decide +kernel⟩
theorem hy_126 : XyOk ⟨"WreckShares", "load", "(I)I"⟩ 1 := ⟨by decide +kernel, by decide +kernel, by decide +kernel⟩
theorem hy_127 : XyOk ⟨"WreckShares", "lossIn", "(I)I"⟩ 1 := ⟨by decide +kernel, by decide +kernel, by decide +kernel⟩
theorem hy_128 : XyOk ⟨"WreckShares", "lostIn", "(I)I"⟩ 1 := ⟨by decide +kernel, by decide +kernel, by decide +kernel⟩
theorem hy_129 : XyOk ⟨"WreckShares", "marked", "(II)I"⟩ 2 := ⟨by decide +kernel, by decide +kernel, by decide +kernel⟩
theorem hy_130 : XyOk ⟨"WreckShares", "off", "(I)I"⟩ 1 := ⟨by decide +kernel, by decide +kernel, by decide +kernel⟩
theorem hy_131 : XyOk ⟨"WreckShares", "owner", "(I)I"⟩ 1 := ⟨by decide +kernel, by decide +kernel, by decide +kernel⟩
theorem hy_132 : XyOk ⟨"WreckShares", "ownerShare", "(I)I"⟩ 1 := ⟨by decide +kernel, by decide +kernel, by decide +kernel⟩
theorem hy_133 : XyOk ⟨"WreckShares", "pay", "(III)I"⟩ 3 := ⟨by decide +kernel, by decide +kernel, by decide +kernel⟩
theorem hy_134 : XyOk ⟨"WreckShares", "play", "(I)I"⟩ 1 := ⟨by decide +kernel, by decide +kernel, by decide +kernel⟩
theorem hy_135 : XyOk ⟨"WreckShares", "purseIf", "(I)I"⟩ 1 := ⟨by decide +kernel, by decide +kernel, by decide +kernel⟩
theorem hy_136 : XyOk ⟨"WreckShares", "rope", "(II)I"⟩ 2 := ⟨by decide +kernel, by decide +kernel, by decide +kernel⟩
theorem hy_137 : XyOk ⟨"WreckShares", "share", "(II)I"⟩ 2 := ⟨by decide +kernel, by decide +kernel, by decide +kernel⟩
theorem hy_138 : XyOk ⟨"WreckShares", "size", "(I)I"⟩ 1 := ⟨by decide +kernel, by decide +kernel, by decide +kernel⟩
theorem hy_139 : XyOk ⟨"WreckShares", "ticks", "(I)I"⟩ 1 := ⟨by decide +kernel, by decide +kernel, by decide +kernel⟩
theorem hy_140 : XyOk ⟨"WreckShares", "unequal", "(I)I"⟩ 1 := ⟨by decide +kernel, by decide +kernel, by decide +kernel⟩
theorem hy_141 : XyOk ⟨"WreckShares", "why", "(I)I"⟩ 1 := ⟨by decide +kernel, by decide +kernel, by decide +kernel⟩
theorem hy_142 : XyOk ⟨"WreckShares", "whyDivide", "(I)I"⟩ 1 := ⟨by decide +kernel, by decide +kernel, by decide +kernel⟩
theorem hy_143 : XyOk ⟨"WreckShares", "isIn", "(III)Z"⟩ 3 := ⟨by decide +kernel, by decide +kernel, by decide +kernel⟩
theorem hy_144 : XyOk ⟨"WreckShares", "requireArgument", "(Z)V"⟩ 1 := ⟨by decide +kernel, by decide +kernel, by decide +kernel⟩
theorem hy_145 : XyOk ⟨"java/util/List", "iterator", "()Ljava/util/Iterator;"⟩ 0 := ⟨by decide +kernel, by decide +kernel, by decide +kernel⟩
theorem hy_146 : XyOk ⟨"java/util/Iterator", "hasNext", "()Z"⟩ 0 := ⟨by decide +kernel, by decide +kernel, by decide +kernel⟩
theorem hy_147 : XyOk ⟨"java/util/Iterator", "next", "()Ljava/lang/Object;"⟩ 0 := ⟨by decide +kernel, by decide +kernel, by decide +kernel⟩
theorem hy_148 : XyOk ⟨"WreckShares", "isClaimable", "(LWreckShares$Good;)Z"⟩ 1 := ⟨by decide +kernel, by decide +kernel, by decide +kernel⟩
theorem hy_149 : XyOk ⟨"java/lang/Math", "max", "(II)I"⟩ 2 := ⟨by decide +kernel, by decide +kernel, by decide +kernel⟩
theorem hy_150 : XyOk ⟨"WreckShares$Shore", "freeFinders", "()I"⟩ 0 := ⟨by decide +kernel, by decide +kernel, by decide +kernel⟩
theorem hy_151 : XyOk ⟨"WreckShares$Lying", "<init>", "(LWreckShares;)V"⟩ 1 := ⟨by decide +kernel, by decide +kernel, by decide +kernel⟩
theorem hy_152 : XyOk ⟨"WreckShares$Lying", "iterator", "()Ljava/util/Iterator;"⟩ 0 := ⟨by decide +kernel, by decide +kernel, by decide +kernel⟩
theorem hy_153 : XyOk ⟨"WreckShares$Shore", "isDry", "(LWreckShares$Good;I)Z"⟩ 2 := ⟨by decide +kernel, by decide +kernel, by decide +kernel⟩
theorem hy_154 : XyOk ⟨"java/util/LinkedList", "size", "()I"⟩ 0 := ⟨by decide +kernel, by decide +kernel, by decide +kernel⟩
theorem hy_155 : XyOk ⟨"WreckShares", "goodAt", "(I)LWreckShares$Good;"⟩ 1 := ⟨by decide +kernel, by decide +kernel, by decide +kernel⟩
theorem hy_156 : XyOk ⟨"WreckShares$Shore", "refusal", "(LWreckShares$Good;)I"⟩ 1 := ⟨by decide +kernel, by decide +kernel, by decide +kernel⟩
theorem hy_157 : XyOk ⟨"WreckShares$Shore", "dryIn", "(LWreckShares$Good;)I"⟩ 1 := ⟨by decide +kernel, by decide +kernel, by decide +kernel⟩
theorem hy_158 : XyOk ⟨"WreckShares", "claiming", "(I)LWreckShares$Deed;"⟩ 1 := ⟨by decide +kernel, by decide +kernel, by decide +kernel⟩
theorem hy_159 : XyOk ⟨"WreckShares", "done", "(LWreckShares$Deed;)I"⟩ 1 := ⟨by decide +kernel, by decide +kernel, by decide +kernel⟩
theorem hy_160 : XyOk ⟨"WreckShares$Good", "hands", "()[I"⟩ 0 := ⟨by decide +kernel, by decide +kernel, by decide +kernel⟩
theorem hy_161 : XyOk ⟨"WreckShares$Good", "rest", "(Z)I"⟩ 1 := ⟨by decide +kernel, by decide +kernel, by decide +kernel⟩
theorem hy_162 : XyOk ⟨"WreckShares$Kind", "values", "()[LWreckShares$Kind;"⟩ 0 := ⟨by decide +kernel, by decide +kernel, by decide +kernel⟩
theorem hy_163 : XyOk ⟨"WreckShares$Kind", "of", "(I)LWreckShares$Kind;"⟩ 1 := ⟨by decide +kernel, by decide +kernel, by decide +kernel⟩
theorem hy_164 : XyOk ⟨"WreckShares", "asInt", "(Z)I"⟩ 1 := ⟨by decide +kernel, by decide +kernel, by decide +kernel⟩
theorem hy_165 : XyOk ⟨"WreckShares", "has", "([II)Z"⟩ 2 := ⟨by decide +kernel, by decide +kernel, by decide +kernel⟩
theorem hy_166 : XyOk ⟨"WreckShares$Good", "sum", "(LWreckShares$Rule;)I"⟩ 1 := ⟨by decide +kernel, by decide +kernel, by decide +kernel⟩
theorem hy_167 : XyOk ⟨"WreckShares", "dividing", "(I)LWreckShares$Deed;"⟩ 1 := ⟨by decide +kernel, by decide +kernel, by decide +kernel⟩
theorem hy_168 : XyOk ⟨"WreckShares", "dividingAll", "()LWreckShares$Deed;"⟩ 0 := ⟨by decide +kernel, by decide +kernel, by decide +kernel⟩
theorem hy_169 : XyOk ⟨"WreckShares$Shore", "copy", "()LWreckShares$Shore;"⟩ 0 := ⟨by decide +kernel, by decide +kernel, by decide +kernel⟩
theorem hy_170 : XyOk ⟨"WreckShares", "keeps", "(LWreckShares$Shore;)V"⟩ 1 := ⟨by decide +kernel, by decide +kernel, by decide +kernel⟩
theorem hy_171 : XyOk ⟨"WreckShares$Shore", "wetTicks", "(LWreckShares$Good;)I"⟩ 1 := ⟨by decide +kernel, by decide +kernel, by decide +kernel⟩
theorem hy_172 : XyOk ⟨"WreckShares", "requireFinder", "(I)V"⟩ 1 := ⟨by decide +kernel, by decide +kernel, by decide +kernel⟩
theorem hy_173 : XyOk ⟨"WreckShares", "shareOf", "(LWreckShares$Good;I)I"⟩ 2 := ⟨by decide +kernel, by decide +kernel, by decide +kernel⟩
theorem hy_174 : XyOk ⟨"WreckShares", "append", "(I)V"⟩ 1 := ⟨by decide +kernel, by decide +kernel, by decide +kernel⟩
theorem hy_175 : XyOk ⟨"WreckShares$Shore", "ropeOf", "(I)LWreckShares$Good;"⟩ 1 := ⟨by decide +kernel, by decide +kernel, by decide +kernel⟩
theorem hy_176 : XyOk ⟨"java/lang/Integer", "valueOf", "(I)Ljava/lang/Integer;"⟩ 1 := ⟨by decide +kernel, by decide +kernel, by decide +kernel⟩
theorem hy_177 : XyOk ⟨"java/util/LinkedList", "indexOf", "(Ljava/lang/Object;)I"⟩ 1 := ⟨by decide +kernel, by decide +kernel, by decide +kernel⟩
theorem hy_178 : XyOk ⟨"WreckShares", "crewsWith", "(I)I"⟩ 1 := ⟨by decide +kernel, by decide +kernel, by decide +kernel⟩
theorem hy_179 : XyOk ⟨"java/lang/StringBuilder", "<init>", "()V"⟩ 0 := ⟨by decide +kernel, by decide +kernel, by decide +kernel⟩
theorem hy_180 : XyOk ⟨"java/lang/Enum", "ordinal", "()I"⟩ 0 := ⟨by decide +kernel, by decide +kernel, by decide +kernel⟩
theorem hy_181 : XyOk ⟨"java/lang/String", "charAt", "(I)C"⟩ 1 := ⟨by decide +kernel, by decide +kernel, by decide +kernel⟩
theorem hy_182 : XyOk ⟨"java/lang/StringBuilder", "append", "(C)Ljava/lang/StringBuilder;"⟩ 1 := ⟨by decide +kernel, by decide +kernel, by decide +kernel⟩
theorem hy_183 : XyOk ⟨"java/lang/StringBuilder", "append", "(I)Ljava/lang/StringBuilder;"⟩ 1 := ⟨by decide +kernel, by decide +kernel, by decide +kernel⟩
theorem hy_184 : XyOk ⟨"java/lang/StringBuilder", "toString", "()Ljava/lang/String;"⟩ 0 := ⟨by decide +kernel, by decide +kernel, by decide +kernel⟩
theorem hy_185 : XyOk ⟨"java/lang/String", "length", "()I"⟩ 0 := ⟨by decide +kernel, by decide +kernel, by decide +kernel⟩
theorem hy_186 : XyOk ⟨"java/util/List", "size", "()I"⟩ 0 := ⟨by decide +kernel, by decide +kernel, by decide +kernel⟩
theorem hy_187 : XyOk ⟨"WreckShares", "requireElement", "(Z)V"⟩ 1 := ⟨by decide +kernel, by decide +kernel, by decide +kernel⟩
theorem hy_188 : XyOk ⟨"WreckShares$Shore", "good", "(I)LWreckShares$Good;"⟩ 1 := ⟨by decide +kernel, by decide +kernel, by decide +kernel⟩
theorem hy_189 : XyOk ⟨"java/util/LinkedList", "get", "(I)Ljava/lang/Object;"⟩ 1 := ⟨by decide +kernel, by decide +kernel, by decide +kernel⟩
theorem hy_190 : XyOk ⟨"java/lang/Integer", "intValue", "()I"⟩ 0 := ⟨by decide +kernel, by decide +kernel, by decide +kernel⟩
theorem hy_191 : XyOk ⟨"WreckShares", "hauling", "(I)LWreckShares$Deed;"⟩ 1 := ⟨by decide +kernel, by decide +kernel, by decide +kernel⟩
theorem hy_192 : XyOk ⟨"WreckShares", "plain", "()LWreckShares$Shore;"⟩ 0 := ⟨by decide +kernel, by decide +kernel, by decide +kernel⟩
theorem hy_193 : XyOk ⟨"java/util/ArrayDeque", "<init>", "()V"⟩ 0 := ⟨by decide +kernel, by decide +kernel, by decide +kernel⟩
theorem hy_194 : XyOk ⟨"java/util/ArrayDeque", "size", "()I"⟩ 0 := ⟨by decide +kernel, by decide +kernel, by decide +kernel⟩
theorem hy_195 : XyOk ⟨"java/util/ArrayDeque", "removeFirst", "()Ljava/lang/Object;"⟩ 0 := ⟨by decide +kernel, by decide +kernel, by decide +kernel⟩
theorem hy_196 : XyOk ⟨"java/util/ArrayDeque", "addLast", "(Ljava/lang/Object;)V"⟩ 1 := ⟨by decide +kernel, by decide +kernel, by decide +kernel⟩
theorem hy_197 : XyOk ⟨"WreckShares$Shore", "claims", "(I)I"⟩ 1 := ⟨by decide +kernel, by decide +kernel, by decide +kernel⟩
theorem hy_198 : XyOk ⟨"WreckShares$Shore", "dividesAll", "()I"⟩ 0 := ⟨by decide +kernel, by decide +kernel, by decide +kernel⟩
theorem hy_199 : XyOk ⟨"WreckShares", "isGood", "(LWreckShares$Shore;I)Z"⟩ 2 := ⟨by decide +kernel, by decide +kernel, by decide +kernel⟩
theorem hy_200 : XyOk ⟨"WreckShares$Shore", "divides", "(LWreckShares$Good;)I"⟩ 1 := ⟨by decide +kernel, by decide +kernel, by decide +kernel⟩
theorem hy_201 : XyOk ⟨"WreckShares$Shore", "hauls", "(LWreckShares$Good;)I"⟩ 1 := ⟨by decide +kernel, by decide +kernel, by decide +kernel⟩
theorem hy_202 : XyOk ⟨"WreckShares$Shore", "letsAll", "()I"⟩ 0 := ⟨by decide +kernel, by decide +kernel, by decide +kernel⟩
theorem hy_203 : XyOk ⟨"WreckShares$Shore", "lets", "(I)I"⟩ 1 := ⟨by decide +kernel, by decide +kernel, by decide +kernel⟩
theorem hy_204 : XyOk ⟨"WreckShares$Shore", "passes", "(I)I"⟩ 1 := ⟨by decide +kernel, by decide +kernel, by decide +kernel⟩
theorem hy_205 : XyOk ⟨"WreckShares$Shore", "pays", "(III)I"⟩ 3 := ⟨by decide +kernel, by decide +kernel, by decide +kernel⟩
theorem hy_206 : XyOk ⟨"WreckShares$Shore", "ropes", "(ILWreckShares$Good;)I"⟩ 2 := ⟨by decide +kernel, by decide +kernel, by decide +kernel⟩
theorem hy_207 : XyOk ⟨"WreckShares$ToFinder", "finder", "()I"⟩ 0 := ⟨by decide +kernel, by decide +kernel, by decide +kernel⟩
theorem hy_208 : XyOk ⟨"WreckShares$Shore", "level", "(I)I"⟩ 1 := ⟨by decide +kernel, by decide +kernel, by decide +kernel⟩
theorem hy_209 : XyOk ⟨"WreckShares", "reading", "(I)LWreckShares$Parser;"⟩ 1 := ⟨by decide +kernel, by decide +kernel, by decide +kernel⟩
theorem hy_210 : XyOk ⟨"WreckShares$Parser", "text", "()LWreckShares$Shore;"⟩ 0 := ⟨by decide +kernel, by decide +kernel, by decide +kernel⟩
theorem hy_211 : XyOk ⟨"WreckShares", "failed", "(LWreckShares$TextError;)I"⟩ 1 := ⟨by decide +kernel, by decide +kernel, by decide +kernel⟩
theorem hy_212 : XyOk ⟨"java/util/ArrayDeque", "clear", "()V"⟩ 0 := ⟨by decide +kernel, by decide +kernel, by decide +kernel⟩
theorem hy_213 : XyOk ⟨"WreckShares$Shore", "lostIn", "(LWreckShares$Good;)I"⟩ 1 := ⟨by decide +kernel, by decide +kernel, by decide +kernel⟩
theorem hy_214 : XyOk ⟨"WreckShares", "letting", "(I)LWreckShares$Deed;"⟩ 1 := ⟨by decide +kernel, by decide +kernel, by decide +kernel⟩
theorem hy_215 : XyOk ⟨"WreckShares", "lettingAll", "()LWreckShares$Deed;"⟩ 0 := ⟨by decide +kernel, by decide +kernel, by decide +kernel⟩
theorem hy_216 : XyOk ⟨"WreckShares", "paying", "(III)LWreckShares$Deed;"⟩ 3 := ⟨by decide +kernel, by decide +kernel, by decide +kernel⟩
theorem hy_217 : XyOk ⟨"WreckShares$Shore", "<init>", "(IIII)V"⟩ 4 := ⟨by decide +kernel, by decide +kernel, by decide +kernel⟩
theorem hy_218 : XyOk ⟨"WreckShares$Good", "<init>", "(ILWreckShares$Kind;IIII)V"⟩ 6 := ⟨by decide +kernel, by decide +kernel, by decide +kernel⟩
theorem hy_219 : XyOk ⟨"java/util/List", "add", "(Ljava/lang/Object;)Z"⟩ 1 := ⟨by decide +kernel, by decide +kernel, by decide +kernel⟩
theorem hy_220 : XyOk ⟨"WreckShares$Parser", "script", "()[LWreckShares$Deed;"⟩ 0 := ⟨by decide +kernel, by decide +kernel, by decide +kernel⟩
theorem hy_221 : XyOk ⟨"WreckShares", "isAhead", "(II)Z"⟩ 2 := ⟨by decide +kernel, by decide +kernel, by decide +kernel⟩
theorem hy_222 : XyOk ⟨"WreckShares$Parser", "<init>", "(LWreckShares;I)V"⟩ 2 := ⟨by decide +kernel, by decide +kernel, by decide +kernel⟩
theorem hy_223 : XyOk ⟨"WreckShares", "roping", "(II)LWreckShares$Deed;"⟩ 2 := ⟨by decide +kernel, by decide +kernel, by decide +kernel⟩
theorem hy_224 : XyOk ⟨"WreckShares", "inState", "(I)I"⟩ 1 := ⟨by decide +kernel, by decide +kernel, by decide +kernel⟩
theorem hy_225 : XyOk ⟨"WreckShares", "dryNow", "()I"⟩ 0 := ⟨by decide +kernel, by decide +kernel, by decide +kernel⟩
theorem hy_226 : XyOk ⟨"WreckShares", "passing", "(I)LWreckShares$Deed;"⟩ 1 := ⟨by decide +kernel, by decide +kernel, by decide +kernel⟩
theorem hy_227 : XyOk ⟨"java/util/ArrayDeque", "isEmpty", "()Z"⟩ 0 := ⟨by decide +kernel, by decide +kernel, by decide +kernel⟩
theorem hy_228 : XyOk ⟨"java/util/ArrayDeque", "removeLast", "()Ljava/lang/Object;"⟩ 0 := ⟨by decide +kernel, by decide +kernel, by decide +kernel⟩
theorem hy_229 : XyOk ⟨"WreckShares$Good", "parts", "()Ljava/util/List;"⟩ 0 := ⟨by decide +kernel, by decide +kernel, by decide +kernel⟩
theorem hy_230 : XyOk ⟨"WreckShares$Part", "amount", "()I"⟩ 0 := ⟨by decide +kernel, by decide +kernel, by decide +kernel⟩
theorem hy_231 : XyOk ⟨"java/lang/Math", "min", "(II)I"⟩ 2 := ⟨by decide +kernel, by decide +kernel, by decide +kernel⟩
theorem hy_232 : XyOk ⟨"WreckShares$Shore", "divisionRefusal", "(LWreckShares$Good;)I"⟩ 1 := ⟨by decide +kernel, by decide +kernel, by decide +kernel⟩
theorem hy_233 : XyOk ⟨"WreckShares$Shore", "<init>", "(III[I[I[I)V"⟩ 6 := ⟨by decide +kernel, by decide +kernel, by decide +kernel⟩
theorem hy_234 : XyOk ⟨"WreckShares$Good", "copy", "()LWreckShares$Good;"⟩ 0 := ⟨by decide +kernel, by decide +kernel, by decide +kernel⟩
theorem hy_235 : XyOk ⟨"WreckShares$Shore", "gives", "(LWreckShares$Part;)V"⟩ 1 := ⟨by decide +kernel, by decide +kernel, by decide +kernel⟩
theorem hy_236 : XyOk ⟨"WreckShares$Good", "leftOver", "(I)I"⟩ 1 := ⟨by decide +kernel, by decide +kernel, by decide +kernel⟩
theorem hy_237 : XyOk ⟨"WreckShares$Good", "crown", "(Z)I"⟩ 1 := ⟨by decide +kernel, by decide +kernel, by decide +kernel⟩
theorem hy_238 : XyOk ⟨"WreckShares$ToOwner", "owner", "()I"⟩ 0 := ⟨by decide +kernel, by decide +kernel, by decide +kernel⟩
theorem hy_239 : XyOk ⟨"WreckShares$ToOwner", "amount", "()I"⟩ 0 := ⟨by decide +kernel, by decide +kernel, by decide +kernel⟩
theorem hy_240 : XyOk ⟨"WreckShares$ToCrown", "amount", "()I"⟩ 0 := ⟨by decide +kernel, by decide +kernel, by decide +kernel⟩
theorem hy_241 : XyOk ⟨"WreckShares$ToFinder", "amount", "()I"⟩ 0 := ⟨by decide +kernel, by decide +kernel, by decide +kernel⟩
theorem hy_242 : XyOk ⟨"java/util/List", "get", "(I)Ljava/lang/Object;"⟩ 1 := ⟨by decide +kernel, by decide +kernel, by decide +kernel⟩
theorem hy_243 : XyOk ⟨"java/util/LinkedList", "clear", "()V"⟩ 0 := ⟨by decide +kernel, by decide +kernel, by decide +kernel⟩
theorem hy_244 : XyOk ⟨"java/util/ArrayList", "<init>", "(I)V"⟩ 1 := ⟨by decide +kernel, by decide +kernel, by decide +kernel⟩
theorem hy_245 : XyOk ⟨"java/util/LinkedList", "removeFirstOccurrence", "(Ljava/lang/Object;)Z"⟩ 1 := ⟨by decide +kernel, by decide +kernel, by decide +kernel⟩
theorem hy_246 : XyOk ⟨"WreckShares$Shore", "washes", "(LWreckShares$Good;)Z"⟩ 1 := ⟨by decide +kernel, by decide +kernel, by decide +kernel⟩
theorem hy_247 : XyOk ⟨"java/util/LinkedList", "contains", "(Ljava/lang/Object;)Z"⟩ 1 := ⟨by decide +kernel, by decide +kernel, by decide +kernel⟩
theorem hy_248 : XyOk ⟨"java/util/LinkedList", "addLast", "(Ljava/lang/Object;)V"⟩ 1 := ⟨by decide +kernel, by decide +kernel, by decide +kernel⟩
theorem hy_249 : XyOk ⟨"java/util/AbstractSequentialList", "iterator", "()Ljava/util/Iterator;"⟩ 0 := ⟨by decide +kernel, by decide +kernel, by decide +kernel⟩
theorem hy_250 : XyOk ⟨"WreckShares$Good", "salvage", "()I"⟩ 0 := ⟨by decide +kernel, by decide +kernel, by decide +kernel⟩
theorem hy_251 : XyOk ⟨"java/util/LinkedList", "<init>", "()V"⟩ 0 := ⟨by decide +kernel, by decide +kernel, by decide +kernel⟩
theorem hy_252 : XyOk ⟨"java/util/ArrayList", "<init>", "()V"⟩ 0 := ⟨by decide +kernel, by decide +kernel, by decide +kernel⟩
theorem hy_253 : XyOk ⟨"WreckShares$ToCrown", "<init>", "(I)V"⟩ 1 := ⟨by decide +kernel, by decide +kernel, by decide +kernel⟩
theorem hy_254 : XyOk ⟨"WreckShares$Good", "owners", "(Z)I"⟩ 1 := ⟨by decide +kernel, by decide +kernel, by decide +kernel⟩
theorem hy_255 : XyOk ⟨"WreckShares$ToOwner", "<init>", "(II)V"⟩ 2 := ⟨by decide +kernel, by decide +kernel, by decide +kernel⟩
theorem hy_256 : XyOk ⟨"WreckShares$ToFinder", "<init>", "(II)V"⟩ 2 := ⟨by decide +kernel, by decide +kernel, by decide +kernel⟩
theorem hy_257 : XyOk ⟨"java/lang/String", "hashCode", "()I"⟩ 0 := ⟨by decide +kernel, by decide +kernel, by decide +kernel⟩
theorem hy_258 : XyOk ⟨"java/lang/String", "equals", "(Ljava/lang/Object;)Z"⟩ 1 := ⟨by decide +kernel, by decide +kernel, by decide +kernel⟩
theorem hy_259 : XyOk ⟨"WreckSharesModel", "isWord", "(Ljava/lang/String;)Z"⟩ 1 := ⟨by decide +kernel, by decide +kernel, by decide +kernel⟩
theorem hy_260 : XyOk ⟨"WreckSharesModel", "scan", "()V"⟩ 0 := ⟨by decide +kernel, by decide +kernel, by decide +kernel⟩
theorem hy_261 : XyOk ⟨"WreckSharesModel", "inRange", "(III)Z"⟩ 3 := ⟨by decide +kernel, by decide +kernel, by decide +kernel⟩
theorem hy_262 : XyOk ⟨"WreckSharesModel", "lacks", "(Z)Z"⟩ 1 := ⟨by decide +kernel, by decide +kernel, by decide +kernel⟩
theorem hy_263 : XyOk ⟨"WreckSharesModel", "tallied", "(I)I"⟩ 1 := ⟨by decide +kernel, by decide +kernel, by decide +kernel⟩
theorem hy_264 : XyOk ⟨"WreckSharesModel", "lay", "(III)V"⟩ 3 := ⟨by decide +kernel, by decide +kernel, by decide +kernel⟩
theorem hy_265 : XyOk ⟨"WreckSharesModel", "of", "(II)I"⟩ 2 := ⟨by decide +kernel, by decide +kernel, by decide +kernel⟩
theorem hy_266 : XyOk ⟨"WreckSharesModel", "layFinder", "(III)V"⟩ 3 := ⟨by decide +kernel, by decide +kernel, by decide +kernel⟩
theorem hy_267 : XyOk ⟨"WreckSharesModel", "ofFinder", "(II)I"⟩ 2 := ⟨by decide +kernel, by decide +kernel, by decide +kernel⟩
theorem hy_268 : XyOk ⟨"WreckSharesModel", "claimable", "(I)I"⟩ 1 := ⟨by decide +kernel, by decide +kernel, by decide +kernel⟩
theorem hy_269 : XyOk ⟨"WreckSharesModel", "countFree", "()I"⟩ 0 := ⟨by decide +kernel, by decide +kernel, by decide +kernel⟩
theorem hy_270 : XyOk ⟨"WreckSharesModel", "isIn", "(II)Z"⟩ 2 := ⟨by decide +kernel, by decide +kernel, by decide +kernel⟩
theorem hy_271 : XyOk ⟨"WreckSharesModel", "isDry", "(II)Z"⟩ 2 := ⟨by decide +kernel, by decide +kernel, by decide +kernel⟩
theorem hy_272 : XyOk ⟨"WreckSharesModel", "isGood", "(I)Z"⟩ 1 := ⟨by decide +kernel, by decide +kernel, by decide +kernel⟩
theorem hy_273 : XyOk ⟨"WreckSharesModel", "haulRefusal", "(I)I"⟩ 1 := ⟨by decide +kernel, by decide +kernel, by decide +kernel⟩
theorem hy_274 : XyOk ⟨"WreckSharesModel", "ticksToDry", "(I)I"⟩ 1 := ⟨by decide +kernel, by decide +kernel, by decide +kernel⟩
theorem hy_275 : XyOk ⟨"WreckSharesModel", "isOwner", "(I)Z"⟩ 1 := ⟨by decide +kernel, by decide +kernel, by decide +kernel⟩
theorem hy_276 : XyOk ⟨"WreckSharesModel", "keep", "()V"⟩ 0 := ⟨by decide +kernel, by decide +kernel, by decide +kernel⟩
theorem hy_277 : XyOk ⟨"WreckSharesModel", "doClaim", "(I)I"⟩ 1 := ⟨by decide +kernel, by decide +kernel, by decide +kernel⟩
theorem hy_278 : XyOk ⟨"WreckSharesModel", "recorded", "(I)I"⟩ 1 := ⟨by decide +kernel, by decide +kernel, by decide +kernel⟩
theorem hy_279 : XyOk ⟨"WreckSharesModel", "crewOf", "(IZ)I"⟩ 2 := ⟨by decide +kernel, by decide +kernel, by decide +kernel⟩
theorem hy_280 : XyOk ⟨"WreckSharesModel", "isClaimed", "(I)Z"⟩ 1 := ⟨by decide +kernel, by decide +kernel, by decide +kernel⟩
theorem hy_281 : XyOk ⟨"WreckSharesModel", "ownerOf", "(IZ)I"⟩ 2 := ⟨by decide +kernel, by decide +kernel, by decide +kernel⟩
theorem hy_282 : XyOk ⟨"WreckSharesModel", "crownOf", "(IZ)I"⟩ 2 := ⟨by decide +kernel, by decide +kernel, by decide +kernel⟩
theorem hy_283 : XyOk ⟨"WreckSharesModel", "placeOf", "(II)I"⟩ 2 := ⟨by decide +kernel, by decide +kernel, by decide +kernel⟩
theorem hy_284 : XyOk ⟨"WreckSharesModel", "salvageOf", "(I)I"⟩ 1 := ⟨by decide +kernel, by decide +kernel, by decide +kernel⟩
theorem hy_285 : XyOk ⟨"WreckSharesModel", "doDivide", "(I)I"⟩ 1 := ⟨by decide +kernel, by decide +kernel, by decide +kernel⟩
theorem hy_286 : XyOk ⟨"WreckSharesModel", "doDivideAll", "()I"⟩ 0 := ⟨by decide +kernel, by decide +kernel, by decide +kernel⟩
theorem hy_287 : XyOk ⟨"WreckSharesModel", "handOf", "(II)I"⟩ 2 := ⟨by decide +kernel, by decide +kernel, by decide +kernel⟩
theorem hy_288 : XyOk ⟨"WreckSharesModel", "shareAt", "(II)I"⟩ 2 := ⟨by decide +kernel, by decide +kernel, by decide +kernel⟩
theorem hy_289 : XyOk ⟨"WreckSharesModel", "restOf", "(I)I"⟩ 1 := ⟨by decide +kernel, by decide +kernel, by decide +kernel⟩
theorem hy_290 : XyOk ⟨"WreckSharesModel", "tally", "(II)V"⟩ 2 := ⟨by decide +kernel, by decide +kernel, by decide +kernel⟩
theorem hy_291 : XyOk ⟨"WreckSharesModel", "ends", "(I)I"⟩ 1 := ⟨by decide +kernel, by decide +kernel, by decide +kernel⟩
theorem hy_292 : XyOk ⟨"WreckSharesModel", "divideRefusal", "(I)I"⟩ 1 := ⟨by decide +kernel, by decide +kernel, by decide +kernel⟩
theorem hy_293 : XyOk ⟨"WreckSharesModel", "divideNow", "(I)V"⟩ 1 := ⟨by decide +kernel, by decide +kernel, by decide +kernel⟩
theorem hy_294 : XyOk ⟨"WreckSharesModel", "letGo", "(I)V"⟩ 1 := ⟨by decide +kernel, by decide +kernel, by decide +kernel⟩
theorem hy_295 : XyOk ⟨"WreckSharesModel", "removeHand", "(I)V"⟩ 1 := ⟨by decide +kernel, by decide +kernel, by decide +kernel⟩
theorem hy_296 : XyOk ⟨"WreckSharesModel", "addHand", "(II)V"⟩ 2 := ⟨by decide +kernel, by decide +kernel, by decide +kernel⟩
theorem hy_297 : XyOk ⟨"WreckSharesModel", "tick", "()V"⟩ 0 := ⟨by decide +kernel, by decide +kernel, by decide +kernel⟩
theorem hy_298 : XyOk ⟨"WreckSharesModel", "isFinder", "(I)Z"⟩ 1 := ⟨by decide +kernel, by decide +kernel, by decide +kernel⟩
theorem hy_299 : XyOk ⟨"WreckSharesModel", "doRope", "(II)I"⟩ 2 := ⟨by decide +kernel, by decide +kernel, by decide +kernel⟩
theorem hy_300 : XyOk ⟨"WreckSharesModel", "doOff", "(I)I"⟩ 1 := ⟨by decide +kernel, by decide +kernel, by decide +kernel⟩
theorem hy_301 : XyOk ⟨"WreckSharesModel", "doHaul", "(I)I"⟩ 1 := ⟨by decide +kernel, by decide +kernel, by decide +kernel⟩
theorem hy_302 : XyOk ⟨"WreckSharesModel", "doPay", "(III)I"⟩ 3 := ⟨by decide +kernel, by decide +kernel, by decide +kernel⟩
theorem hy_303 : XyOk ⟨"WreckSharesModel", "doTicks", "(I)I"⟩ 1 := ⟨by decide +kernel, by decide +kernel, by decide +kernel⟩
theorem hy_304 : XyOk ⟨"WreckSharesModel", "countDry", "(I)I"⟩ 1 := ⟨by decide +kernel, by decide +kernel, by decide +kernel⟩
theorem hy_305 : XyOk ⟨"WreckSharesModel", "shareOf", "(II)I"⟩ 2 := ⟨by decide +kernel, by decide +kernel, by decide +kernel⟩
theorem hy_306 : XyOk ⟨"WreckSharesModel", "isSymbol", "(I)Z"⟩ 1 := ⟨by decide +kernel, by decide +kernel, by decide +kernel⟩
theorem hy_307 : XyOk ⟨"WreckSharesModel", "check", "(ZI)V"⟩ 2 := ⟨by decide +kernel, by decide +kernel, by decide +kernel⟩
theorem hy_308 : XyOk ⟨"WreckSharesModel", "advance", "()V"⟩ 0 := ⟨by decide +kernel, by decide +kernel, by decide +kernel⟩
theorem hy_309 : XyOk ⟨"WreckSharesModel", "crewsWith", "(I)I"⟩ 1 := ⟨by decide +kernel, by decide +kernel, by decide +kernel⟩
theorem hy_310 : XyOk ⟨"WreckSharesModel", "raise", "(I)I"⟩ 1 := ⟨by decide +kernel, by decide +kernel, by decide +kernel⟩
theorem hy_311 : XyOk ⟨"WreckSharesModel", "write", "(I)V"⟩ 1 := ⟨by decide +kernel, by decide +kernel, by decide +kernel⟩
theorem hy_312 : XyOk ⟨"WreckSharesModel", "writeNumber", "(I)V"⟩ 1 := ⟨by decide +kernel, by decide +kernel, by decide +kernel⟩
theorem hy_313 : XyOk ⟨"WreckSharesModel", "allPurses", "()I"⟩ 0 := ⟨by decide +kernel, by decide +kernel, by decide +kernel⟩
theorem hy_314 : XyOk ⟨"WreckSharesModel", "begin", "(IIII)V"⟩ 4 := ⟨by decide +kernel, by decide +kernel, by decide +kernel⟩
theorem hy_315 : XyOk ⟨"WreckSharesModel", "addGood", "(IIIII)V"⟩ 5 := ⟨by decide +kernel, by decide +kernel, by decide +kernel⟩
theorem hy_316 : XyOk ⟨"WreckSharesModel", "byteAt", "(I)I"⟩ 1 := ⟨by decide +kernel, by decide +kernel, by decide +kernel⟩
theorem hy_317 : XyOk ⟨"WreckSharesModel", "levelAt", "(I)I"⟩ 1 := ⟨by decide +kernel, by decide +kernel, by decide +kernel⟩
theorem hy_318 : XyOk ⟨"WreckSharesModel", "copy", "([II[II)V"⟩ 4 := ⟨by decide +kernel, by decide +kernel, by decide +kernel⟩
theorem hy_319 : XyOk ⟨"WreckSharesModel", "startText", "(I)V"⟩ 1 := ⟨by decide +kernel, by decide +kernel, by decide +kernel⟩
theorem hy_320 : XyOk ⟨"WreckSharesModel", "readText", "()V"⟩ 0 := ⟨by decide +kernel, by decide +kernel, by decide +kernel⟩
theorem hy_321 : XyOk ⟨"WreckSharesModel", "finish", "()I"⟩ 0 := ⟨by decide +kernel, by decide +kernel, by decide +kernel⟩
theorem hy_322 : XyOk ⟨"WreckSharesModel", "value", "()I"⟩ 0 := ⟨by decide +kernel, by decide +kernel, by decide +kernel⟩
theorem hy_323 : XyOk ⟨"WreckSharesModel", "ticksToLoss", "(I)I"⟩ 1 := ⟨by decide +kernel, by decide +kernel, by decide +kernel⟩
theorem hy_324 : XyOk ⟨"WreckSharesModel", "doOffAll", "()I"⟩ 0 := ⟨by decide +kernel, by decide +kernel, by decide +kernel⟩
theorem hy_325 : XyOk ⟨"WreckSharesModel", "readOrder", "()V"⟩ 0 := ⟨by decide +kernel, by decide +kernel, by decide +kernel⟩
theorem hy_326 : XyOk ⟨"WreckSharesModel", "record", "()V"⟩ 0 := ⟨by decide +kernel, by decide +kernel, by decide +kernel⟩
theorem hy_327 : XyOk ⟨"WreckSharesModel", "does", "(I)I"⟩ 1 := ⟨by decide +kernel, by decide +kernel, by decide +kernel⟩
theorem hy_328 : XyOk ⟨"WreckSharesModel", "rankOf", "(I)I"⟩ 1 := ⟨by decide +kernel, by decide +kernel, by decide +kernel⟩
theorem hy_329 : XyOk ⟨"WreckSharesModel", "readNumber", "(II)I"⟩ 2 := ⟨by decide +kernel, by decide +kernel, by decide +kernel⟩
theorem hy_330 : XyOk ⟨"WreckSharesModel", "kindHere", "()I"⟩ 0 := ⟨by decide +kernel, by decide +kernel, by decide +kernel⟩
theorem hy_331 : XyOk ⟨"WreckSharesModel", "accept", "(Ljava/lang/String;)Z"⟩ 1 := ⟨by decide +kernel, by decide +kernel, by decide +kernel⟩
theorem hy_332 : XyOk ⟨"WreckSharesModel", "expect", "(I)V"⟩ 1 := ⟨by decide +kernel, by decide +kernel, by decide +kernel⟩
theorem hy_333 : XyOk ⟨"WreckSharesModel", "look", "(II)I"⟩ 2 := ⟨by decide +kernel, by decide +kernel, by decide +kernel⟩
theorem hy_334 : XyOk ⟨"WreckSharesModel", "orderHere", "()I"⟩ 0 := ⟨by decide +kernel, by decide +kernel, by decide +kernel⟩
theorem hy_335 : XyOk ⟨"WreckSharesModel", "readFirst", "(I)I"⟩ 1 := ⟨by decide +kernel, by decide +kernel, by decide +kernel⟩
theorem hy_336 : XyOk ⟨"WreckSharesModel", "readGood", "()V"⟩ 0 := ⟨by decide +kernel, by decide +kernel, by decide +kernel⟩
theorem hy_337 : XyOk ⟨"WreckSharesModel", "partOf", "(II)I"⟩ 2 := ⟨by decide +kernel, by decide +kernel, by decide +kernel⟩
theorem hy_338 : XyOk ⟨"WreckSharesModel", "isLetter", "(I)Z"⟩ 1 := ⟨by decide +kernel, by decide +kernel, by decide +kernel⟩
theorem hy_339 : XyOk ⟨"WreckSharesModel", "isDigit", "(I)Z"⟩ 1 := ⟨by decide +kernel, by decide +kernel, by decide +kernel⟩
theorem hy_340 : XyOk ⟨"WreckSharesModel", "countState", "(I)I"⟩ 1 := ⟨by decide +kernel, by decide +kernel, by decide +kernel⟩
theorem hy_341 : XyOk ⟨"WreckSharesModel", "countDryNow", "()I"⟩ 0 := ⟨by decide +kernel, by decide +kernel, by decide +kernel⟩
theorem hy_342 : XyOk ⟨"WreckSharesModel", "wash", "(I)V"⟩ 1 := ⟨by decide +kernel, by decide +kernel, by decide +kernel⟩
theorem hy_343 : XyOk ⟨"WreckSharesModel", "lose", "(I)V"⟩ 1 := ⟨by decide +kernel, by decide +kernel, by decide +kernel⟩
theorem hy_344 : XyOk ⟨"WreckShares$Parser", "keyword", "()Ljava/lang/String;"⟩ 0 := ⟨by decide +kernel, by decide +kernel, by decide +kernel⟩
theorem hy_345 : XyOk ⟨"WreckShares$Parser", "next", "()V"⟩ 0 := ⟨by decide +kernel, by decide +kernel, by decide +kernel⟩
theorem hy_346 : XyOk ⟨"WreckShares$TextError", "<init>", "(II)V"⟩ 2 := ⟨by decide +kernel, by decide +kernel, by decide +kernel⟩
theorem hy_347 : XyOk ⟨"WreckShares$Parser", "check", "(ZI)V"⟩ 2 := ⟨by decide +kernel, by decide +kernel, by decide +kernel⟩
theorem hy_348 : XyOk ⟨"WreckShares$Parser", "number", "(II)I"⟩ 2 := ⟨by decide +kernel, by decide +kernel, by decide +kernel⟩
theorem hy_349 : XyOk ⟨"WreckShares$Parser", "accept", "(Ljava/lang/String;)Z"⟩ 1 := ⟨by decide +kernel, by decide +kernel, by decide +kernel⟩
theorem hy_350 : XyOk ⟨"WreckShares$Parser", "byteAt", "(I)I"⟩ 1 := ⟨by decide +kernel, by decide +kernel, by decide +kernel⟩
theorem hy_351 : XyOk ⟨"java/lang/StringBuilder", "setLength", "(I)V"⟩ 1 := ⟨by decide +kernel, by decide +kernel, by decide +kernel⟩
theorem hy_352 : XyOk ⟨"WreckShares$Parser", "isLetter", "(I)Z"⟩ 1 := ⟨by decide +kernel, by decide +kernel, by decide +kernel⟩
theorem hy_353 : XyOk ⟨"WreckShares$Parser", "isDigit", "(I)Z"⟩ 1 := ⟨by decide +kernel, by decide +kernel, by decide +kernel⟩
theorem hy_354 : XyOk ⟨"WreckShares$Parser", "look", "(II)I"⟩ 2 := ⟨by decide +kernel, by decide +kernel, by decide +kernel⟩
theorem hy_355 : XyOk ⟨"WreckShares$Parser", "finderHere", "()I"⟩ 0 := ⟨by decide +kernel, by decide +kernel, by decide +kernel⟩
theorem hy_356 : XyOk ⟨"WreckShares$Parser", "goodHere", "()I"⟩ 0 := ⟨by decide +kernel, by decide +kernel, by decide +kernel⟩
theorem hy_357 : XyOk ⟨"WreckShares$Parser", "isOrder", "(Ljava/lang/String;)Z"⟩ 1 := ⟨by decide +kernel, by decide +kernel, by decide +kernel⟩
theorem hy_358 : XyOk ⟨"WreckShares$Parser", "order", "(Ljava/lang/String;)LWreckShares$Deed;"⟩ 1 := ⟨by decide +kernel, by decide +kernel, by decide +kernel⟩
theorem hy_359 : XyOk ⟨"WreckShares$Parser", "ends", "()V"⟩ 0 := ⟨by decide +kernel, by decide +kernel, by decide +kernel⟩
theorem hy_360 : XyOk ⟨"WreckShares$Kind", "named", "(Ljava/lang/String;)LWreckShares$Kind;"⟩ 1 := ⟨by decide +kernel, by decide +kernel, by decide +kernel⟩
theorem hy_361 : XyOk ⟨"WreckShares$Parser", "good", "(ILWreckShares$Kind;)LWreckShares$Good;"⟩ 2 := ⟨by decide +kernel, by decide +kernel, by decide +kernel⟩
theorem hy_362 : XyOk ⟨"java/lang/Exception", "<init>", "(Ljava/lang/String;Ljava/lang/Throwable;ZZ)V"⟩ 4 := ⟨by decide +kernel, by decide +kernel, by decide +kernel⟩
theorem hy_363 : XyOk ⟨"java/lang/Record", "<init>", "()V"⟩ 0 := ⟨by decide +kernel, by decide +kernel, by decide +kernel⟩
theorem hy_364 : XyOk ⟨"java/util/BitSet", "<init>", "(I)V"⟩ 1 := ⟨by decide +kernel, by decide +kernel, by decide +kernel⟩
theorem hy_365 : XyOk ⟨"java/util/BitSet", "set", "(IZ)V"⟩ 2 := ⟨by decide +kernel, by decide +kernel, by decide +kernel⟩
theorem hy_366 : XyOk ⟨"WreckShares$Lying$1", "<init>", "(LWreckShares$Lying;)V"⟩ 1 := ⟨by decide +kernel, by decide +kernel, by decide +kernel⟩
theorem hy_367 : XyOk ⟨"java/util/BitSet", "nextSetBit", "(I)I"⟩ 1 := ⟨by decide +kernel, by decide +kernel, by decide +kernel⟩
theorem hy_368 : XyOk ⟨"WreckShares$Lying$1", "next", "()LWreckShares$Good;"⟩ 0 := ⟨by decide +kernel, by decide +kernel, by decide +kernel⟩
theorem hy_369 : XyOk ⟨"java/util/AbstractCollection", "<init>", "()V"⟩ 0 := ⟨by decide +kernel, by decide +kernel, by decide +kernel⟩
theorem hy_370 : XyOk ⟨"java/util/AbstractList", "listIterator", "(I)Ljava/util/ListIterator;"⟩ 1 := ⟨by decide +kernel, by decide +kernel, by decide +kernel⟩
theorem hy_371 : XyOk ⟨"java/util/ArrayList", "add", "(Ljava/lang/Object;[Ljava/lang/Object;I)V"⟩ 3 := ⟨by decide +kernel, by decide +kernel, by decide +kernel⟩
theorem hy_372 : XyOk ⟨"java/util/ArrayList", "grow", "()[Ljava/lang/Object;"⟩ 0 := ⟨by decide +kernel, by decide +kernel, by decide +kernel⟩
theorem hy_373 : XyOk ⟨"java/util/Objects", "checkIndex", "(II)I"⟩ 2 := ⟨by decide +kernel, by decide +kernel, by decide +kernel⟩
theorem hy_374 : XyOk ⟨"java/util/ArrayList", "elementData", "(I)Ljava/lang/Object;"⟩ 1 := ⟨by decide +kernel, by decide +kernel, by decide +kernel⟩
theorem hy_375 : XyOk ⟨"java/util/ArrayList", "grow", "(I)[Ljava/lang/Object;"⟩ 1 := ⟨by decide +kernel, by decide +kernel, by decide +kernel⟩
theorem hy_376 : XyOk ⟨"jdk/internal/util/ArraysSupport", "newLength", "(III)I"⟩ 3 := ⟨by decide +kernel, by decide +kernel, by decide +kernel⟩
theorem hy_377 : XyOk ⟨"java/util/AbstractList", "<init>", "()V"⟩ 0 := ⟨by decide +kernel, by decide +kernel, by decide +kernel⟩
theorem hy_378 : XyOk ⟨"java/lang/StringBuilder", "append", "(Ljava/lang/String;)Ljava/lang/StringBuilder;"⟩ 1 := ⟨by decide +kernel, by decide +kernel, by decide +kernel⟩
theorem hy_379 : XyOk ⟨"java/util/ArrayList$Itr", "<init>", "(Ljava/util/ArrayList;)V"⟩ 1 := ⟨by decide +kernel, by decide +kernel, by decide +kernel⟩
theorem hy_380 : XyOk ⟨"java/lang/Throwable", "<init>", "(Ljava/lang/String;Ljava/lang/Throwable;ZZ)V"⟩ 4 := ⟨by decide +kernel, by decide +kernel, by decide +kernel⟩
theorem hy_381 : XyOk ⟨"java/lang/AbstractStringBuilder", "ensureCapacityInternal", "(I)V"⟩ 1 := ⟨by decide +kernel, by decide +kernel, by decide +kernel⟩
theorem hy_382 : XyOk ⟨"java/lang/AbstractStringBuilder", "putStringAt", "(ILjava/lang/String;)V"⟩ 2 := ⟨by decide +kernel, by decide +kernel, by decide +kernel⟩
theorem hy_383 : XyOk ⟨"java/lang/Integer", "stringSize", "(I)I"⟩ 1 := ⟨by decide +kernel, by decide +kernel, by decide +kernel⟩
theorem hy_384 : XyOk ⟨"java/lang/AbstractStringBuilder", "isLatin1", "()Z"⟩ 0 := ⟨by decide +kernel, by decide +kernel, by decide +kernel⟩
theorem hy_385 : XyOk ⟨"java/lang/Integer", "getChars", "(II[B)I"⟩ 3 := ⟨by decide +kernel, by decide +kernel, by decide +kernel⟩
theorem hy_386 : XyOk ⟨"java/lang/StringLatin1", "canEncode", "(C)Z"⟩ 1 := ⟨by decide +kernel, by decide +kernel, by decide +kernel⟩
theorem hy_387 : XyOk ⟨"java/lang/AbstractStringBuilder", "newCapacity", "(I)I"⟩ 1 := ⟨by decide +kernel, by decide +kernel, by decide +kernel⟩
theorem hy_388 : XyOk ⟨"java/util/Arrays", "copyOf", "([BI)[B"⟩ 2 := ⟨by decide +kernel, by decide +kernel, by decide +kernel⟩
theorem hy_389 : XyOk ⟨"java/lang/String", "coder", "()B"⟩ 0 := ⟨by decide +kernel, by decide +kernel, by decide +kernel⟩
theorem hy_390 : XyOk ⟨"java/lang/AbstractStringBuilder", "inflateIfNeededFor", "(Ljava/lang/String;)V"⟩ 1 := ⟨by decide +kernel, by decide +kernel, by decide +kernel⟩
theorem hy_391 : XyOk ⟨"java/lang/String", "getBytes", "([BIB)V"⟩ 3 := ⟨by decide +kernel, by decide +kernel, by decide +kernel⟩
theorem hy_392 : XyOk ⟨"java/lang/StringLatin1", "fillNull", "([BII)V"⟩ 3 := ⟨by decide +kernel, by decide +kernel, by decide +kernel⟩
theorem hy_393 : XyOk ⟨"java/lang/AbstractStringBuilder", "append", "(Ljava/lang/String;)Ljava/lang/AbstractStringBuilder;"⟩ 1 := ⟨by decide +kernel, by decide +kernel, by decide +kernel⟩
theorem hy_394 : XyOk ⟨"java/lang/AbstractStringBuilder", "append", "(I)Ljava/lang/AbstractStringBuilder;"⟩ 1 := ⟨by decide +kernel, by decide +kernel, by decide +kernel⟩
theorem hy_395 : XyOk ⟨"java/lang/AbstractStringBuilder", "append", "(C)Ljava/lang/AbstractStringBuilder;"⟩ 1 := ⟨by decide +kernel, by decide +kernel, by decide +kernel⟩
theorem hy_396 : XyOk ⟨"java/lang/AbstractStringBuilder", "<init>", "(I)V"⟩ 1 := ⟨by decide +kernel, by decide +kernel, by decide +kernel⟩
theorem hy_397 : XyOk ⟨"java/lang/AbstractStringBuilder", "length", "()I"⟩ 0 := ⟨by decide +kernel, by decide +kernel, by decide +kernel⟩
theorem hy_398 : XyOk ⟨"java/lang/AbstractStringBuilder", "setLength", "(I)V"⟩ 1 := ⟨by decide +kernel, by decide +kernel, by decide +kernel⟩
theorem hy_399 : XyOk ⟨"java/lang/String", "<init>", "(Ljava/lang/StringBuilder;)V"⟩ 1 := ⟨by decide +kernel, by decide +kernel, by decide +kernel⟩
theorem hy_400 : XyOk ⟨"java/lang/String", "isLatin1", "()Z"⟩ 0 := ⟨by decide +kernel, by decide +kernel, by decide +kernel⟩
theorem hy_401 : XyOk ⟨"java/lang/StringLatin1", "charAt", "([BI)C"⟩ 2 := ⟨by decide +kernel, by decide +kernel, by decide +kernel⟩
theorem hy_402 : XyOk ⟨"jdk/internal/util/Preconditions", "checkIndex", "(IILjava/util/function/BiFunction;)I"⟩ 3 := ⟨by decide +kernel, by decide +kernel, by decide +kernel⟩
theorem hy_403 : XyOk ⟨"java/lang/StringLatin1", "equals", "([B[B)Z"⟩ 2 := ⟨by decide +kernel, by decide +kernel, by decide +kernel⟩
theorem hy_404 : XyOk ⟨"java/lang/StringLatin1", "hashCode", "([B)I"⟩ 1 := ⟨by decide +kernel, by decide +kernel, by decide +kernel⟩
theorem hy_405 : XyOk ⟨"java/lang/String", "<init>", "(Ljava/lang/AbstractStringBuilder;Ljava/lang/Void;)V"⟩ 2 := ⟨by decide +kernel, by decide +kernel, by decide +kernel⟩
theorem hy_406 : XyOk ⟨"java/lang/AbstractStringBuilder", "getValue", "()[B"⟩ 0 := ⟨by decide +kernel, by decide +kernel, by decide +kernel⟩
theorem hy_407 : XyOk ⟨"java/util/Arrays", "copyOfRange", "([BII)[B"⟩ 3 := ⟨by decide +kernel, by decide +kernel, by decide +kernel⟩
theorem hy_408 : XyOk ⟨"jdk/internal/util/ArraysSupport", "signedHashCode", "(I[BII)I"⟩ 4 := ⟨by decide +kernel, by decide +kernel, by decide +kernel⟩
theorem hy_409 : XyOk ⟨"jdk/internal/util/ArraysSupport", "hashCode", "(I[BII)I"⟩ 4 := ⟨by decide +kernel, by decide +kernel, by decide +kernel⟩
theorem hy_410 : XyOk ⟨"java/util/Arrays", "copyOfRangeByte", "([BII)[B"⟩ 3 := ⟨by decide +kernel, by decide +kernel, by decide +kernel⟩
theorem hy_411 : XyOk ⟨"java/util/Arrays", "rangeCheck", "(III)V"⟩ 3 := ⟨by decide +kernel, by decide +kernel, by decide +kernel⟩
theorem hy_412 : XyOk ⟨"java/lang/String", "checkIndex", "(II)V"⟩ 2 := ⟨by decide +kernel, by decide +kernel, by decide +kernel⟩
theorem hy_413 : XyOk ⟨"java/util/Arrays", "fill", "([BIIB)V"⟩ 4 := ⟨by decide +kernel, by decide +kernel, by decide +kernel⟩
theorem hy_414 : XyOk ⟨"jdk/internal/util/ArraysSupport", "vectorizedHashCode", "(Ljava/lang/Object;IIII)I"⟩ 5 := ⟨by decide +kernel, by decide +kernel, by decide +kernel⟩
theorem hy_415 : XyOk ⟨"java/lang/Number", "<init>", "()V"⟩ 0 := ⟨by decide +kernel, by decide +kernel, by decide +kernel⟩
theorem hy_416 : XyOk ⟨"java/lang/Integer", "<init>", "(I)V"⟩ 1 := ⟨by decide +kernel, by decide +kernel, by decide +kernel⟩
theorem hy_417 : XyOk ⟨"java/util/AbstractList", "listIterator", "()Ljava/util/ListIterator;"⟩ 0 := ⟨by decide +kernel, by decide +kernel, by decide +kernel⟩
theorem hy_418 : XyOk ⟨"java/util/LinkedList", "linkLast", "(Ljava/lang/Object;)V"⟩ 1 := ⟨by decide +kernel, by decide +kernel, by decide +kernel⟩
theorem hy_419 : XyOk ⟨"java/util/LinkedList", "isElementIndex", "(I)Z"⟩ 1 := ⟨by decide +kernel, by decide +kernel, by decide +kernel⟩
theorem hy_420 : XyOk ⟨"java/util/LinkedList", "isPositionIndex", "(I)Z"⟩ 1 := ⟨by decide +kernel, by decide +kernel, by decide +kernel⟩
theorem hy_421 : XyOk ⟨"java/util/LinkedList", "checkElementIndex", "(I)V"⟩ 1 := ⟨by decide +kernel, by decide +kernel, by decide +kernel⟩
theorem hy_422 : XyOk ⟨"java/util/LinkedList", "node", "(I)Ljava/util/LinkedList$Node;"⟩ 1 := ⟨by decide +kernel, by decide +kernel, by decide +kernel⟩
theorem hy_423 : XyOk ⟨"java/lang/Object", "equals", "(Ljava/lang/Object;)Z"⟩ 1 := ⟨by decide +kernel, by decide +kernel, by decide +kernel⟩
theorem hy_424 : XyOk ⟨"java/util/AbstractSequentialList", "<init>", "()V"⟩ 0 := ⟨by decide +kernel, by decide +kernel, by decide +kernel⟩
theorem hy_425 : XyOk ⟨"java/util/LinkedList$Node", "<init>", "(Ljava/util/LinkedList$Node;Ljava/lang/Object;Ljava/util/LinkedList$Node;)V"⟩ 3 := ⟨by decide +kernel, by decide +kernel, by decide +kernel⟩
theorem hy_426 : XyOk ⟨"java/util/LinkedList", "checkPositionIndex", "(I)V"⟩ 1 := ⟨by decide +kernel, by decide +kernel, by decide +kernel⟩
theorem hy_427 : XyOk ⟨"java/util/LinkedList$ListItr", "<init>", "(Ljava/util/LinkedList;I)V"⟩ 2 := ⟨by decide +kernel, by decide +kernel, by decide +kernel⟩
theorem hy_428 : XyOk ⟨"java/util/LinkedList", "unlink", "(Ljava/util/LinkedList$Node;)Ljava/lang/Object;"⟩ 1 := ⟨by decide +kernel, by decide +kernel, by decide +kernel⟩
theorem hy_429 : XyOk ⟨"java/util/LinkedList", "remove", "(Ljava/lang/Object;)Z"⟩ 1 := ⟨by decide +kernel, by decide +kernel, by decide +kernel⟩
theorem hy_430 : XyOk ⟨"java/util/ArrayDeque", "inc", "(II)I"⟩ 2 := ⟨by decide +kernel, by decide +kernel, by decide +kernel⟩
theorem hy_431 : XyOk ⟨"java/util/ArrayDeque", "circularClear", "([Ljava/lang/Object;II)V"⟩ 3 := ⟨by decide +kernel, by decide +kernel, by decide +kernel⟩
theorem hy_432 : XyOk ⟨"java/util/ArrayDeque", "elementAt", "([Ljava/lang/Object;I)Ljava/lang/Object;"⟩ 2 := ⟨by decide +kernel, by decide +kernel, by decide +kernel⟩
theorem hy_433 : XyOk ⟨"java/util/ArrayDeque", "dec", "(II)I"⟩ 2 := ⟨by decide +kernel, by decide +kernel, by decide +kernel⟩
theorem hy_434 : XyOk ⟨"java/util/ArrayDeque", "pollFirst", "()Ljava/lang/Object;"⟩ 0 := ⟨by decide +kernel, by decide +kernel, by decide +kernel⟩
theorem hy_435 : XyOk ⟨"java/util/ArrayDeque", "pollLast", "()Ljava/lang/Object;"⟩ 0 := ⟨by decide +kernel, by decide +kernel, by decide +kernel⟩
theorem hy_436 : XyOk ⟨"java/util/ArrayDeque", "sub", "(III)I"⟩ 3 := ⟨by decide +kernel, by decide +kernel, by decide +kernel⟩
theorem hy_437 : XyOk ⟨"java/util/ArrayList$Itr", "checkForComodification", "()V"⟩ 0 := ⟨by decide +kernel, by decide +kernel, by decide +kernel⟩
theorem hy_438 : XyOk ⟨"java/util/LinkedList$ListItr", "checkForComodification", "()V"⟩ 0 := ⟨by decide +kernel, by decide +kernel, by decide +kernel⟩
theorem hy_439 : XyOk ⟨"java/util/LinkedList$ListItr", "hasNext", "()Z"⟩ 0 := ⟨by decide +kernel, by decide +kernel, by decide +kernel⟩
theorem hy_440 : XyOk ⟨"java/util/BitSet", "wordIndex", "(I)I"⟩ 1 := ⟨by decide +kernel, by decide +kernel, by decide +kernel⟩
theorem hy_441 : XyOk ⟨"java/util/BitSet", "recalculateWordsInUse", "()V"⟩ 0 := ⟨by decide +kernel, by decide +kernel, by decide +kernel⟩
theorem hy_442 : XyOk ⟨"java/util/BitSet", "checkInvariants", "()V"⟩ 0 := ⟨by decide +kernel, by decide +kernel, by decide +kernel⟩
theorem hy_443 : XyOk ⟨"java/util/BitSet", "ensureCapacity", "(I)V"⟩ 1 := ⟨by decide +kernel, by decide +kernel, by decide +kernel⟩
theorem hy_444 : XyOk ⟨"java/util/BitSet", "initWords", "(I)V"⟩ 1 := ⟨by decide +kernel, by decide +kernel, by decide +kernel⟩
theorem hy_445 : XyOk ⟨"java/lang/Long", "numberOfTrailingZeros", "(J)I"⟩ 1 := ⟨by decide +kernel, by decide +kernel, by decide +kernel⟩
theorem hy_446 : XyOk ⟨"java/util/BitSet", "set", "(I)V"⟩ 1 := ⟨by decide +kernel, by decide +kernel, by decide +kernel⟩
theorem hy_447 : XyOk ⟨"java/util/BitSet", "clear", "(I)V"⟩ 1 := ⟨by decide +kernel, by decide +kernel, by decide +kernel⟩
theorem hy_448 : XyOk ⟨"java/util/BitSet", "expandTo", "(I)V"⟩ 1 := ⟨by decide +kernel, by decide +kernel, by decide +kernel⟩
theorem hy_449 : XyOk ⟨"java/lang/Integer", "numberOfTrailingZeros", "(I)I"⟩ 1 := ⟨by decide +kernel, by decide +kernel, by decide +kernel⟩
theorem at_X1_3 : ∀ w ∈ vx_at0 "WreckShares" 3 "java/lang/IllegalArgumentException" ["java/lang/RuntimeException", "java/lang/Exception"], w ∈ lw_all ∨ (w ∈ lw_tbl ∧ xGw w = true) := xat_of [130, 231, 240, 244, 247, 249, 232, 233, 179, 180, 234, 239, 245, 487, 221, 488, 223, 489, 225, 235, 237, 227, 1765, 1766, 1767, 1029, 212, 1029, 1030, 1031, 1032, 214, 1032, 1033, 1034, 232, 216, 1764, 210, 211, 218, 219, 220, 222, 224, 226, 485, 229, 228] (by decide +kernel) (by decide +kernel)
theorem at_X1_9 : ∀ w ∈ vx_at0 "WreckShares" 9 "java/util/NoSuchElementException" ["java/lang/RuntimeException", "java/lang/Exception"], w ∈ lw_all ∨ (w ∈ lw_tbl ∧ xGw w = true) := xat_of [130, 231, 240, 244, 247, 249, 232, 233, 179, 180, 234, 239, 245, 487, 221, 488, 223, 489, 225, 235, 237, 227, 1026, 1027, 1028, 1029, 212, 1029, 1030, 1031, 1032, 214, 1032, 1033, 1034, 232, 216, 2049, 1017, 1018, 1019, 243, 1020, 1021, 1022, 1023, 485, 229, 1024] (by decide +kernel) (by decide +kernel)
theorem at_X12_31 : ∀ w ∈ vx_at0 "WreckShares$Lying$1" 31 "java/util/NoSuchElementException" ["java/lang/RuntimeException", "java/lang/Exception"], w ∈ lw_all ∨ (w ∈ lw_tbl ∧ xGw w = true) := xat_of [130, 231, 240, 244, 247, 249, 232, 233, 179, 180, 234, 239, 245, 487, 221, 488, 223, 489, 225, 235, 237, 227, 1026, 1027, 1028, 1029, 212, 1029, 1030, 1031, 1032, 214, 1032, 1033, 1034, 232, 216, 1025, 1017, 1018, 1019, 243, 1020, 1021, 1022, 1023, 485, 229, 1024] (by decide +kernel) (by decide +kernel)
theorem at_J22_99 : ∀ w ∈ vx_at0 "java/util/ArrayDeque" 99 "java/util/NoSuchElementException" ["java/lang/RuntimeException", "java/lang/Exception"], w ∈ lw_all ∨ (w ∈ lw_tbl ∧ xGw w = true) := xat_of [130, 231, 240, 244, 247, 249, 232, 233, 179, 180, 234, 239, 245, 487, 221, 488, 223, 489, 225, 235, 237, 227, 1026, 1027, 1028, 1029, 212, 1029, 1030, 1031, 1032, 214, 1032, 1033, 1034, 232, 216, 1514, 1017, 1018, 1019, 243, 1020, 1021, 1022, 1023, 485, 229, 1024] (by decide +kernel) (by decide +kernel)
theorem at_J23_36 : ∀ w ∈ vx_at0 "java/util/ArrayList$Itr" 36 "java/util/NoSuchElementException" ["java/lang/RuntimeException", "java/lang/Exception"], w ∈ lw_all ∨ (w ∈ lw_tbl ∧ xGw w = true) := xat_of [130, 231, 240, 244, 247, 249, 232, 233, 179, 180, 234, 239, 245, 487, 221, 488, 223, 489, 225, 235, 237, 227, 1026, 1027, 1028, 1029, 212, 1029, 1030, 1031, 1032, 214, 1032, 1033, 1034, 232, 216, 1164, 1017, 1018, 1019, 243, 1020, 1021, 1022, 1023, 485, 229, 1024] (by decide +kernel) (by decide +kernel)
theorem at_J26_45 : ∀ w ∈ vx_at0 "java/util/LinkedList$ListItr" 45 "java/util/NoSuchElementException" ["java/lang/RuntimeException", "java/lang/Exception"], w ∈ lw_all ∨ (w ∈ lw_tbl ∧ xGw w = true) := xat_of [130, 231, 240, 244, 247, 249, 232, 233, 179, 180, 234, 239, 245, 487, 221, 488, 223, 489, 225, 235, 237, 227, 1026, 1027, 1028, 1029, 212, 1029, 1030, 1031, 1032, 214, 1032, 1033, 1034, 232, 216, 1178, 1017, 1018, 1019, 243, 1020, 1021, 1022, 1023, 485, 229, 1024] (by decide +kernel) (by decide +kernel)
theorem hdc_27 : ∀ c E T N, c ∈ [27] → (c, E, T, N) ∈ xCls → Cond.castable E "java/util/NoSuchElementException" ∈ lw_tbl := fun c E T N hc h => by rw [xcls_one (D := "java/util/NoSuchElementException") hc h (by decide +kernel)]; exact q1018
theorem hdo_27 : ∀ c E T N, c ∈ [28] → (c, E, T, N) ∈ xCls → (E, "java/util/NoSuchElementException") ∈ xNcs := fun c E T N hc h => by rw [xcls_one (D := "java/lang/IllegalArgumentException") hc h (by decide +kernel)]; exact List.mem_of_getElem? (l := xNcs) (i := 6) rfl
theorem hdc_28 : ∀ c E T N, c ∈ [28] → (c, E, T, N) ∈ xCls → Cond.castable E "java/lang/IllegalArgumentException" ∈ lw_tbl := fun c E T N hc h => by rw [xcls_one (D := "java/lang/IllegalArgumentException") hc h (by decide +kernel)]; exact q211
theorem hdo_28 : ∀ c E T N, c ∈ [27] → (c, E, T, N) ∈ xCls → (E, "java/lang/IllegalArgumentException") ∈ xNcs := fun c E T N hc h => by rw [xcls_one (D := "java/util/NoSuchElementException") hc h (by decide +kernel)]; exact List.mem_of_getElem? (l := xNcs) (i := 7) rfl
theorem hdc_6 : ∀ c E T N, c ∈ [6] → (c, E, T, N) ∈ xCls → Cond.castable E "WreckShares$TextError" ∈ lw_tbl := fun c E T N hc h => by rw [xcls_one (D := "WreckShares$TextError") hc h (by decide +kernel)]; exact q1887
theorem hdo_6 : ∀ c E T N, c ∈ ([] : List Nat) → (c, E, T, N) ∈ xCls → (E, "WreckShares$TextError") ∈ xNcs := fun c E T N hc => absurd hc List.not_mem_nil
