set_option maxRecDepth 100000
/-- the fields of a code: our number, is it a whole number -/
def xFlt : List (Nat × List (Nat × Bool)) := [(1, [(1, false), (2, true), (3, true), (4, false), (5, false), (6, false), (7, false), (8, false)]),
  (2, [(9, true), (10, true), (11, true), (12, false), (13, false), (14, false), (15, false), (16, true), (17, true)]),
  (3, [(18, true), (19, true), (20, true), (21, true), (22, true), (23, false), (24, false), (25, false), (26, true), (27, true), (28, true), (29, true)]),
  (4, [(30, false), (31, false), (32, false), (33, false), (34, false), (35, false), (36, false), (37, false), (38, false), (39, false), (40, false), (41, true), (42, true), (43, true), (44, false), (45, true), (46, false), (47, true), (48, true), (49, true), (50, true), (51, true), (52, true), (53, true), (54, true), (55, true), (56, false), (57, false), (58, true)]),
  (5, [(59, false), (60, true), (61, true), (62, true), (63, true), (64, true), (65, true), (66, false), (67, false)]),
  (6, [(68, false), (69, false), (70, false), (71, false), (72, false), (73, true), (74, true), (75, true)]),
  (7, [(76, true), (77, true)]),
  (8, [(78, true)]),
  (9, [(79, true), (80, true)]),
  (10, [(81, false), (82, false)]),
  (11, [(83, true), (84, false)]),
  (12, [(85, true), (86, false), (87, true)]),
  (13, [(85, true), (88, true), (89, false), (90, false)]),
  (14, [(91, false), (92, false), (93, false)]),
  (15, [(94, false), (95, true), (96, true)]),
  (16, [(97, true), (98, true), (99, true), (100, false)]),
  (17, [(101, false), (102, false), (103, true), (104, true), (105, false)]),
  (18, [(106, false), (107, true), (108, true)]),
  (19, [(109, false), (110, true), (111, true), (112, true)]),
  (20, [(113, false), (114, true), (115, true), (116, true)]),
  (21, [(117, true)]),
  (22, [(118, true)]),
  (23, [(118, true)]),
  (24, [(118, true)]),
  (25, [(118, true)]),
  (40, [(119, true), (120, true)]),
  (41, [(121, true)]),
  (43, [(122, true), (123, true), (124, true)]),
  (44, [(125, true)]),
  (45, [(126, true)]),
  (46, [(127, true)]),
  (48, [(128, true)]),
  (49, [(129, true)])]
def xFll (c : Nat) : List (Nat × List (Nat × Bool)) → List (Nat × Bool)
  | [] => []
  | q :: r => cond (Nat.beq q.1 c) q.2 (xFll c r)
def xFl (c : Nat) : List (Nat × Bool) := xFll c xFlt
def xdist : List (Nat × Bool) → Bool
  | [] => true
  | q :: r => r.all (fun x => !Nat.beq x.1 q.1) && xdist r
theorem xFlt_ok : xFlt.all (fun q => xdist q.2) = true := by decide +kernel
def xCls : List (Nat × String × u_T × Nat) := [(1, RX1, TX1, 8), (2, RX2, TX2, 9), (3, RX3, TX3, 12), (4, RX5, TX5, 29), (5, RX6, TX6, 9), (6, RX7, TX7, 8), (7, RX9, TX9, 2), (8, RX8, TX8, 1), (9, RX10, TX10, 2), (10, RX11, TX11, 2), (11, RX12, TX12, 2), (12, RJ2, TJ2, 3), (13, RJ20, TJ20, 4), (14, RJ21, TJ21, 3), (15, RJ22, TJ22, 3), (16, RJ23, TJ23, 4), (17, RJ26, TJ26, 5), (18, RJ29, TJ29, 3), (19, RJ8, TJ8, 4), (20, RJ9, TJ9, 4), (21, RJ17, TJ17, 1), (27, RJ27, TJ27, 0), (28, RJ6, TJ6, 0)]
def xArs : List (Nat × FieldType) := [(1000, .int), (1001, .byte), (1002, .long), (1003, .object "java/lang/Object"), (1004, .object "WreckShares$Kind"), (1005, .object "WreckShares$Deed"), (1006, .object "java/lang/String")]
def xNcs : List (String × String) := [("WreckShares$ToOwner", "WreckShares$ToCrown"), ("WreckShares$ToOwner", "WreckShares$ToFinder"), ("WreckShares$ToCrown", "WreckShares$ToOwner"), ("WreckShares$ToCrown", "WreckShares$ToFinder"), ("WreckShares$ToFinder", "WreckShares$ToOwner"), ("WreckShares$ToFinder", "WreckShares$ToCrown"), ("java/lang/IllegalArgumentException", "java/util/NoSuchElementException"), ("java/util/NoSuchElementException", "java/lang/IllegalArgumentException")]
def xFws : List (String × MethodName × MethodName) := [("WreckShares$Lying$1", ⟨"java/util/Iterator", "hasNext", "()Z"⟩, ⟨"WreckShares$Lying$1", "hasNext", "()Z"⟩),
  ("WreckShares$Lying$1", ⟨"java/util/Iterator", "next", "()Ljava/lang/Object;"⟩, ⟨"WreckShares$Lying$1", "next", "()Ljava/lang/Object;"⟩),
  ("WreckShares$ToCrown", ⟨"WreckShares$Part", "amount", "()I"⟩, ⟨"WreckShares$ToCrown", "amount", "()I"⟩),
  ("WreckShares$ToFinder", ⟨"WreckShares$Part", "amount", "()I"⟩, ⟨"WreckShares$ToFinder", "amount", "()I"⟩),
  ("WreckShares$ToOwner", ⟨"WreckShares$Part", "amount", "()I"⟩, ⟨"WreckShares$ToOwner", "amount", "()I"⟩),
  ("java/util/ArrayList", ⟨"java/util/List", "add", "(Ljava/lang/Object;)Z"⟩, ⟨"java/util/ArrayList", "add", "(Ljava/lang/Object;)Z"⟩),
  ("java/util/ArrayList", ⟨"java/util/List", "get", "(I)Ljava/lang/Object;"⟩, ⟨"java/util/ArrayList", "get", "(I)Ljava/lang/Object;"⟩),
  ("java/util/ArrayList", ⟨"java/util/List", "iterator", "()Ljava/util/Iterator;"⟩, ⟨"java/util/ArrayList", "iterator", "()Ljava/util/Iterator;"⟩),
  ("java/util/ArrayList", ⟨"java/util/List", "size", "()I"⟩, ⟨"java/util/ArrayList", "size", "()I"⟩),
  ("java/util/ArrayList$Itr", ⟨"java/util/Iterator", "hasNext", "()Z"⟩, ⟨"java/util/ArrayList$Itr", "hasNext", "()Z"⟩),
  ("java/util/ArrayList$Itr", ⟨"java/util/Iterator", "next", "()Ljava/lang/Object;"⟩, ⟨"java/util/ArrayList$Itr", "next", "()Ljava/lang/Object;"⟩),
  ("java/util/LinkedList", ⟨"java/util/List", "add", "(Ljava/lang/Object;)Z"⟩, ⟨"java/util/LinkedList", "add", "(Ljava/lang/Object;)Z"⟩),
  ("java/util/LinkedList", ⟨"java/util/List", "get", "(I)Ljava/lang/Object;"⟩, ⟨"java/util/LinkedList", "get", "(I)Ljava/lang/Object;"⟩),
  ("java/util/LinkedList", ⟨"java/util/List", "iterator", "()Ljava/util/Iterator;"⟩, ⟨"java/util/AbstractSequentialList", "iterator", "()Ljava/util/Iterator;"⟩),
  ("java/util/LinkedList", ⟨"java/util/List", "size", "()I"⟩, ⟨"java/util/LinkedList", "size", "()I"⟩),
  ("java/util/LinkedList$ListItr", ⟨"java/util/Iterator", "hasNext", "()Z"⟩, ⟨"java/util/LinkedList$ListItr", "hasNext", "()Z"⟩),
  ("java/util/LinkedList$ListItr", ⟨"java/util/Iterator", "next", "()Ljava/lang/Object;"⟩, ⟨"java/util/LinkedList$ListItr", "next", "()Ljava/lang/Object;"⟩)]
theorem xFws_ok : ∀ q ∈ xFws, q.2.1.cls ≠ "java/lang/invoke/MethodHandle" ∧ q.2.1.cls ≠ "java/lang/invoke/VarHandle" := by decide +kernel
def xStr : List (String × Nat × String × Nat) := [("WreckShares", 90, "", 31), ("WreckShares", 425, "cbsc", 17), ("WreckShares", 439, "-+=~", 18), ("WreckShares$Kind", 41, "cask", 38), ("WreckShares$Kind", 47, "bale", 39), ("WreckShares$Kind", 49, "spar", 40), ("WreckShares$Kind", 51, "chest", 41), ("WreckShares$Parser", 98, "", 31), ("WreckShares$Parser", 120, "wreck", 36), ("WreckShares$Parser", 162, "mark", 37), ("WreckShares$Parser", 182, "rope", 23), ("WreckShares$Parser", 184, "off", 24), ("WreckShares$Parser", 186, "haul", 25), ("WreckShares$Parser", 188, "claim", 27), ("WreckShares$Parser", 190, "divide", 28), ("WreckShares$Parser", 192, "tick", 30), ("WreckShares$Parser", 194, "pay", 26), ("WreckSharesModel", 39, "cask", 38), ("WreckSharesModel", 41, "bale", 39), ("WreckSharesModel", 43, "spar", 40), ("WreckSharesModel", 45, "chest", 41), ("WreckSharesModel", 67, "rope", 23), ("WreckSharesModel", 69, "off", 24), ("WreckSharesModel", 71, "haul", 25), ("WreckSharesModel", 73, "claim", 27), ("WreckSharesModel", 75, "divide", 28), ("WreckSharesModel", 77, "tick", 30), ("WreckSharesModel", 79, "pay", 26), ("WreckSharesModel", 377, "mark", 37), ("WreckSharesModel", 385, "wreck", 36), ("java/util/ArrayList", 23, "Illegal Capacity: ", 19), ("java/util/Arrays", 48, "fromIndex(", 20), ("java/util/Arrays", 57, ") > toIndex(", 21), ("java/util/Arrays", 59, ")", 22), ("jdk/internal/util/ArraysSupport", 92, "unrecognized basic type: ", 29)]
